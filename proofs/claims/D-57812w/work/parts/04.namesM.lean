/-! HedgeMessagesModel -/
set_option maxRecDepth 100000
def RX6 : String := "HedgeMessagesModel"
def TX6 : u_T := fun k => match k with
  | 0 => ("HedgeMessagesModel", "s", "[I", true)
  | 1 => ("HedgeMessagesModel", "saved", "[I", true)
  | 2 => ("HedgeMessagesModel", "held", "[I", true)
  | 3 => ("HedgeMessagesModel", "aside", "[I", true)
  | 4 => ("HedgeMessagesModel", "past", "[I", true)
  | 5 => ("HedgeMessagesModel", "pastMany", "I", false)
  | 6 => ("HedgeMessagesModel", "thrown", "I", false)
  | 7 => ("HedgeMessagesModel", "isSaved", "Z", false)
  | 8 => ("HedgeMessagesModel", "answer", "I", false)
  | 9 => ("HedgeMessagesModel", "word", "[I", true)
  | 10 => ("HedgeMessagesModel", "buffer", "[I", true)
  | 11 => ("HedgeMessagesModel", "length", "I", false)
  | 12 => ("HedgeMessagesModel", "at", "I", false)
  | 13 => ("HedgeMessagesModel", "begin", "I", false)
  | 14 => ("HedgeMessagesModel", "wordLong", "I", false)
  | 15 => ("HedgeMessagesModel", "error", "I", false)
  | 16 => ("HedgeMessagesModel", "errorAt", "I", false)
  | 17 => ("HedgeMessagesModel", "toldError", "I", false)
  | 18 => ("HedgeMessagesModel", "toldAt", "I", false)
  | 19 => ("HedgeMessagesModel", "told", "[I", true)
  | 20 => ("HedgeMessagesModel", "toldMany", "I", false)
  | 21 => ("HedgeMessagesModel", "output", "[I", true)
  | _ => ("HedgeMessagesModel", "outputLong", "I", false)
def tyX6 : Nat → FieldType := fun k => match k with
  | 0 => .array .int
  | 1 => .array .int
  | 2 => .array .int
  | 3 => .array .int
  | 4 => .array .int
  | 5 => .int
  | 6 => .int
  | 7 => .boolean
  | 8 => .int
  | 9 => .array .int
  | 10 => .array .int
  | 11 => .int
  | 12 => .int
  | 13 => .int
  | 14 => .int
  | 15 => .int
  | 16 => .int
  | 17 => .int
  | 18 => .int
  | 19 => .array .int
  | 20 => .int
  | 21 => .array .int
  | _ => .int
abbrev wsX60 : List Cond := u_ws RX6 TX6 23
set_option maxRecDepth 100000 in
theorem nmX6 : ∀ a, a < 23 → ∀ b, b < 23 → a ≠ b → (TX6 a).2.1 ≠ (TX6 b).2.1 := by decide +kernel
set_option maxRecDepth 100000 in
theorem tyX6_ok : ∀ k, k < 23 → parseFieldDescriptor (TX6 k).2.2.1 = some (tyX6 k) := by decide +kernel
abbrev cX6_init : ByteArray := prog_14_method_1_code
def yX6_init : MethodName := ⟨RX6, "<init>", "()V"⟩
def dkwX6_init_5 : List UInt8 := [167, 255, 234, 42, 43, 182, 0, 43, 181, 0, 53, 42, 182, 0, 55, 61, 177]
abbrev dktX6_init_5 : List UInt8 := dkwX6_init_5 ++ []
def dkwX6_init_4 : List UInt8 := [61, 28, 43, 182, 0, 43, 162, 0, 20, 42, 180, 0, 28, 28, 43, 28, 182, 0, 49, 79, 132, 2, 1]
abbrev dktX6_init_4 : List UInt8 := dkwX6_init_4 ++ dktX6_init_5
def dkwX6_init_3 : List UInt8 := [181, 0, 31, 42, 17, 1, 224, 188, 10, 181, 0, 35, 42, 16, 40, 188, 10, 181, 0, 38, 18, 41, 76, 3]
abbrev dktX6_init_3 : List UInt8 := dkwX6_init_3 ++ dktX6_init_4
def dkwX6_init_2 : List UInt8 := [181, 0, 22, 42, 16, 13, 188, 10, 181, 0, 25, 42, 17, 3, 32, 188, 10, 181, 0, 28, 42, 2]
abbrev dktX6_init_2 : List UInt8 := dkwX6_init_2 ++ dktX6_init_3
def dkwX6_init_1 : List UInt8 := [17, 2, 248, 188, 10, 181, 0, 16, 42, 17, 2, 248, 188, 10, 181, 0, 19, 42, 17, 23, 192, 188, 10]
abbrev dktX6_init_1 : List UInt8 := dkwX6_init_1 ++ dktX6_init_2
def dkwX6_init_0 : List UInt8 := [42, 183, 0, 1, 42, 17, 2, 248, 188, 10, 181, 0, 7, 42, 17, 2, 248, 188, 10, 181, 0, 13, 42]
abbrev dktX6_init_0 : List UInt8 := dkwX6_init_0 ++ dktX6_init_1
theorem dksX6_init_0 : cX6_init.data.toList.drop 0 = dktX6_init_0 := by decide +kernel
theorem dksX6_init_1 : cX6_init.data.toList.drop 23 = dktX6_init_1 := dk_seg dksX6_init_0 23 rfl rfl
theorem dksX6_init_2 : cX6_init.data.toList.drop 46 = dktX6_init_2 := dk_seg dksX6_init_1 23 rfl rfl
theorem dksX6_init_3 : cX6_init.data.toList.drop 68 = dktX6_init_3 := dk_seg dksX6_init_2 22 rfl rfl
theorem dksX6_init_4 : cX6_init.data.toList.drop 92 = dktX6_init_4 := dk_seg dksX6_init_3 24 rfl rfl
theorem dksX6_init_5 : cX6_init.data.toList.drop 115 = dktX6_init_5 := dk_seg dksX6_init_4 23 rfl rfl
theorem dX6_init_0 : decode cX6_init 0 = .ok (.aload_n 0, 1) := dk_42 (dk_at dksX6_init_0 0 rfl rfl)
theorem dX6_init_1 : decode cX6_init 1 = .ok (.invokespecial 1, 3) := dk_183 0 1 (dk_at dksX6_init_0 1 rfl rfl)
theorem dX6_init_4 : decode cX6_init 4 = .ok (.aload_n 0, 1) := dk_42 (dk_at dksX6_init_0 4 rfl rfl)
theorem dX6_init_5 : decode cX6_init 5 = .ok (.sipush 760, 3) := dk_17 2 248 (dk_at dksX6_init_0 5 rfl rfl)
theorem dX6_init_8 : decode cX6_init 8 = .ok (.newarray .int, 2) := dk_188_10 (dk_at dksX6_init_0 8 rfl rfl)
theorem dX6_init_10 : decode cX6_init 10 = .ok (.putfield 7, 3) := dk_181 0 7 (dk_at dksX6_init_0 10 rfl rfl)
theorem dX6_init_13 : decode cX6_init 13 = .ok (.aload_n 0, 1) := dk_42 (dk_at dksX6_init_0 13 rfl rfl)
theorem dX6_init_14 : decode cX6_init 14 = .ok (.sipush 760, 3) := dk_17 2 248 (dk_at dksX6_init_0 14 rfl rfl)
theorem dX6_init_17 : decode cX6_init 17 = .ok (.newarray .int, 2) := dk_188_10 (dk_at dksX6_init_0 17 rfl rfl)
theorem dX6_init_19 : decode cX6_init 19 = .ok (.putfield 13, 3) := dk_181 0 13 (dk_at dksX6_init_0 19 rfl rfl)
theorem dX6_init_22 : decode cX6_init 22 = .ok (.aload_n 0, 1) := dk_42 (dk_at dksX6_init_0 22 rfl rfl)
theorem dX6_init_23 : decode cX6_init 23 = .ok (.sipush 760, 3) := dk_17 2 248 (dk_at dksX6_init_1 0 rfl rfl)
theorem dX6_init_26 : decode cX6_init 26 = .ok (.newarray .int, 2) := dk_188_10 (dk_at dksX6_init_1 3 rfl rfl)
theorem dX6_init_28 : decode cX6_init 28 = .ok (.putfield 16, 3) := dk_181 0 16 (dk_at dksX6_init_1 5 rfl rfl)
theorem dX6_init_31 : decode cX6_init 31 = .ok (.aload_n 0, 1) := dk_42 (dk_at dksX6_init_1 8 rfl rfl)
theorem dX6_init_32 : decode cX6_init 32 = .ok (.sipush 760, 3) := dk_17 2 248 (dk_at dksX6_init_1 9 rfl rfl)
theorem dX6_init_35 : decode cX6_init 35 = .ok (.newarray .int, 2) := dk_188_10 (dk_at dksX6_init_1 12 rfl rfl)
theorem dX6_init_37 : decode cX6_init 37 = .ok (.putfield 19, 3) := dk_181 0 19 (dk_at dksX6_init_1 14 rfl rfl)
theorem dX6_init_40 : decode cX6_init 40 = .ok (.aload_n 0, 1) := dk_42 (dk_at dksX6_init_1 17 rfl rfl)
theorem dX6_init_41 : decode cX6_init 41 = .ok (.sipush 6080, 3) := dk_17 23 192 (dk_at dksX6_init_1 18 rfl rfl)
theorem dX6_init_44 : decode cX6_init 44 = .ok (.newarray .int, 2) := dk_188_10 (dk_at dksX6_init_1 21 rfl rfl)
theorem dX6_init_46 : decode cX6_init 46 = .ok (.putfield 22, 3) := dk_181 0 22 (dk_at dksX6_init_2 0 rfl rfl)
theorem dX6_init_49 : decode cX6_init 49 = .ok (.aload_n 0, 1) := dk_42 (dk_at dksX6_init_2 3 rfl rfl)
theorem dX6_init_50 : decode cX6_init 50 = .ok (.bipush 13, 2) := dk_16 13 (dk_at dksX6_init_2 4 rfl rfl)
theorem dX6_init_52 : decode cX6_init 52 = .ok (.newarray .int, 2) := dk_188_10 (dk_at dksX6_init_2 6 rfl rfl)
theorem dX6_init_54 : decode cX6_init 54 = .ok (.putfield 25, 3) := dk_181 0 25 (dk_at dksX6_init_2 8 rfl rfl)
theorem dX6_init_57 : decode cX6_init 57 = .ok (.aload_n 0, 1) := dk_42 (dk_at dksX6_init_2 11 rfl rfl)
theorem dX6_init_58 : decode cX6_init 58 = .ok (.sipush 800, 3) := dk_17 3 32 (dk_at dksX6_init_2 12 rfl rfl)
theorem dX6_init_61 : decode cX6_init 61 = .ok (.newarray .int, 2) := dk_188_10 (dk_at dksX6_init_2 15 rfl rfl)
theorem dX6_init_63 : decode cX6_init 63 = .ok (.putfield 28, 3) := dk_181 0 28 (dk_at dksX6_init_2 17 rfl rfl)
theorem dX6_init_66 : decode cX6_init 66 = .ok (.aload_n 0, 1) := dk_42 (dk_at dksX6_init_2 20 rfl rfl)
theorem dX6_init_67 : decode cX6_init 67 = .ok (.iconst (-1), 1) := dk_2 (dk_at dksX6_init_2 21 rfl rfl)
theorem dX6_init_68 : decode cX6_init 68 = .ok (.putfield 31, 3) := dk_181 0 31 (dk_at dksX6_init_3 0 rfl rfl)
theorem dX6_init_71 : decode cX6_init 71 = .ok (.aload_n 0, 1) := dk_42 (dk_at dksX6_init_3 3 rfl rfl)
theorem dX6_init_72 : decode cX6_init 72 = .ok (.sipush 480, 3) := dk_17 1 224 (dk_at dksX6_init_3 4 rfl rfl)
theorem dX6_init_75 : decode cX6_init 75 = .ok (.newarray .int, 2) := dk_188_10 (dk_at dksX6_init_3 7 rfl rfl)
theorem dX6_init_77 : decode cX6_init 77 = .ok (.putfield 35, 3) := dk_181 0 35 (dk_at dksX6_init_3 9 rfl rfl)
theorem dX6_init_80 : decode cX6_init 80 = .ok (.aload_n 0, 1) := dk_42 (dk_at dksX6_init_3 12 rfl rfl)
theorem dX6_init_81 : decode cX6_init 81 = .ok (.bipush 40, 2) := dk_16 40 (dk_at dksX6_init_3 13 rfl rfl)
theorem dX6_init_83 : decode cX6_init 83 = .ok (.newarray .int, 2) := dk_188_10 (dk_at dksX6_init_3 15 rfl rfl)
theorem dX6_init_85 : decode cX6_init 85 = .ok (.putfield 38, 3) := dk_181 0 38 (dk_at dksX6_init_3 17 rfl rfl)
theorem dX6_init_88 : decode cX6_init 88 = .ok (.ldc 41, 2) := dk_18 41 (dk_at dksX6_init_3 20 rfl rfl)
theorem dX6_init_90 : decode cX6_init 90 = .ok (.astore_n 1, 1) := dk_76 (dk_at dksX6_init_3 22 rfl rfl)
theorem dX6_init_91 : decode cX6_init 91 = .ok (.iconst 0, 1) := dk_3 (dk_at dksX6_init_3 23 rfl rfl)
theorem dX6_init_92 : decode cX6_init 92 = .ok (.istore_n 2, 1) := dk_61 (dk_at dksX6_init_4 0 rfl rfl)
theorem dX6_init_93 : decode cX6_init 93 = .ok (.iload_n 2, 1) := dk_28 (dk_at dksX6_init_4 1 rfl rfl)
theorem dX6_init_94 : decode cX6_init 94 = .ok (.aload_n 1, 1) := dk_43 (dk_at dksX6_init_4 2 rfl rfl)
theorem dX6_init_95 : decode cX6_init 95 = .ok (.invokevirtual 43, 3) := dk_182 0 43 (dk_at dksX6_init_4 3 rfl rfl)
theorem dX6_init_98 : decode cX6_init 98 = .ok (.if_icmp .ge 20, 3) := dk_162 0 20 (dk_at dksX6_init_4 6 rfl rfl)
theorem dX6_init_101 : decode cX6_init 101 = .ok (.aload_n 0, 1) := dk_42 (dk_at dksX6_init_4 9 rfl rfl)
theorem dX6_init_102 : decode cX6_init 102 = .ok (.getfield 28, 3) := dk_180 0 28 (dk_at dksX6_init_4 10 rfl rfl)
theorem dX6_init_105 : decode cX6_init 105 = .ok (.iload_n 2, 1) := dk_28 (dk_at dksX6_init_4 13 rfl rfl)
theorem dX6_init_106 : decode cX6_init 106 = .ok (.aload_n 1, 1) := dk_43 (dk_at dksX6_init_4 14 rfl rfl)
theorem dX6_init_107 : decode cX6_init 107 = .ok (.iload_n 2, 1) := dk_28 (dk_at dksX6_init_4 15 rfl rfl)
theorem dX6_init_108 : decode cX6_init 108 = .ok (.invokevirtual 49, 3) := dk_182 0 49 (dk_at dksX6_init_4 16 rfl rfl)
theorem dX6_init_111 : decode cX6_init 111 = .ok (.iastore, 1) := dk_79 (dk_at dksX6_init_4 19 rfl rfl)
theorem dX6_init_112 : decode cX6_init 112 = .ok (.iinc 2 1, 3) := dk_132 2 1 (dk_at dksX6_init_4 20 rfl rfl)
theorem dX6_init_115 : decode cX6_init 115 = .ok (.goto (-22), 3) := dk_167 255 234 (dk_at dksX6_init_5 0 rfl rfl)
theorem dX6_init_118 : decode cX6_init 118 = .ok (.aload_n 0, 1) := dk_42 (dk_at dksX6_init_5 3 rfl rfl)
theorem dX6_init_119 : decode cX6_init 119 = .ok (.aload_n 1, 1) := dk_43 (dk_at dksX6_init_5 4 rfl rfl)
theorem dX6_init_120 : decode cX6_init 120 = .ok (.invokevirtual 43, 3) := dk_182 0 43 (dk_at dksX6_init_5 5 rfl rfl)
theorem dX6_init_123 : decode cX6_init 123 = .ok (.putfield 53, 3) := dk_181 0 53 (dk_at dksX6_init_5 8 rfl rfl)
theorem dX6_init_126 : decode cX6_init 126 = .ok (.aload_n 0, 1) := dk_42 (dk_at dksX6_init_5 11 rfl rfl)
theorem dX6_init_127 : decode cX6_init 127 = .ok (.invokevirtual 55, 3) := dk_182 0 55 (dk_at dksX6_init_5 12 rfl rfl)
theorem dX6_init_130 : decode cX6_init 130 = .ok (.istore_n 2, 1) := dk_61 (dk_at dksX6_init_5 15 rfl rfl)
theorem dX6_init_131 : decode cX6_init 131 = .ok (.return_, 1) := dk_177 (dk_at dksX6_init_5 16 rfl rfl)
abbrev cX6_load : ByteArray := prog_14_method_88_code
def yX6_load : MethodName := ⟨RX6, "load", "()I"⟩
def dkwX6_load_4 : List UInt8 := [180, 0, 7, 16, 7, 42, 180, 0, 7, 4, 46, 79, 42, 3, 181, 1, 65, 42, 180, 0, 7, 3, 46, 172]
abbrev dktX6_load_4 : List UInt8 := dkwX6_load_4 ++ []
def dkwX6_load_3 : List UInt8 := [182, 0, 221, 154, 0, 18, 42, 180, 0, 16, 3, 42, 180, 0, 7, 3, 184, 0, 61, 3, 172, 42]
abbrev dktX6_load_3 : List UInt8 := dkwX6_load_3 ++ dktX6_load_4
def dkwX6_load_2 : List UInt8 := [154, 0, 18, 42, 182, 0, 250, 2, 159, 0, 10, 42, 182, 1, 58, 167, 255, 237, 42, 42, 182, 1, 61]
abbrev dktX6_load_2 : List UInt8 := dkwX6_load_2 ++ dktX6_load_3
def dkwX6_load_1 : List UInt8 := [180, 0, 7, 27, 3, 79, 132, 1, 1, 167, 255, 239, 42, 182, 1, 52, 42, 182, 1, 55, 42, 180, 0, 244]
abbrev dktX6_load_1 : List UInt8 := dkwX6_load_1 ++ dktX6_load_2
def dkwX6_load_0 : List UInt8 := [42, 180, 0, 7, 3, 42, 180, 0, 16, 3, 184, 0, 61, 3, 60, 27, 17, 2, 248, 162, 0, 16, 42]
abbrev dktX6_load_0 : List UInt8 := dkwX6_load_0 ++ dktX6_load_1
theorem dksX6_load_0 : cX6_load.data.toList.drop 0 = dktX6_load_0 := by decide +kernel
theorem dksX6_load_1 : cX6_load.data.toList.drop 23 = dktX6_load_1 := dk_seg dksX6_load_0 23 rfl rfl
theorem dksX6_load_2 : cX6_load.data.toList.drop 47 = dktX6_load_2 := dk_seg dksX6_load_1 24 rfl rfl
theorem dksX6_load_3 : cX6_load.data.toList.drop 70 = dktX6_load_3 := dk_seg dksX6_load_2 23 rfl rfl
theorem dksX6_load_4 : cX6_load.data.toList.drop 92 = dktX6_load_4 := dk_seg dksX6_load_3 22 rfl rfl
theorem dX6_load_0 : decode cX6_load 0 = .ok (.aload_n 0, 1) := dk_42 (dk_at dksX6_load_0 0 rfl rfl)
theorem dX6_load_1 : decode cX6_load 1 = .ok (.getfield 7, 3) := dk_180 0 7 (dk_at dksX6_load_0 1 rfl rfl)
theorem dX6_load_4 : decode cX6_load 4 = .ok (.iconst 0, 1) := dk_3 (dk_at dksX6_load_0 4 rfl rfl)
theorem dX6_load_5 : decode cX6_load 5 = .ok (.aload_n 0, 1) := dk_42 (dk_at dksX6_load_0 5 rfl rfl)
theorem dX6_load_6 : decode cX6_load 6 = .ok (.getfield 16, 3) := dk_180 0 16 (dk_at dksX6_load_0 6 rfl rfl)
theorem dX6_load_9 : decode cX6_load 9 = .ok (.iconst 0, 1) := dk_3 (dk_at dksX6_load_0 9 rfl rfl)
theorem dX6_load_10 : decode cX6_load 10 = .ok (.invokestatic 61, 3) := dk_184 0 61 (dk_at dksX6_load_0 10 rfl rfl)
theorem dX6_load_13 : decode cX6_load 13 = .ok (.iconst 0, 1) := dk_3 (dk_at dksX6_load_0 13 rfl rfl)
theorem dX6_load_14 : decode cX6_load 14 = .ok (.istore_n 1, 1) := dk_60 (dk_at dksX6_load_0 14 rfl rfl)
theorem dX6_load_15 : decode cX6_load 15 = .ok (.iload_n 1, 1) := dk_27 (dk_at dksX6_load_0 15 rfl rfl)
theorem dX6_load_16 : decode cX6_load 16 = .ok (.sipush 760, 3) := dk_17 2 248 (dk_at dksX6_load_0 16 rfl rfl)
theorem dX6_load_19 : decode cX6_load 19 = .ok (.if_icmp .ge 16, 3) := dk_162 0 16 (dk_at dksX6_load_0 19 rfl rfl)
theorem dX6_load_22 : decode cX6_load 22 = .ok (.aload_n 0, 1) := dk_42 (dk_at dksX6_load_0 22 rfl rfl)
theorem dX6_load_23 : decode cX6_load 23 = .ok (.getfield 7, 3) := dk_180 0 7 (dk_at dksX6_load_1 0 rfl rfl)
theorem dX6_load_26 : decode cX6_load 26 = .ok (.iload_n 1, 1) := dk_27 (dk_at dksX6_load_1 3 rfl rfl)
theorem dX6_load_27 : decode cX6_load 27 = .ok (.iconst 0, 1) := dk_3 (dk_at dksX6_load_1 4 rfl rfl)
theorem dX6_load_28 : decode cX6_load 28 = .ok (.iastore, 1) := dk_79 (dk_at dksX6_load_1 5 rfl rfl)
theorem dX6_load_29 : decode cX6_load 29 = .ok (.iinc 1 1, 3) := dk_132 1 1 (dk_at dksX6_load_1 6 rfl rfl)
theorem dX6_load_32 : decode cX6_load 32 = .ok (.goto (-17), 3) := dk_167 255 239 (dk_at dksX6_load_1 9 rfl rfl)
theorem dX6_load_35 : decode cX6_load 35 = .ok (.aload_n 0, 1) := dk_42 (dk_at dksX6_load_1 12 rfl rfl)
theorem dX6_load_36 : decode cX6_load 36 = .ok (.invokevirtual 308, 3) := dk_182 1 52 (dk_at dksX6_load_1 13 rfl rfl)
theorem dX6_load_39 : decode cX6_load 39 = .ok (.aload_n 0, 1) := dk_42 (dk_at dksX6_load_1 16 rfl rfl)
theorem dX6_load_40 : decode cX6_load 40 = .ok (.invokevirtual 311, 3) := dk_182 1 55 (dk_at dksX6_load_1 17 rfl rfl)
theorem dX6_load_43 : decode cX6_load 43 = .ok (.aload_n 0, 1) := dk_42 (dk_at dksX6_load_1 20 rfl rfl)
theorem dX6_load_44 : decode cX6_load 44 = .ok (.getfield 244, 3) := dk_180 0 244 (dk_at dksX6_load_1 21 rfl rfl)
theorem dX6_load_47 : decode cX6_load 47 = .ok (.ifCond .ne 18, 3) := dk_154 0 18 (dk_at dksX6_load_2 0 rfl rfl)
theorem dX6_load_50 : decode cX6_load 50 = .ok (.aload_n 0, 1) := dk_42 (dk_at dksX6_load_2 3 rfl rfl)
theorem dX6_load_51 : decode cX6_load 51 = .ok (.invokevirtual 250, 3) := dk_182 0 250 (dk_at dksX6_load_2 4 rfl rfl)
theorem dX6_load_54 : decode cX6_load 54 = .ok (.iconst (-1), 1) := dk_2 (dk_at dksX6_load_2 7 rfl rfl)
theorem dX6_load_55 : decode cX6_load 55 = .ok (.if_icmp .eq 10, 3) := dk_159 0 10 (dk_at dksX6_load_2 8 rfl rfl)
theorem dX6_load_58 : decode cX6_load 58 = .ok (.aload_n 0, 1) := dk_42 (dk_at dksX6_load_2 11 rfl rfl)
theorem dX6_load_59 : decode cX6_load 59 = .ok (.invokevirtual 314, 3) := dk_182 1 58 (dk_at dksX6_load_2 12 rfl rfl)
theorem dX6_load_62 : decode cX6_load 62 = .ok (.goto (-19), 3) := dk_167 255 237 (dk_at dksX6_load_2 15 rfl rfl)
theorem dX6_load_65 : decode cX6_load 65 = .ok (.aload_n 0, 1) := dk_42 (dk_at dksX6_load_2 18 rfl rfl)
theorem dX6_load_66 : decode cX6_load 66 = .ok (.aload_n 0, 1) := dk_42 (dk_at dksX6_load_2 19 rfl rfl)
theorem dX6_load_67 : decode cX6_load 67 = .ok (.invokevirtual 317, 3) := dk_182 1 61 (dk_at dksX6_load_2 20 rfl rfl)
theorem dX6_load_70 : decode cX6_load 70 = .ok (.invokevirtual 221, 3) := dk_182 0 221 (dk_at dksX6_load_3 0 rfl rfl)
theorem dX6_load_73 : decode cX6_load 73 = .ok (.ifCond .ne 18, 3) := dk_154 0 18 (dk_at dksX6_load_3 3 rfl rfl)
theorem dX6_load_76 : decode cX6_load 76 = .ok (.aload_n 0, 1) := dk_42 (dk_at dksX6_load_3 6 rfl rfl)
theorem dX6_load_77 : decode cX6_load 77 = .ok (.getfield 16, 3) := dk_180 0 16 (dk_at dksX6_load_3 7 rfl rfl)
theorem dX6_load_80 : decode cX6_load 80 = .ok (.iconst 0, 1) := dk_3 (dk_at dksX6_load_3 10 rfl rfl)
theorem dX6_load_81 : decode cX6_load 81 = .ok (.aload_n 0, 1) := dk_42 (dk_at dksX6_load_3 11 rfl rfl)
theorem dX6_load_82 : decode cX6_load 82 = .ok (.getfield 7, 3) := dk_180 0 7 (dk_at dksX6_load_3 12 rfl rfl)
theorem dX6_load_85 : decode cX6_load 85 = .ok (.iconst 0, 1) := dk_3 (dk_at dksX6_load_3 15 rfl rfl)
theorem dX6_load_86 : decode cX6_load 86 = .ok (.invokestatic 61, 3) := dk_184 0 61 (dk_at dksX6_load_3 16 rfl rfl)
theorem dX6_load_89 : decode cX6_load 89 = .ok (.iconst 0, 1) := dk_3 (dk_at dksX6_load_3 19 rfl rfl)
theorem dX6_load_90 : decode cX6_load 90 = .ok (.ireturn, 1) := dk_172 (dk_at dksX6_load_3 20 rfl rfl)
theorem dX6_load_91 : decode cX6_load 91 = .ok (.aload_n 0, 1) := dk_42 (dk_at dksX6_load_3 21 rfl rfl)
theorem dX6_load_92 : decode cX6_load 92 = .ok (.getfield 7, 3) := dk_180 0 7 (dk_at dksX6_load_4 0 rfl rfl)
theorem dX6_load_95 : decode cX6_load 95 = .ok (.bipush 7, 2) := dk_16 7 (dk_at dksX6_load_4 3 rfl rfl)
theorem dX6_load_97 : decode cX6_load 97 = .ok (.aload_n 0, 1) := dk_42 (dk_at dksX6_load_4 5 rfl rfl)
theorem dX6_load_98 : decode cX6_load 98 = .ok (.getfield 7, 3) := dk_180 0 7 (dk_at dksX6_load_4 6 rfl rfl)
theorem dX6_load_101 : decode cX6_load 101 = .ok (.iconst 1, 1) := dk_4 (dk_at dksX6_load_4 9 rfl rfl)
theorem dX6_load_102 : decode cX6_load 102 = .ok (.iaload, 1) := dk_46 (dk_at dksX6_load_4 10 rfl rfl)
theorem dX6_load_103 : decode cX6_load 103 = .ok (.iastore, 1) := dk_79 (dk_at dksX6_load_4 11 rfl rfl)
theorem dX6_load_104 : decode cX6_load 104 = .ok (.aload_n 0, 1) := dk_42 (dk_at dksX6_load_4 12 rfl rfl)
theorem dX6_load_105 : decode cX6_load 105 = .ok (.iconst 0, 1) := dk_3 (dk_at dksX6_load_4 13 rfl rfl)
theorem dX6_load_106 : decode cX6_load 106 = .ok (.putfield 321, 3) := dk_181 1 65 (dk_at dksX6_load_4 14 rfl rfl)
theorem dX6_load_109 : decode cX6_load 109 = .ok (.aload_n 0, 1) := dk_42 (dk_at dksX6_load_4 17 rfl rfl)
theorem dX6_load_110 : decode cX6_load 110 = .ok (.getfield 7, 3) := dk_180 0 7 (dk_at dksX6_load_4 18 rfl rfl)
theorem dX6_load_113 : decode cX6_load 113 = .ok (.iconst 0, 1) := dk_3 (dk_at dksX6_load_4 21 rfl rfl)
theorem dX6_load_114 : decode cX6_load 114 = .ok (.iaload, 1) := dk_46 (dk_at dksX6_load_4 22 rfl rfl)
theorem dX6_load_115 : decode cX6_load 115 = .ok (.ireturn, 1) := dk_172 (dk_at dksX6_load_4 23 rfl rfl)
abbrev cX6_copies : ByteArray := prog_14_method_8_code
def yX6_copies : MethodName := ⟨RX6, "copies", "([II[II)V"⟩
def dkwX6_copies_1 : List UInt8 := [132, 4, 1, 167, 255, 233, 177]
abbrev dktX6_copies_1 : List UInt8 := dkwX6_copies_1 ++ []
def dkwX6_copies_0 : List UInt8 := [3, 54, 4, 21, 4, 17, 2, 248, 162, 0, 21, 44, 29, 21, 4, 96, 42, 27, 21, 4, 96, 46, 79]
abbrev dktX6_copies_0 : List UInt8 := dkwX6_copies_0 ++ dktX6_copies_1
theorem dksX6_copies_0 : cX6_copies.data.toList.drop 0 = dktX6_copies_0 := by decide +kernel
theorem dksX6_copies_1 : cX6_copies.data.toList.drop 23 = dktX6_copies_1 := dk_seg dksX6_copies_0 23 rfl rfl
theorem dX6_copies_0 : decode cX6_copies 0 = .ok (.iconst 0, 1) := dk_3 (dk_at dksX6_copies_0 0 rfl rfl)
theorem dX6_copies_1 : decode cX6_copies 1 = .ok (.istore 4, 2) := dk_54 4 (dk_at dksX6_copies_0 1 rfl rfl)
theorem dX6_copies_3 : decode cX6_copies 3 = .ok (.iload 4, 2) := dk_21 4 (dk_at dksX6_copies_0 3 rfl rfl)
theorem dX6_copies_5 : decode cX6_copies 5 = .ok (.sipush 760, 3) := dk_17 2 248 (dk_at dksX6_copies_0 5 rfl rfl)
theorem dX6_copies_8 : decode cX6_copies 8 = .ok (.if_icmp .ge 21, 3) := dk_162 0 21 (dk_at dksX6_copies_0 8 rfl rfl)
theorem dX6_copies_11 : decode cX6_copies 11 = .ok (.aload_n 2, 1) := dk_44 (dk_at dksX6_copies_0 11 rfl rfl)
theorem dX6_copies_12 : decode cX6_copies 12 = .ok (.iload_n 3, 1) := dk_29 (dk_at dksX6_copies_0 12 rfl rfl)
theorem dX6_copies_13 : decode cX6_copies 13 = .ok (.iload 4, 2) := dk_21 4 (dk_at dksX6_copies_0 13 rfl rfl)
theorem dX6_copies_15 : decode cX6_copies 15 = .ok (.iadd, 1) := dk_96 (dk_at dksX6_copies_0 15 rfl rfl)
theorem dX6_copies_16 : decode cX6_copies 16 = .ok (.aload_n 0, 1) := dk_42 (dk_at dksX6_copies_0 16 rfl rfl)
theorem dX6_copies_17 : decode cX6_copies 17 = .ok (.iload_n 1, 1) := dk_27 (dk_at dksX6_copies_0 17 rfl rfl)
theorem dX6_copies_18 : decode cX6_copies 18 = .ok (.iload 4, 2) := dk_21 4 (dk_at dksX6_copies_0 18 rfl rfl)
theorem dX6_copies_20 : decode cX6_copies 20 = .ok (.iadd, 1) := dk_96 (dk_at dksX6_copies_0 20 rfl rfl)
theorem dX6_copies_21 : decode cX6_copies 21 = .ok (.iaload, 1) := dk_46 (dk_at dksX6_copies_0 21 rfl rfl)
theorem dX6_copies_22 : decode cX6_copies 22 = .ok (.iastore, 1) := dk_79 (dk_at dksX6_copies_0 22 rfl rfl)
theorem dX6_copies_23 : decode cX6_copies 23 = .ok (.iinc 4 1, 3) := dk_132 4 1 (dk_at dksX6_copies_1 0 rfl rfl)
theorem dX6_copies_26 : decode cX6_copies 26 = .ok (.goto (-23), 3) := dk_167 255 233 (dk_at dksX6_copies_1 3 rfl rfl)
theorem dX6_copies_29 : decode cX6_copies 29 = .ok (.return_, 1) := dk_177 (dk_at dksX6_copies_1 6 rfl rfl)
abbrev cX6_startsText : ByteArray := prog_14_method_79_code
def yX6_startsText : MethodName := ⟨RX6, "startsText", "()V"⟩
def dkwX6_startsText_0 : List UInt8 := [42, 3, 181, 0, 228, 42, 3, 181, 0, 234, 42, 3, 181, 0, 244, 42, 2, 181, 0, 247, 177]
abbrev dktX6_startsText_0 : List UInt8 := dkwX6_startsText_0 ++ []
theorem dksX6_startsText_0 : cX6_startsText.data.toList.drop 0 = dktX6_startsText_0 := by decide +kernel
theorem dX6_startsText_0 : decode cX6_startsText 0 = .ok (.aload_n 0, 1) := dk_42 (dk_at dksX6_startsText_0 0 rfl rfl)
theorem dX6_startsText_1 : decode cX6_startsText 1 = .ok (.iconst 0, 1) := dk_3 (dk_at dksX6_startsText_0 1 rfl rfl)
theorem dX6_startsText_2 : decode cX6_startsText 2 = .ok (.putfield 228, 3) := dk_181 0 228 (dk_at dksX6_startsText_0 2 rfl rfl)
theorem dX6_startsText_5 : decode cX6_startsText 5 = .ok (.aload_n 0, 1) := dk_42 (dk_at dksX6_startsText_0 5 rfl rfl)
theorem dX6_startsText_6 : decode cX6_startsText 6 = .ok (.iconst 0, 1) := dk_3 (dk_at dksX6_startsText_0 6 rfl rfl)
theorem dX6_startsText_7 : decode cX6_startsText 7 = .ok (.putfield 234, 3) := dk_181 0 234 (dk_at dksX6_startsText_0 7 rfl rfl)
theorem dX6_startsText_10 : decode cX6_startsText 10 = .ok (.aload_n 0, 1) := dk_42 (dk_at dksX6_startsText_0 10 rfl rfl)
theorem dX6_startsText_11 : decode cX6_startsText 11 = .ok (.iconst 0, 1) := dk_3 (dk_at dksX6_startsText_0 11 rfl rfl)
theorem dX6_startsText_12 : decode cX6_startsText 12 = .ok (.putfield 244, 3) := dk_181 0 244 (dk_at dksX6_startsText_0 12 rfl rfl)
theorem dX6_startsText_15 : decode cX6_startsText 15 = .ok (.aload_n 0, 1) := dk_42 (dk_at dksX6_startsText_0 15 rfl rfl)
theorem dX6_startsText_16 : decode cX6_startsText 16 = .ok (.iconst (-1), 1) := dk_2 (dk_at dksX6_startsText_0 16 rfl rfl)
theorem dX6_startsText_17 : decode cX6_startsText 17 = .ok (.putfield 247, 3) := dk_181 0 247 (dk_at dksX6_startsText_0 17 rfl rfl)
theorem dX6_startsText_20 : decode cX6_startsText 20 = .ok (.return_, 1) := dk_177 (dk_at dksX6_startsText_0 20 rfl rfl)
abbrev cX6_hedgeLine : ByteArray := prog_14_method_83_code
def yX6_hedgeLine : MethodName := ⟨RX6, "hedgeLine", "()V"⟩
def dkwX6_hedgeLine_4 : List UInt8 := [42, 4, 16, 40, 182, 1, 22, 79, 42, 182, 1, 25, 177]
abbrev dktX6_hedgeLine_4 : List UInt8 := dkwX6_hedgeLine_4 ++ []
def dkwX6_hedgeLine_3 : List UInt8 := [16, 99, 182, 1, 22, 79, 42, 180, 0, 7, 7, 42, 4, 16, 30, 182, 1, 22, 79, 42, 180, 0, 7, 8]
abbrev dktX6_hedgeLine_3 : List UInt8 := dkwX6_hedgeLine_3 ++ dktX6_hedgeLine_4
def dkwX6_hedgeLine_2 : List UInt8 := [182, 1, 22, 79, 42, 180, 0, 7, 5, 42, 3, 16, 9, 182, 1, 22, 79, 42, 180, 0, 7, 6, 42, 4]
abbrev dktX6_hedgeLine_2 : List UInt8 := dkwX6_hedgeLine_2 ++ dktX6_hedgeLine_3
def dkwX6_hedgeLine_1 : List UInt8 := [42, 180, 0, 7, 3, 42, 7, 16, 40, 182, 1, 22, 79, 42, 180, 0, 7, 4, 42, 4, 16, 12]
abbrev dktX6_hedgeLine_1 : List UInt8 := dkwX6_hedgeLine_1 ++ dktX6_hedgeLine_2
def dkwX6_hedgeLine_0 : List UInt8 := [42, 42, 19, 1, 16, 182, 1, 18, 4, 182, 0, 253, 42, 180, 0, 244, 153, 0, 4, 177, 42, 182, 1, 5]
abbrev dktX6_hedgeLine_0 : List UInt8 := dkwX6_hedgeLine_0 ++ dktX6_hedgeLine_1
theorem dksX6_hedgeLine_0 : cX6_hedgeLine.data.toList.drop 0 = dktX6_hedgeLine_0 := by decide +kernel
theorem dksX6_hedgeLine_1 : cX6_hedgeLine.data.toList.drop 24 = dktX6_hedgeLine_1 := dk_seg dksX6_hedgeLine_0 24 rfl rfl
theorem dksX6_hedgeLine_2 : cX6_hedgeLine.data.toList.drop 46 = dktX6_hedgeLine_2 := dk_seg dksX6_hedgeLine_1 22 rfl rfl
theorem dksX6_hedgeLine_3 : cX6_hedgeLine.data.toList.drop 70 = dktX6_hedgeLine_3 := dk_seg dksX6_hedgeLine_2 24 rfl rfl
theorem dksX6_hedgeLine_4 : cX6_hedgeLine.data.toList.drop 94 = dktX6_hedgeLine_4 := dk_seg dksX6_hedgeLine_3 24 rfl rfl
theorem dX6_hedgeLine_0 : decode cX6_hedgeLine 0 = .ok (.aload_n 0, 1) := dk_42 (dk_at dksX6_hedgeLine_0 0 rfl rfl)
theorem dX6_hedgeLine_1 : decode cX6_hedgeLine 1 = .ok (.aload_n 0, 1) := dk_42 (dk_at dksX6_hedgeLine_0 1 rfl rfl)
theorem dX6_hedgeLine_2 : decode cX6_hedgeLine 2 = .ok (.ldc_w 272, 3) := dk_19 1 16 (dk_at dksX6_hedgeLine_0 2 rfl rfl)
theorem dX6_hedgeLine_5 : decode cX6_hedgeLine 5 = .ok (.invokevirtual 274, 3) := dk_182 1 18 (dk_at dksX6_hedgeLine_0 5 rfl rfl)
theorem dX6_hedgeLine_8 : decode cX6_hedgeLine 8 = .ok (.iconst 1, 1) := dk_4 (dk_at dksX6_hedgeLine_0 8 rfl rfl)
theorem dX6_hedgeLine_9 : decode cX6_hedgeLine 9 = .ok (.invokevirtual 253, 3) := dk_182 0 253 (dk_at dksX6_hedgeLine_0 9 rfl rfl)
theorem dX6_hedgeLine_12 : decode cX6_hedgeLine 12 = .ok (.aload_n 0, 1) := dk_42 (dk_at dksX6_hedgeLine_0 12 rfl rfl)
theorem dX6_hedgeLine_13 : decode cX6_hedgeLine 13 = .ok (.getfield 244, 3) := dk_180 0 244 (dk_at dksX6_hedgeLine_0 13 rfl rfl)
theorem dX6_hedgeLine_16 : decode cX6_hedgeLine 16 = .ok (.ifCond .eq 4, 3) := dk_153 0 4 (dk_at dksX6_hedgeLine_0 16 rfl rfl)
theorem dX6_hedgeLine_19 : decode cX6_hedgeLine 19 = .ok (.return_, 1) := dk_177 (dk_at dksX6_hedgeLine_0 19 rfl rfl)
theorem dX6_hedgeLine_20 : decode cX6_hedgeLine 20 = .ok (.aload_n 0, 1) := dk_42 (dk_at dksX6_hedgeLine_0 20 rfl rfl)
theorem dX6_hedgeLine_21 : decode cX6_hedgeLine 21 = .ok (.invokevirtual 261, 3) := dk_182 1 5 (dk_at dksX6_hedgeLine_0 21 rfl rfl)
theorem dX6_hedgeLine_24 : decode cX6_hedgeLine 24 = .ok (.aload_n 0, 1) := dk_42 (dk_at dksX6_hedgeLine_1 0 rfl rfl)
theorem dX6_hedgeLine_25 : decode cX6_hedgeLine 25 = .ok (.getfield 7, 3) := dk_180 0 7 (dk_at dksX6_hedgeLine_1 1 rfl rfl)
theorem dX6_hedgeLine_28 : decode cX6_hedgeLine 28 = .ok (.iconst 0, 1) := dk_3 (dk_at dksX6_hedgeLine_1 4 rfl rfl)
theorem dX6_hedgeLine_29 : decode cX6_hedgeLine 29 = .ok (.aload_n 0, 1) := dk_42 (dk_at dksX6_hedgeLine_1 5 rfl rfl)
theorem dX6_hedgeLine_30 : decode cX6_hedgeLine 30 = .ok (.iconst 4, 1) := dk_7 (dk_at dksX6_hedgeLine_1 6 rfl rfl)
theorem dX6_hedgeLine_31 : decode cX6_hedgeLine 31 = .ok (.bipush 40, 2) := dk_16 40 (dk_at dksX6_hedgeLine_1 7 rfl rfl)
theorem dX6_hedgeLine_33 : decode cX6_hedgeLine 33 = .ok (.invokevirtual 278, 3) := dk_182 1 22 (dk_at dksX6_hedgeLine_1 9 rfl rfl)
theorem dX6_hedgeLine_36 : decode cX6_hedgeLine 36 = .ok (.iastore, 1) := dk_79 (dk_at dksX6_hedgeLine_1 12 rfl rfl)
theorem dX6_hedgeLine_37 : decode cX6_hedgeLine 37 = .ok (.aload_n 0, 1) := dk_42 (dk_at dksX6_hedgeLine_1 13 rfl rfl)
theorem dX6_hedgeLine_38 : decode cX6_hedgeLine 38 = .ok (.getfield 7, 3) := dk_180 0 7 (dk_at dksX6_hedgeLine_1 14 rfl rfl)
theorem dX6_hedgeLine_41 : decode cX6_hedgeLine 41 = .ok (.iconst 1, 1) := dk_4 (dk_at dksX6_hedgeLine_1 17 rfl rfl)
theorem dX6_hedgeLine_42 : decode cX6_hedgeLine 42 = .ok (.aload_n 0, 1) := dk_42 (dk_at dksX6_hedgeLine_1 18 rfl rfl)
theorem dX6_hedgeLine_43 : decode cX6_hedgeLine 43 = .ok (.iconst 1, 1) := dk_4 (dk_at dksX6_hedgeLine_1 19 rfl rfl)
theorem dX6_hedgeLine_44 : decode cX6_hedgeLine 44 = .ok (.bipush 12, 2) := dk_16 12 (dk_at dksX6_hedgeLine_1 20 rfl rfl)
theorem dX6_hedgeLine_46 : decode cX6_hedgeLine 46 = .ok (.invokevirtual 278, 3) := dk_182 1 22 (dk_at dksX6_hedgeLine_2 0 rfl rfl)
theorem dX6_hedgeLine_49 : decode cX6_hedgeLine 49 = .ok (.iastore, 1) := dk_79 (dk_at dksX6_hedgeLine_2 3 rfl rfl)
theorem dX6_hedgeLine_50 : decode cX6_hedgeLine 50 = .ok (.aload_n 0, 1) := dk_42 (dk_at dksX6_hedgeLine_2 4 rfl rfl)
theorem dX6_hedgeLine_51 : decode cX6_hedgeLine 51 = .ok (.getfield 7, 3) := dk_180 0 7 (dk_at dksX6_hedgeLine_2 5 rfl rfl)
theorem dX6_hedgeLine_54 : decode cX6_hedgeLine 54 = .ok (.iconst 2, 1) := dk_5 (dk_at dksX6_hedgeLine_2 8 rfl rfl)
theorem dX6_hedgeLine_55 : decode cX6_hedgeLine 55 = .ok (.aload_n 0, 1) := dk_42 (dk_at dksX6_hedgeLine_2 9 rfl rfl)
theorem dX6_hedgeLine_56 : decode cX6_hedgeLine 56 = .ok (.iconst 0, 1) := dk_3 (dk_at dksX6_hedgeLine_2 10 rfl rfl)
theorem dX6_hedgeLine_57 : decode cX6_hedgeLine 57 = .ok (.bipush 9, 2) := dk_16 9 (dk_at dksX6_hedgeLine_2 11 rfl rfl)
theorem dX6_hedgeLine_59 : decode cX6_hedgeLine 59 = .ok (.invokevirtual 278, 3) := dk_182 1 22 (dk_at dksX6_hedgeLine_2 13 rfl rfl)
theorem dX6_hedgeLine_62 : decode cX6_hedgeLine 62 = .ok (.iastore, 1) := dk_79 (dk_at dksX6_hedgeLine_2 16 rfl rfl)
theorem dX6_hedgeLine_63 : decode cX6_hedgeLine 63 = .ok (.aload_n 0, 1) := dk_42 (dk_at dksX6_hedgeLine_2 17 rfl rfl)
theorem dX6_hedgeLine_64 : decode cX6_hedgeLine 64 = .ok (.getfield 7, 3) := dk_180 0 7 (dk_at dksX6_hedgeLine_2 18 rfl rfl)
theorem dX6_hedgeLine_67 : decode cX6_hedgeLine 67 = .ok (.iconst 3, 1) := dk_6 (dk_at dksX6_hedgeLine_2 21 rfl rfl)
theorem dX6_hedgeLine_68 : decode cX6_hedgeLine 68 = .ok (.aload_n 0, 1) := dk_42 (dk_at dksX6_hedgeLine_2 22 rfl rfl)
theorem dX6_hedgeLine_69 : decode cX6_hedgeLine 69 = .ok (.iconst 1, 1) := dk_4 (dk_at dksX6_hedgeLine_2 23 rfl rfl)
theorem dX6_hedgeLine_70 : decode cX6_hedgeLine 70 = .ok (.bipush 99, 2) := dk_16 99 (dk_at dksX6_hedgeLine_3 0 rfl rfl)
theorem dX6_hedgeLine_72 : decode cX6_hedgeLine 72 = .ok (.invokevirtual 278, 3) := dk_182 1 22 (dk_at dksX6_hedgeLine_3 2 rfl rfl)
theorem dX6_hedgeLine_75 : decode cX6_hedgeLine 75 = .ok (.iastore, 1) := dk_79 (dk_at dksX6_hedgeLine_3 5 rfl rfl)
theorem dX6_hedgeLine_76 : decode cX6_hedgeLine 76 = .ok (.aload_n 0, 1) := dk_42 (dk_at dksX6_hedgeLine_3 6 rfl rfl)
theorem dX6_hedgeLine_77 : decode cX6_hedgeLine 77 = .ok (.getfield 7, 3) := dk_180 0 7 (dk_at dksX6_hedgeLine_3 7 rfl rfl)
theorem dX6_hedgeLine_80 : decode cX6_hedgeLine 80 = .ok (.iconst 4, 1) := dk_7 (dk_at dksX6_hedgeLine_3 10 rfl rfl)
theorem dX6_hedgeLine_81 : decode cX6_hedgeLine 81 = .ok (.aload_n 0, 1) := dk_42 (dk_at dksX6_hedgeLine_3 11 rfl rfl)
theorem dX6_hedgeLine_82 : decode cX6_hedgeLine 82 = .ok (.iconst 1, 1) := dk_4 (dk_at dksX6_hedgeLine_3 12 rfl rfl)
theorem dX6_hedgeLine_83 : decode cX6_hedgeLine 83 = .ok (.bipush 30, 2) := dk_16 30 (dk_at dksX6_hedgeLine_3 13 rfl rfl)
theorem dX6_hedgeLine_85 : decode cX6_hedgeLine 85 = .ok (.invokevirtual 278, 3) := dk_182 1 22 (dk_at dksX6_hedgeLine_3 15 rfl rfl)
theorem dX6_hedgeLine_88 : decode cX6_hedgeLine 88 = .ok (.iastore, 1) := dk_79 (dk_at dksX6_hedgeLine_3 18 rfl rfl)
theorem dX6_hedgeLine_89 : decode cX6_hedgeLine 89 = .ok (.aload_n 0, 1) := dk_42 (dk_at dksX6_hedgeLine_3 19 rfl rfl)
theorem dX6_hedgeLine_90 : decode cX6_hedgeLine 90 = .ok (.getfield 7, 3) := dk_180 0 7 (dk_at dksX6_hedgeLine_3 20 rfl rfl)
theorem dX6_hedgeLine_93 : decode cX6_hedgeLine 93 = .ok (.iconst 5, 1) := dk_8 (dk_at dksX6_hedgeLine_3 23 rfl rfl)
theorem dX6_hedgeLine_94 : decode cX6_hedgeLine 94 = .ok (.aload_n 0, 1) := dk_42 (dk_at dksX6_hedgeLine_4 0 rfl rfl)
theorem dX6_hedgeLine_95 : decode cX6_hedgeLine 95 = .ok (.iconst 1, 1) := dk_4 (dk_at dksX6_hedgeLine_4 1 rfl rfl)
theorem dX6_hedgeLine_96 : decode cX6_hedgeLine 96 = .ok (.bipush 40, 2) := dk_16 40 (dk_at dksX6_hedgeLine_4 2 rfl rfl)
theorem dX6_hedgeLine_98 : decode cX6_hedgeLine 98 = .ok (.invokevirtual 278, 3) := dk_182 1 22 (dk_at dksX6_hedgeLine_4 4 rfl rfl)
theorem dX6_hedgeLine_101 : decode cX6_hedgeLine 101 = .ok (.iastore, 1) := dk_79 (dk_at dksX6_hedgeLine_4 7 rfl rfl)
theorem dX6_hedgeLine_102 : decode cX6_hedgeLine 102 = .ok (.aload_n 0, 1) := dk_42 (dk_at dksX6_hedgeLine_4 8 rfl rfl)
theorem dX6_hedgeLine_103 : decode cX6_hedgeLine 103 = .ok (.invokevirtual 281, 3) := dk_182 1 25 (dk_at dksX6_hedgeLine_4 9 rfl rfl)
theorem dX6_hedgeLine_106 : decode cX6_hedgeLine 106 = .ok (.return_, 1) := dk_177 (dk_at dksX6_hedgeLine_4 12 rfl rfl)
abbrev cX6_sees : ByteArray := prog_14_method_72_code
def yX6_sees : MethodName := ⟨RX6, "sees", "(Ljava/lang/String;)Z"⟩
def dkwX6_sees_2 : List UInt8 := [182, 0, 49, 159, 0, 5, 3, 172, 132, 3, 1, 167, 255, 225, 4, 172]
abbrev dktX6_sees_2 : List UInt8 := dkwX6_sees_2 ++ []
def dkwX6_sees_1 : List UInt8 := [172, 3, 62, 29, 42, 180, 0, 237, 162, 0, 29, 42, 42, 180, 0, 234, 29, 96, 182, 0, 231, 43, 29]
abbrev dktX6_sees_1 : List UInt8 := dkwX6_sees_1 ++ dktX6_sees_2
def dkwX6_sees_0 : List UInt8 := [42, 182, 0, 250, 61, 42, 180, 0, 244, 154, 0, 14, 42, 180, 0, 237, 43, 182, 0, 43, 159, 0, 5, 3]
abbrev dktX6_sees_0 : List UInt8 := dkwX6_sees_0 ++ dktX6_sees_1
theorem dksX6_sees_0 : cX6_sees.data.toList.drop 0 = dktX6_sees_0 := by decide +kernel
theorem dksX6_sees_1 : cX6_sees.data.toList.drop 24 = dktX6_sees_1 := dk_seg dksX6_sees_0 24 rfl rfl
theorem dksX6_sees_2 : cX6_sees.data.toList.drop 47 = dktX6_sees_2 := dk_seg dksX6_sees_1 23 rfl rfl
theorem dX6_sees_0 : decode cX6_sees 0 = .ok (.aload_n 0, 1) := dk_42 (dk_at dksX6_sees_0 0 rfl rfl)
theorem dX6_sees_1 : decode cX6_sees 1 = .ok (.invokevirtual 250, 3) := dk_182 0 250 (dk_at dksX6_sees_0 1 rfl rfl)
theorem dX6_sees_4 : decode cX6_sees 4 = .ok (.istore_n 2, 1) := dk_61 (dk_at dksX6_sees_0 4 rfl rfl)
theorem dX6_sees_5 : decode cX6_sees 5 = .ok (.aload_n 0, 1) := dk_42 (dk_at dksX6_sees_0 5 rfl rfl)
theorem dX6_sees_6 : decode cX6_sees 6 = .ok (.getfield 244, 3) := dk_180 0 244 (dk_at dksX6_sees_0 6 rfl rfl)
theorem dX6_sees_9 : decode cX6_sees 9 = .ok (.ifCond .ne 14, 3) := dk_154 0 14 (dk_at dksX6_sees_0 9 rfl rfl)
theorem dX6_sees_12 : decode cX6_sees 12 = .ok (.aload_n 0, 1) := dk_42 (dk_at dksX6_sees_0 12 rfl rfl)
theorem dX6_sees_13 : decode cX6_sees 13 = .ok (.getfield 237, 3) := dk_180 0 237 (dk_at dksX6_sees_0 13 rfl rfl)
theorem dX6_sees_16 : decode cX6_sees 16 = .ok (.aload_n 1, 1) := dk_43 (dk_at dksX6_sees_0 16 rfl rfl)
theorem dX6_sees_17 : decode cX6_sees 17 = .ok (.invokevirtual 43, 3) := dk_182 0 43 (dk_at dksX6_sees_0 17 rfl rfl)
theorem dX6_sees_20 : decode cX6_sees 20 = .ok (.if_icmp .eq 5, 3) := dk_159 0 5 (dk_at dksX6_sees_0 20 rfl rfl)
theorem dX6_sees_23 : decode cX6_sees 23 = .ok (.iconst 0, 1) := dk_3 (dk_at dksX6_sees_0 23 rfl rfl)
theorem dX6_sees_24 : decode cX6_sees 24 = .ok (.ireturn, 1) := dk_172 (dk_at dksX6_sees_1 0 rfl rfl)
theorem dX6_sees_25 : decode cX6_sees 25 = .ok (.iconst 0, 1) := dk_3 (dk_at dksX6_sees_1 1 rfl rfl)
theorem dX6_sees_26 : decode cX6_sees 26 = .ok (.istore_n 3, 1) := dk_62 (dk_at dksX6_sees_1 2 rfl rfl)
theorem dX6_sees_27 : decode cX6_sees 27 = .ok (.iload_n 3, 1) := dk_29 (dk_at dksX6_sees_1 3 rfl rfl)
theorem dX6_sees_28 : decode cX6_sees 28 = .ok (.aload_n 0, 1) := dk_42 (dk_at dksX6_sees_1 4 rfl rfl)
theorem dX6_sees_29 : decode cX6_sees 29 = .ok (.getfield 237, 3) := dk_180 0 237 (dk_at dksX6_sees_1 5 rfl rfl)
theorem dX6_sees_32 : decode cX6_sees 32 = .ok (.if_icmp .ge 29, 3) := dk_162 0 29 (dk_at dksX6_sees_1 8 rfl rfl)
theorem dX6_sees_35 : decode cX6_sees 35 = .ok (.aload_n 0, 1) := dk_42 (dk_at dksX6_sees_1 11 rfl rfl)
theorem dX6_sees_36 : decode cX6_sees 36 = .ok (.aload_n 0, 1) := dk_42 (dk_at dksX6_sees_1 12 rfl rfl)
theorem dX6_sees_37 : decode cX6_sees 37 = .ok (.getfield 234, 3) := dk_180 0 234 (dk_at dksX6_sees_1 13 rfl rfl)
theorem dX6_sees_40 : decode cX6_sees 40 = .ok (.iload_n 3, 1) := dk_29 (dk_at dksX6_sees_1 16 rfl rfl)
theorem dX6_sees_41 : decode cX6_sees 41 = .ok (.iadd, 1) := dk_96 (dk_at dksX6_sees_1 17 rfl rfl)
theorem dX6_sees_42 : decode cX6_sees 42 = .ok (.invokevirtual 231, 3) := dk_182 0 231 (dk_at dksX6_sees_1 18 rfl rfl)
theorem dX6_sees_45 : decode cX6_sees 45 = .ok (.aload_n 1, 1) := dk_43 (dk_at dksX6_sees_1 21 rfl rfl)
theorem dX6_sees_46 : decode cX6_sees 46 = .ok (.iload_n 3, 1) := dk_29 (dk_at dksX6_sees_1 22 rfl rfl)
theorem dX6_sees_47 : decode cX6_sees 47 = .ok (.invokevirtual 49, 3) := dk_182 0 49 (dk_at dksX6_sees_2 0 rfl rfl)
theorem dX6_sees_50 : decode cX6_sees 50 = .ok (.if_icmp .eq 5, 3) := dk_159 0 5 (dk_at dksX6_sees_2 3 rfl rfl)
theorem dX6_sees_53 : decode cX6_sees 53 = .ok (.iconst 0, 1) := dk_3 (dk_at dksX6_sees_2 6 rfl rfl)
theorem dX6_sees_54 : decode cX6_sees 54 = .ok (.ireturn, 1) := dk_172 (dk_at dksX6_sees_2 7 rfl rfl)
theorem dX6_sees_55 : decode cX6_sees 55 = .ok (.iinc 3 1, 3) := dk_132 3 1 (dk_at dksX6_sees_2 8 rfl rfl)
theorem dX6_sees_58 : decode cX6_sees 58 = .ok (.goto (-31), 3) := dk_167 255 225 (dk_at dksX6_sees_2 11 rfl rfl)
theorem dX6_sees_61 : decode cX6_sees 61 = .ok (.iconst 1, 1) := dk_4 (dk_at dksX6_sees_2 14 rfl rfl)
theorem dX6_sees_62 : decode cX6_sees 62 = .ok (.ireturn, 1) := dk_172 (dk_at dksX6_sees_2 15 rfl rfl)
abbrev cX6_next : ByteArray := prog_14_method_70_code
def yX6_next : MethodName := ⟨RX6, "next", "()I"⟩
def dkwX6_next_3 : List UInt8 := [180, 0, 237, 4, 96, 181, 0, 237, 167, 255, 220, 42, 42, 180, 0, 228, 182, 0, 231, 172]
abbrev dktX6_next_3 : List UInt8 := dkwX6_next_3 ++ []
def dkwX6_next_2 : List UInt8 := [180, 0, 237, 96, 182, 0, 231, 133, 20, 0, 240, 20, 0, 242, 184, 0, 65, 153, 0, 16, 42, 89]
abbrev dktX6_next_2 : List UInt8 := dkwX6_next_2 ++ dktX6_next_3
def dkwX6_next_1 : List UInt8 := [167, 255, 233, 42, 42, 180, 0, 228, 181, 0, 234, 42, 3, 181, 0, 237, 42, 42, 180, 0, 234, 42]
abbrev dktX6_next_1 : List UInt8 := dkwX6_next_1 ++ dktX6_next_2
def dkwX6_next_0 : List UInt8 := [42, 42, 180, 0, 228, 182, 0, 231, 16, 32, 160, 0, 16, 42, 89, 180, 0, 228, 4, 96, 181, 0, 228]
abbrev dktX6_next_0 : List UInt8 := dkwX6_next_0 ++ dktX6_next_1
theorem dksX6_next_0 : cX6_next.data.toList.drop 0 = dktX6_next_0 := by decide +kernel
theorem dksX6_next_1 : cX6_next.data.toList.drop 23 = dktX6_next_1 := dk_seg dksX6_next_0 23 rfl rfl
theorem dksX6_next_2 : cX6_next.data.toList.drop 45 = dktX6_next_2 := dk_seg dksX6_next_1 22 rfl rfl
theorem dksX6_next_3 : cX6_next.data.toList.drop 67 = dktX6_next_3 := dk_seg dksX6_next_2 22 rfl rfl
theorem dX6_next_0 : decode cX6_next 0 = .ok (.aload_n 0, 1) := dk_42 (dk_at dksX6_next_0 0 rfl rfl)
theorem dX6_next_1 : decode cX6_next 1 = .ok (.aload_n 0, 1) := dk_42 (dk_at dksX6_next_0 1 rfl rfl)
theorem dX6_next_2 : decode cX6_next 2 = .ok (.getfield 228, 3) := dk_180 0 228 (dk_at dksX6_next_0 2 rfl rfl)
theorem dX6_next_5 : decode cX6_next 5 = .ok (.invokevirtual 231, 3) := dk_182 0 231 (dk_at dksX6_next_0 5 rfl rfl)
theorem dX6_next_8 : decode cX6_next 8 = .ok (.bipush 32, 2) := dk_16 32 (dk_at dksX6_next_0 8 rfl rfl)
theorem dX6_next_10 : decode cX6_next 10 = .ok (.if_icmp .ne 16, 3) := dk_160 0 16 (dk_at dksX6_next_0 10 rfl rfl)
theorem dX6_next_13 : decode cX6_next 13 = .ok (.aload_n 0, 1) := dk_42 (dk_at dksX6_next_0 13 rfl rfl)
theorem dX6_next_14 : decode cX6_next 14 = .ok (.dup, 1) := dk_89 (dk_at dksX6_next_0 14 rfl rfl)
theorem dX6_next_15 : decode cX6_next 15 = .ok (.getfield 228, 3) := dk_180 0 228 (dk_at dksX6_next_0 15 rfl rfl)
theorem dX6_next_18 : decode cX6_next 18 = .ok (.iconst 1, 1) := dk_4 (dk_at dksX6_next_0 18 rfl rfl)
theorem dX6_next_19 : decode cX6_next 19 = .ok (.iadd, 1) := dk_96 (dk_at dksX6_next_0 19 rfl rfl)
theorem dX6_next_20 : decode cX6_next 20 = .ok (.putfield 228, 3) := dk_181 0 228 (dk_at dksX6_next_0 20 rfl rfl)
theorem dX6_next_23 : decode cX6_next 23 = .ok (.goto (-23), 3) := dk_167 255 233 (dk_at dksX6_next_1 0 rfl rfl)
theorem dX6_next_26 : decode cX6_next 26 = .ok (.aload_n 0, 1) := dk_42 (dk_at dksX6_next_1 3 rfl rfl)
theorem dX6_next_27 : decode cX6_next 27 = .ok (.aload_n 0, 1) := dk_42 (dk_at dksX6_next_1 4 rfl rfl)
theorem dX6_next_28 : decode cX6_next 28 = .ok (.getfield 228, 3) := dk_180 0 228 (dk_at dksX6_next_1 5 rfl rfl)
theorem dX6_next_31 : decode cX6_next 31 = .ok (.putfield 234, 3) := dk_181 0 234 (dk_at dksX6_next_1 8 rfl rfl)
theorem dX6_next_34 : decode cX6_next 34 = .ok (.aload_n 0, 1) := dk_42 (dk_at dksX6_next_1 11 rfl rfl)
theorem dX6_next_35 : decode cX6_next 35 = .ok (.iconst 0, 1) := dk_3 (dk_at dksX6_next_1 12 rfl rfl)
theorem dX6_next_36 : decode cX6_next 36 = .ok (.putfield 237, 3) := dk_181 0 237 (dk_at dksX6_next_1 13 rfl rfl)
theorem dX6_next_39 : decode cX6_next 39 = .ok (.aload_n 0, 1) := dk_42 (dk_at dksX6_next_1 16 rfl rfl)
theorem dX6_next_40 : decode cX6_next 40 = .ok (.aload_n 0, 1) := dk_42 (dk_at dksX6_next_1 17 rfl rfl)
theorem dX6_next_41 : decode cX6_next 41 = .ok (.getfield 234, 3) := dk_180 0 234 (dk_at dksX6_next_1 18 rfl rfl)
theorem dX6_next_44 : decode cX6_next 44 = .ok (.aload_n 0, 1) := dk_42 (dk_at dksX6_next_1 21 rfl rfl)
theorem dX6_next_45 : decode cX6_next 45 = .ok (.getfield 237, 3) := dk_180 0 237 (dk_at dksX6_next_2 0 rfl rfl)
theorem dX6_next_48 : decode cX6_next 48 = .ok (.iadd, 1) := dk_96 (dk_at dksX6_next_2 3 rfl rfl)
theorem dX6_next_49 : decode cX6_next 49 = .ok (.invokevirtual 231, 3) := dk_182 0 231 (dk_at dksX6_next_2 4 rfl rfl)
theorem dX6_next_52 : decode cX6_next 52 = .ok (.i2l, 1) := dk_133 (dk_at dksX6_next_2 7 rfl rfl)
theorem dX6_next_53 : decode cX6_next 53 = .ok (.ldc2_w 240, 3) := dk_20 0 240 (dk_at dksX6_next_2 8 rfl rfl)
theorem dX6_next_56 : decode cX6_next 56 = .ok (.ldc2_w 242, 3) := dk_20 0 242 (dk_at dksX6_next_2 11 rfl rfl)
theorem dX6_next_59 : decode cX6_next 59 = .ok (.invokestatic 65, 3) := dk_184 0 65 (dk_at dksX6_next_2 14 rfl rfl)
theorem dX6_next_62 : decode cX6_next 62 = .ok (.ifCond .eq 16, 3) := dk_153 0 16 (dk_at dksX6_next_2 17 rfl rfl)
theorem dX6_next_65 : decode cX6_next 65 = .ok (.aload_n 0, 1) := dk_42 (dk_at dksX6_next_2 20 rfl rfl)
theorem dX6_next_66 : decode cX6_next 66 = .ok (.dup, 1) := dk_89 (dk_at dksX6_next_2 21 rfl rfl)
theorem dX6_next_67 : decode cX6_next 67 = .ok (.getfield 237, 3) := dk_180 0 237 (dk_at dksX6_next_3 0 rfl rfl)
theorem dX6_next_70 : decode cX6_next 70 = .ok (.iconst 1, 1) := dk_4 (dk_at dksX6_next_3 3 rfl rfl)
theorem dX6_next_71 : decode cX6_next 71 = .ok (.iadd, 1) := dk_96 (dk_at dksX6_next_3 4 rfl rfl)
theorem dX6_next_72 : decode cX6_next 72 = .ok (.putfield 237, 3) := dk_181 0 237 (dk_at dksX6_next_3 5 rfl rfl)
theorem dX6_next_75 : decode cX6_next 75 = .ok (.goto (-36), 3) := dk_167 255 220 (dk_at dksX6_next_3 8 rfl rfl)
theorem dX6_next_78 : decode cX6_next 78 = .ok (.aload_n 0, 1) := dk_42 (dk_at dksX6_next_3 11 rfl rfl)
theorem dX6_next_79 : decode cX6_next 79 = .ok (.aload_n 0, 1) := dk_42 (dk_at dksX6_next_3 12 rfl rfl)
theorem dX6_next_80 : decode cX6_next 80 = .ok (.getfield 228, 3) := dk_180 0 228 (dk_at dksX6_next_3 13 rfl rfl)
theorem dX6_next_83 : decode cX6_next 83 = .ok (.invokevirtual 231, 3) := dk_182 0 231 (dk_at dksX6_next_3 16 rfl rfl)
theorem dX6_next_86 : decode cX6_next 86 = .ok (.ireturn, 1) := dk_172 (dk_at dksX6_next_3 19 rfl rfl)
abbrev cX6_byteAt : ByteArray := prog_14_method_69_code
def yX6_byteAt : MethodName := ⟨RX6, "byteAt", "(I)I"⟩
def dkwX6_byteAt_0 : List UInt8 := [27, 42, 180, 0, 53, 162, 0, 12, 42, 180, 0, 28, 27, 46, 167, 0, 4, 2, 172]
abbrev dktX6_byteAt_0 : List UInt8 := dkwX6_byteAt_0 ++ []
theorem dksX6_byteAt_0 : cX6_byteAt.data.toList.drop 0 = dktX6_byteAt_0 := by decide +kernel
theorem dX6_byteAt_0 : decode cX6_byteAt 0 = .ok (.iload_n 1, 1) := dk_27 (dk_at dksX6_byteAt_0 0 rfl rfl)
theorem dX6_byteAt_1 : decode cX6_byteAt 1 = .ok (.aload_n 0, 1) := dk_42 (dk_at dksX6_byteAt_0 1 rfl rfl)
theorem dX6_byteAt_2 : decode cX6_byteAt 2 = .ok (.getfield 53, 3) := dk_180 0 53 (dk_at dksX6_byteAt_0 2 rfl rfl)
theorem dX6_byteAt_5 : decode cX6_byteAt 5 = .ok (.if_icmp .ge 12, 3) := dk_162 0 12 (dk_at dksX6_byteAt_0 5 rfl rfl)
theorem dX6_byteAt_8 : decode cX6_byteAt 8 = .ok (.aload_n 0, 1) := dk_42 (dk_at dksX6_byteAt_0 8 rfl rfl)
theorem dX6_byteAt_9 : decode cX6_byteAt 9 = .ok (.getfield 28, 3) := dk_180 0 28 (dk_at dksX6_byteAt_0 9 rfl rfl)
theorem dX6_byteAt_12 : decode cX6_byteAt 12 = .ok (.iload_n 1, 1) := dk_27 (dk_at dksX6_byteAt_0 12 rfl rfl)
theorem dX6_byteAt_13 : decode cX6_byteAt 13 = .ok (.iaload, 1) := dk_46 (dk_at dksX6_byteAt_0 13 rfl rfl)
theorem dX6_byteAt_14 : decode cX6_byteAt 14 = .ok (.goto 4, 3) := dk_167 0 4 (dk_at dksX6_byteAt_0 14 rfl rfl)
theorem dX6_byteAt_17 : decode cX6_byteAt 17 = .ok (.iconst (-1), 1) := dk_2 (dk_at dksX6_byteAt_0 17 rfl rfl)
theorem dX6_byteAt_18 : decode cX6_byteAt 18 = .ok (.ireturn, 1) := dk_172 (dk_at dksX6_byteAt_0 18 rfl rfl)
abbrev cX6_in : ByteArray := prog_14_method_3_code
def yX6_in : MethodName := ⟨RX6, "in", "(JJJ)Z"⟩
def dkwX6_in_0 : List UInt8 := [30, 32, 148, 155, 0, 14, 30, 22, 4, 148, 157, 0, 7, 4, 167, 0, 4, 3, 172]
abbrev dktX6_in_0 : List UInt8 := dkwX6_in_0 ++ []
theorem dksX6_in_0 : cX6_in.data.toList.drop 0 = dktX6_in_0 := by decide +kernel
theorem dX6_in_0 : decode cX6_in 0 = .ok (.lload_n 0, 1) := dk_30 (dk_at dksX6_in_0 0 rfl rfl)
theorem dX6_in_1 : decode cX6_in 1 = .ok (.lload_n 2, 1) := dk_32 (dk_at dksX6_in_0 1 rfl rfl)
theorem dX6_in_2 : decode cX6_in 2 = .ok (.lcmp, 1) := dk_148 (dk_at dksX6_in_0 2 rfl rfl)
theorem dX6_in_3 : decode cX6_in 3 = .ok (.ifCond .lt 14, 3) := dk_155 0 14 (dk_at dksX6_in_0 3 rfl rfl)
theorem dX6_in_6 : decode cX6_in 6 = .ok (.lload_n 0, 1) := dk_30 (dk_at dksX6_in_0 6 rfl rfl)
theorem dX6_in_7 : decode cX6_in 7 = .ok (.lload 4, 2) := dk_22 4 (dk_at dksX6_in_0 7 rfl rfl)
theorem dX6_in_9 : decode cX6_in 9 = .ok (.lcmp, 1) := dk_148 (dk_at dksX6_in_0 9 rfl rfl)
theorem dX6_in_10 : decode cX6_in 10 = .ok (.ifCond .gt 7, 3) := dk_157 0 7 (dk_at dksX6_in_0 10 rfl rfl)
theorem dX6_in_13 : decode cX6_in 13 = .ok (.iconst 1, 1) := dk_4 (dk_at dksX6_in_0 13 rfl rfl)
theorem dX6_in_14 : decode cX6_in 14 = .ok (.goto 4, 3) := dk_167 0 4 (dk_at dksX6_in_0 14 rfl rfl)
theorem dX6_in_17 : decode cX6_in 17 = .ok (.iconst 0, 1) := dk_3 (dk_at dksX6_in_0 17 rfl rfl)
theorem dX6_in_18 : decode cX6_in 18 = .ok (.ireturn, 1) := dk_172 (dk_at dksX6_in_0 18 rfl rfl)
abbrev cX6_must : ByteArray := prog_14_method_71_code
def yX6_must : MethodName := ⟨RX6, "must", "(ZI)V"⟩
def dkwX6_must_1 : List UInt8 := [181, 0, 247, 177]
abbrev dktX6_must_1 : List UInt8 := dkwX6_must_1 ++ []
def dkwX6_must_0 : List UInt8 := [27, 154, 0, 10, 42, 180, 0, 244, 153, 0, 4, 177, 42, 28, 181, 0, 244, 42, 42, 180, 0, 234]
abbrev dktX6_must_0 : List UInt8 := dkwX6_must_0 ++ dktX6_must_1
theorem dksX6_must_0 : cX6_must.data.toList.drop 0 = dktX6_must_0 := by decide +kernel
theorem dksX6_must_1 : cX6_must.data.toList.drop 22 = dktX6_must_1 := dk_seg dksX6_must_0 22 rfl rfl
theorem dX6_must_0 : decode cX6_must 0 = .ok (.iload_n 1, 1) := dk_27 (dk_at dksX6_must_0 0 rfl rfl)
theorem dX6_must_1 : decode cX6_must 1 = .ok (.ifCond .ne 10, 3) := dk_154 0 10 (dk_at dksX6_must_0 1 rfl rfl)
theorem dX6_must_4 : decode cX6_must 4 = .ok (.aload_n 0, 1) := dk_42 (dk_at dksX6_must_0 4 rfl rfl)
theorem dX6_must_5 : decode cX6_must 5 = .ok (.getfield 244, 3) := dk_180 0 244 (dk_at dksX6_must_0 5 rfl rfl)
theorem dX6_must_8 : decode cX6_must 8 = .ok (.ifCond .eq 4, 3) := dk_153 0 4 (dk_at dksX6_must_0 8 rfl rfl)
theorem dX6_must_11 : decode cX6_must 11 = .ok (.return_, 1) := dk_177 (dk_at dksX6_must_0 11 rfl rfl)
theorem dX6_must_12 : decode cX6_must 12 = .ok (.aload_n 0, 1) := dk_42 (dk_at dksX6_must_0 12 rfl rfl)
theorem dX6_must_13 : decode cX6_must 13 = .ok (.iload_n 2, 1) := dk_28 (dk_at dksX6_must_0 13 rfl rfl)
theorem dX6_must_14 : decode cX6_must 14 = .ok (.putfield 244, 3) := dk_181 0 244 (dk_at dksX6_must_0 14 rfl rfl)
theorem dX6_must_17 : decode cX6_must 17 = .ok (.aload_n 0, 1) := dk_42 (dk_at dksX6_must_0 17 rfl rfl)
theorem dX6_must_18 : decode cX6_must 18 = .ok (.aload_n 0, 1) := dk_42 (dk_at dksX6_must_0 18 rfl rfl)
theorem dX6_must_19 : decode cX6_must 19 = .ok (.getfield 234, 3) := dk_180 0 234 (dk_at dksX6_must_0 19 rfl rfl)
theorem dX6_must_22 : decode cX6_must 22 = .ok (.putfield 247, 3) := dk_181 0 247 (dk_at dksX6_must_1 0 rfl rfl)
theorem dX6_must_25 : decode cX6_must 25 = .ok (.return_, 1) := dk_177 (dk_at dksX6_must_1 3 rfl rfl)
abbrev cX6_goesPast : ByteArray := prog_14_method_73_code
def yX6_goesPast : MethodName := ⟨RX6, "goesPast", "()V"⟩
def dkwX6_goesPast_0 : List UInt8 := [42, 42, 180, 0, 234, 42, 180, 0, 237, 96, 181, 0, 228, 177]
abbrev dktX6_goesPast_0 : List UInt8 := dkwX6_goesPast_0 ++ []
theorem dksX6_goesPast_0 : cX6_goesPast.data.toList.drop 0 = dktX6_goesPast_0 := by decide +kernel
theorem dX6_goesPast_0 : decode cX6_goesPast 0 = .ok (.aload_n 0, 1) := dk_42 (dk_at dksX6_goesPast_0 0 rfl rfl)
theorem dX6_goesPast_1 : decode cX6_goesPast 1 = .ok (.aload_n 0, 1) := dk_42 (dk_at dksX6_goesPast_0 1 rfl rfl)
theorem dX6_goesPast_2 : decode cX6_goesPast 2 = .ok (.getfield 234, 3) := dk_180 0 234 (dk_at dksX6_goesPast_0 2 rfl rfl)
theorem dX6_goesPast_5 : decode cX6_goesPast 5 = .ok (.aload_n 0, 1) := dk_42 (dk_at dksX6_goesPast_0 5 rfl rfl)
theorem dX6_goesPast_6 : decode cX6_goesPast 6 = .ok (.getfield 237, 3) := dk_180 0 237 (dk_at dksX6_goesPast_0 6 rfl rfl)
theorem dX6_goesPast_9 : decode cX6_goesPast 9 = .ok (.iadd, 1) := dk_96 (dk_at dksX6_goesPast_0 9 rfl rfl)
theorem dX6_goesPast_10 : decode cX6_goesPast 10 = .ok (.putfield 228, 3) := dk_181 0 228 (dk_at dksX6_goesPast_0 10 rfl rfl)
theorem dX6_goesPast_13 : decode cX6_goesPast 13 = .ok (.return_, 1) := dk_177 (dk_at dksX6_goesPast_0 13 rfl rfl)
abbrev cX6_number : ByteArray := prog_14_method_75_code
def yX6_number : MethodName := ⟨RX6, "number", "(II)I"⟩
def dkwX6_number_6 : List UInt8 := [154, 0, 7, 29, 167, 0, 4, 27, 172]
abbrev dktX6_number_6 : List UInt8 := dkwX6_number_6 ++ []
def dkwX6_number_5 : List UInt8 := [3, 4, 182, 0, 253, 42, 29, 133, 27, 133, 28, 133, 184, 0, 65, 5, 182, 0, 253, 42, 180, 0, 244]
abbrev dktX6_number_5 : List UInt8 := dkwX6_number_5 ++ dktX6_number_6
def dkwX6_number_4 : List UInt8 := [181, 0, 228, 167, 255, 191, 42, 42, 180, 0, 228, 42, 180, 0, 234, 100, 6, 163, 0, 7, 4, 167, 0, 4]
abbrev dktX6_number_4 : List UInt8 := dkwX6_number_4 ++ dktX6_number_5
def dkwX6_number_3 : List UInt8 := [180, 0, 228, 182, 0, 231, 96, 16, 48, 100, 167, 0, 4, 29, 62, 42, 89, 180, 0, 228, 4, 96]
abbrev dktX6_number_3 : List UInt8 := dkwX6_number_3 ++ dktX6_number_4
def dkwX6_number_2 : List UInt8 := [153, 0, 50, 42, 180, 0, 228, 42, 180, 0, 234, 100, 6, 162, 0, 22, 16, 10, 29, 104, 42, 42]
abbrev dktX6_number_2 : List UInt8 := dkwX6_number_2 ++ dktX6_number_3
def dkwX6_number_1 : List UInt8 := [4, 182, 0, 253, 3, 62, 42, 42, 180, 0, 228, 182, 0, 231, 133, 20, 1, 1, 20, 1, 3, 184, 0, 65]
abbrev dktX6_number_1 : List UInt8 := dkwX6_number_1 ++ dktX6_number_2
def dkwX6_number_0 : List UInt8 := [42, 180, 0, 244, 153, 0, 5, 27, 172, 42, 42, 182, 0, 250, 133, 20, 1, 1, 20, 1, 3, 184, 0, 65]
abbrev dktX6_number_0 : List UInt8 := dkwX6_number_0 ++ dktX6_number_1
theorem dksX6_number_0 : cX6_number.data.toList.drop 0 = dktX6_number_0 := by decide +kernel
theorem dksX6_number_1 : cX6_number.data.toList.drop 24 = dktX6_number_1 := dk_seg dksX6_number_0 24 rfl rfl
theorem dksX6_number_2 : cX6_number.data.toList.drop 48 = dktX6_number_2 := dk_seg dksX6_number_1 24 rfl rfl
theorem dksX6_number_3 : cX6_number.data.toList.drop 70 = dktX6_number_3 := dk_seg dksX6_number_2 22 rfl rfl
theorem dksX6_number_4 : cX6_number.data.toList.drop 92 = dktX6_number_4 := dk_seg dksX6_number_3 22 rfl rfl
theorem dksX6_number_5 : cX6_number.data.toList.drop 116 = dktX6_number_5 := dk_seg dksX6_number_4 24 rfl rfl
theorem dksX6_number_6 : cX6_number.data.toList.drop 139 = dktX6_number_6 := dk_seg dksX6_number_5 23 rfl rfl
theorem dX6_number_0 : decode cX6_number 0 = .ok (.aload_n 0, 1) := dk_42 (dk_at dksX6_number_0 0 rfl rfl)
theorem dX6_number_1 : decode cX6_number 1 = .ok (.getfield 244, 3) := dk_180 0 244 (dk_at dksX6_number_0 1 rfl rfl)
theorem dX6_number_4 : decode cX6_number 4 = .ok (.ifCond .eq 5, 3) := dk_153 0 5 (dk_at dksX6_number_0 4 rfl rfl)
theorem dX6_number_7 : decode cX6_number 7 = .ok (.iload_n 1, 1) := dk_27 (dk_at dksX6_number_0 7 rfl rfl)
theorem dX6_number_8 : decode cX6_number 8 = .ok (.ireturn, 1) := dk_172 (dk_at dksX6_number_0 8 rfl rfl)
theorem dX6_number_9 : decode cX6_number 9 = .ok (.aload_n 0, 1) := dk_42 (dk_at dksX6_number_0 9 rfl rfl)
theorem dX6_number_10 : decode cX6_number 10 = .ok (.aload_n 0, 1) := dk_42 (dk_at dksX6_number_0 10 rfl rfl)
theorem dX6_number_11 : decode cX6_number 11 = .ok (.invokevirtual 250, 3) := dk_182 0 250 (dk_at dksX6_number_0 11 rfl rfl)
theorem dX6_number_14 : decode cX6_number 14 = .ok (.i2l, 1) := dk_133 (dk_at dksX6_number_0 14 rfl rfl)
theorem dX6_number_15 : decode cX6_number 15 = .ok (.ldc2_w 257, 3) := dk_20 1 1 (dk_at dksX6_number_0 15 rfl rfl)
theorem dX6_number_18 : decode cX6_number 18 = .ok (.ldc2_w 259, 3) := dk_20 1 3 (dk_at dksX6_number_0 18 rfl rfl)
theorem dX6_number_21 : decode cX6_number 21 = .ok (.invokestatic 65, 3) := dk_184 0 65 (dk_at dksX6_number_0 21 rfl rfl)
theorem dX6_number_24 : decode cX6_number 24 = .ok (.iconst 1, 1) := dk_4 (dk_at dksX6_number_1 0 rfl rfl)
theorem dX6_number_25 : decode cX6_number 25 = .ok (.invokevirtual 253, 3) := dk_182 0 253 (dk_at dksX6_number_1 1 rfl rfl)
theorem dX6_number_28 : decode cX6_number 28 = .ok (.iconst 0, 1) := dk_3 (dk_at dksX6_number_1 4 rfl rfl)
theorem dX6_number_29 : decode cX6_number 29 = .ok (.istore_n 3, 1) := dk_62 (dk_at dksX6_number_1 5 rfl rfl)
theorem dX6_number_30 : decode cX6_number 30 = .ok (.aload_n 0, 1) := dk_42 (dk_at dksX6_number_1 6 rfl rfl)
theorem dX6_number_31 : decode cX6_number 31 = .ok (.aload_n 0, 1) := dk_42 (dk_at dksX6_number_1 7 rfl rfl)
theorem dX6_number_32 : decode cX6_number 32 = .ok (.getfield 228, 3) := dk_180 0 228 (dk_at dksX6_number_1 8 rfl rfl)
theorem dX6_number_35 : decode cX6_number 35 = .ok (.invokevirtual 231, 3) := dk_182 0 231 (dk_at dksX6_number_1 11 rfl rfl)
theorem dX6_number_38 : decode cX6_number 38 = .ok (.i2l, 1) := dk_133 (dk_at dksX6_number_1 14 rfl rfl)
theorem dX6_number_39 : decode cX6_number 39 = .ok (.ldc2_w 257, 3) := dk_20 1 1 (dk_at dksX6_number_1 15 rfl rfl)
theorem dX6_number_42 : decode cX6_number 42 = .ok (.ldc2_w 259, 3) := dk_20 1 3 (dk_at dksX6_number_1 18 rfl rfl)
theorem dX6_number_45 : decode cX6_number 45 = .ok (.invokestatic 65, 3) := dk_184 0 65 (dk_at dksX6_number_1 21 rfl rfl)
theorem dX6_number_48 : decode cX6_number 48 = .ok (.ifCond .eq 50, 3) := dk_153 0 50 (dk_at dksX6_number_2 0 rfl rfl)
theorem dX6_number_51 : decode cX6_number 51 = .ok (.aload_n 0, 1) := dk_42 (dk_at dksX6_number_2 3 rfl rfl)
theorem dX6_number_52 : decode cX6_number 52 = .ok (.getfield 228, 3) := dk_180 0 228 (dk_at dksX6_number_2 4 rfl rfl)
theorem dX6_number_55 : decode cX6_number 55 = .ok (.aload_n 0, 1) := dk_42 (dk_at dksX6_number_2 7 rfl rfl)
theorem dX6_number_56 : decode cX6_number 56 = .ok (.getfield 234, 3) := dk_180 0 234 (dk_at dksX6_number_2 8 rfl rfl)
theorem dX6_number_59 : decode cX6_number 59 = .ok (.isub, 1) := dk_100 (dk_at dksX6_number_2 11 rfl rfl)
theorem dX6_number_60 : decode cX6_number 60 = .ok (.iconst 3, 1) := dk_6 (dk_at dksX6_number_2 12 rfl rfl)
theorem dX6_number_61 : decode cX6_number 61 = .ok (.if_icmp .ge 22, 3) := dk_162 0 22 (dk_at dksX6_number_2 13 rfl rfl)
theorem dX6_number_64 : decode cX6_number 64 = .ok (.bipush 10, 2) := dk_16 10 (dk_at dksX6_number_2 16 rfl rfl)
theorem dX6_number_66 : decode cX6_number 66 = .ok (.iload_n 3, 1) := dk_29 (dk_at dksX6_number_2 18 rfl rfl)
theorem dX6_number_67 : decode cX6_number 67 = .ok (.imul, 1) := dk_104 (dk_at dksX6_number_2 19 rfl rfl)
theorem dX6_number_68 : decode cX6_number 68 = .ok (.aload_n 0, 1) := dk_42 (dk_at dksX6_number_2 20 rfl rfl)
theorem dX6_number_69 : decode cX6_number 69 = .ok (.aload_n 0, 1) := dk_42 (dk_at dksX6_number_2 21 rfl rfl)
theorem dX6_number_70 : decode cX6_number 70 = .ok (.getfield 228, 3) := dk_180 0 228 (dk_at dksX6_number_3 0 rfl rfl)
theorem dX6_number_73 : decode cX6_number 73 = .ok (.invokevirtual 231, 3) := dk_182 0 231 (dk_at dksX6_number_3 3 rfl rfl)
theorem dX6_number_76 : decode cX6_number 76 = .ok (.iadd, 1) := dk_96 (dk_at dksX6_number_3 6 rfl rfl)
theorem dX6_number_77 : decode cX6_number 77 = .ok (.bipush 48, 2) := dk_16 48 (dk_at dksX6_number_3 7 rfl rfl)
theorem dX6_number_79 : decode cX6_number 79 = .ok (.isub, 1) := dk_100 (dk_at dksX6_number_3 9 rfl rfl)
theorem dX6_number_80 : decode cX6_number 80 = .ok (.goto 4, 3) := dk_167 0 4 (dk_at dksX6_number_3 10 rfl rfl)
theorem dX6_number_83 : decode cX6_number 83 = .ok (.iload_n 3, 1) := dk_29 (dk_at dksX6_number_3 13 rfl rfl)
theorem dX6_number_84 : decode cX6_number 84 = .ok (.istore_n 3, 1) := dk_62 (dk_at dksX6_number_3 14 rfl rfl)
theorem dX6_number_85 : decode cX6_number 85 = .ok (.aload_n 0, 1) := dk_42 (dk_at dksX6_number_3 15 rfl rfl)
theorem dX6_number_86 : decode cX6_number 86 = .ok (.dup, 1) := dk_89 (dk_at dksX6_number_3 16 rfl rfl)
theorem dX6_number_87 : decode cX6_number 87 = .ok (.getfield 228, 3) := dk_180 0 228 (dk_at dksX6_number_3 17 rfl rfl)
theorem dX6_number_90 : decode cX6_number 90 = .ok (.iconst 1, 1) := dk_4 (dk_at dksX6_number_3 20 rfl rfl)
theorem dX6_number_91 : decode cX6_number 91 = .ok (.iadd, 1) := dk_96 (dk_at dksX6_number_3 21 rfl rfl)
theorem dX6_number_92 : decode cX6_number 92 = .ok (.putfield 228, 3) := dk_181 0 228 (dk_at dksX6_number_4 0 rfl rfl)
theorem dX6_number_95 : decode cX6_number 95 = .ok (.goto (-65), 3) := dk_167 255 191 (dk_at dksX6_number_4 3 rfl rfl)
theorem dX6_number_98 : decode cX6_number 98 = .ok (.aload_n 0, 1) := dk_42 (dk_at dksX6_number_4 6 rfl rfl)
theorem dX6_number_99 : decode cX6_number 99 = .ok (.aload_n 0, 1) := dk_42 (dk_at dksX6_number_4 7 rfl rfl)
theorem dX6_number_100 : decode cX6_number 100 = .ok (.getfield 228, 3) := dk_180 0 228 (dk_at dksX6_number_4 8 rfl rfl)
theorem dX6_number_103 : decode cX6_number 103 = .ok (.aload_n 0, 1) := dk_42 (dk_at dksX6_number_4 11 rfl rfl)
theorem dX6_number_104 : decode cX6_number 104 = .ok (.getfield 234, 3) := dk_180 0 234 (dk_at dksX6_number_4 12 rfl rfl)
theorem dX6_number_107 : decode cX6_number 107 = .ok (.isub, 1) := dk_100 (dk_at dksX6_number_4 15 rfl rfl)
theorem dX6_number_108 : decode cX6_number 108 = .ok (.iconst 3, 1) := dk_6 (dk_at dksX6_number_4 16 rfl rfl)
theorem dX6_number_109 : decode cX6_number 109 = .ok (.if_icmp .gt 7, 3) := dk_163 0 7 (dk_at dksX6_number_4 17 rfl rfl)
theorem dX6_number_112 : decode cX6_number 112 = .ok (.iconst 1, 1) := dk_4 (dk_at dksX6_number_4 20 rfl rfl)
theorem dX6_number_113 : decode cX6_number 113 = .ok (.goto 4, 3) := dk_167 0 4 (dk_at dksX6_number_4 21 rfl rfl)
theorem dX6_number_116 : decode cX6_number 116 = .ok (.iconst 0, 1) := dk_3 (dk_at dksX6_number_5 0 rfl rfl)
theorem dX6_number_117 : decode cX6_number 117 = .ok (.iconst 1, 1) := dk_4 (dk_at dksX6_number_5 1 rfl rfl)
theorem dX6_number_118 : decode cX6_number 118 = .ok (.invokevirtual 253, 3) := dk_182 0 253 (dk_at dksX6_number_5 2 rfl rfl)
theorem dX6_number_121 : decode cX6_number 121 = .ok (.aload_n 0, 1) := dk_42 (dk_at dksX6_number_5 5 rfl rfl)
theorem dX6_number_122 : decode cX6_number 122 = .ok (.iload_n 3, 1) := dk_29 (dk_at dksX6_number_5 6 rfl rfl)
theorem dX6_number_123 : decode cX6_number 123 = .ok (.i2l, 1) := dk_133 (dk_at dksX6_number_5 7 rfl rfl)
theorem dX6_number_124 : decode cX6_number 124 = .ok (.iload_n 1, 1) := dk_27 (dk_at dksX6_number_5 8 rfl rfl)
theorem dX6_number_125 : decode cX6_number 125 = .ok (.i2l, 1) := dk_133 (dk_at dksX6_number_5 9 rfl rfl)
theorem dX6_number_126 : decode cX6_number 126 = .ok (.iload_n 2, 1) := dk_28 (dk_at dksX6_number_5 10 rfl rfl)
theorem dX6_number_127 : decode cX6_number 127 = .ok (.i2l, 1) := dk_133 (dk_at dksX6_number_5 11 rfl rfl)
theorem dX6_number_128 : decode cX6_number 128 = .ok (.invokestatic 65, 3) := dk_184 0 65 (dk_at dksX6_number_5 12 rfl rfl)
theorem dX6_number_131 : decode cX6_number 131 = .ok (.iconst 2, 1) := dk_5 (dk_at dksX6_number_5 15 rfl rfl)
theorem dX6_number_132 : decode cX6_number 132 = .ok (.invokevirtual 253, 3) := dk_182 0 253 (dk_at dksX6_number_5 16 rfl rfl)
theorem dX6_number_135 : decode cX6_number 135 = .ok (.aload_n 0, 1) := dk_42 (dk_at dksX6_number_5 19 rfl rfl)
theorem dX6_number_136 : decode cX6_number 136 = .ok (.getfield 244, 3) := dk_180 0 244 (dk_at dksX6_number_5 20 rfl rfl)
theorem dX6_number_139 : decode cX6_number 139 = .ok (.ifCond .ne 7, 3) := dk_154 0 7 (dk_at dksX6_number_6 0 rfl rfl)
theorem dX6_number_142 : decode cX6_number 142 = .ok (.iload_n 3, 1) := dk_29 (dk_at dksX6_number_6 3 rfl rfl)
theorem dX6_number_143 : decode cX6_number 143 = .ok (.goto 4, 3) := dk_167 0 4 (dk_at dksX6_number_6 4 rfl rfl)
theorem dX6_number_146 : decode cX6_number 146 = .ok (.iload_n 1, 1) := dk_27 (dk_at dksX6_number_6 7 rfl rfl)
theorem dX6_number_147 : decode cX6_number 147 = .ok (.ireturn, 1) := dk_172 (dk_at dksX6_number_6 8 rfl rfl)
abbrev cX6_semicolon : ByteArray := prog_14_method_74_code
def yX6_semicolon : MethodName := ⟨RX6, "semicolon", "()V"⟩
def dkwX6_semicolon_1 : List UInt8 := [182, 0, 253, 42, 89, 180, 0, 228, 4, 96, 181, 0, 228, 177]
abbrev dktX6_semicolon_1 : List UInt8 := dkwX6_semicolon_1 ++ []
def dkwX6_semicolon_0 : List UInt8 := [42, 180, 0, 244, 153, 0, 4, 177, 42, 42, 182, 0, 250, 16, 59, 160, 0, 7, 4, 167, 0, 4, 3, 4]
abbrev dktX6_semicolon_0 : List UInt8 := dkwX6_semicolon_0 ++ dktX6_semicolon_1
theorem dksX6_semicolon_0 : cX6_semicolon.data.toList.drop 0 = dktX6_semicolon_0 := by decide +kernel
theorem dksX6_semicolon_1 : cX6_semicolon.data.toList.drop 24 = dktX6_semicolon_1 := dk_seg dksX6_semicolon_0 24 rfl rfl
theorem dX6_semicolon_0 : decode cX6_semicolon 0 = .ok (.aload_n 0, 1) := dk_42 (dk_at dksX6_semicolon_0 0 rfl rfl)
theorem dX6_semicolon_1 : decode cX6_semicolon 1 = .ok (.getfield 244, 3) := dk_180 0 244 (dk_at dksX6_semicolon_0 1 rfl rfl)
theorem dX6_semicolon_4 : decode cX6_semicolon 4 = .ok (.ifCond .eq 4, 3) := dk_153 0 4 (dk_at dksX6_semicolon_0 4 rfl rfl)
theorem dX6_semicolon_7 : decode cX6_semicolon 7 = .ok (.return_, 1) := dk_177 (dk_at dksX6_semicolon_0 7 rfl rfl)
theorem dX6_semicolon_8 : decode cX6_semicolon 8 = .ok (.aload_n 0, 1) := dk_42 (dk_at dksX6_semicolon_0 8 rfl rfl)
theorem dX6_semicolon_9 : decode cX6_semicolon 9 = .ok (.aload_n 0, 1) := dk_42 (dk_at dksX6_semicolon_0 9 rfl rfl)
theorem dX6_semicolon_10 : decode cX6_semicolon 10 = .ok (.invokevirtual 250, 3) := dk_182 0 250 (dk_at dksX6_semicolon_0 10 rfl rfl)
theorem dX6_semicolon_13 : decode cX6_semicolon 13 = .ok (.bipush 59, 2) := dk_16 59 (dk_at dksX6_semicolon_0 13 rfl rfl)
theorem dX6_semicolon_15 : decode cX6_semicolon 15 = .ok (.if_icmp .ne 7, 3) := dk_160 0 7 (dk_at dksX6_semicolon_0 15 rfl rfl)
theorem dX6_semicolon_18 : decode cX6_semicolon 18 = .ok (.iconst 1, 1) := dk_4 (dk_at dksX6_semicolon_0 18 rfl rfl)
theorem dX6_semicolon_19 : decode cX6_semicolon 19 = .ok (.goto 4, 3) := dk_167 0 4 (dk_at dksX6_semicolon_0 19 rfl rfl)
theorem dX6_semicolon_22 : decode cX6_semicolon 22 = .ok (.iconst 0, 1) := dk_3 (dk_at dksX6_semicolon_0 22 rfl rfl)
theorem dX6_semicolon_23 : decode cX6_semicolon 23 = .ok (.iconst 1, 1) := dk_4 (dk_at dksX6_semicolon_0 23 rfl rfl)
theorem dX6_semicolon_24 : decode cX6_semicolon 24 = .ok (.invokevirtual 253, 3) := dk_182 0 253 (dk_at dksX6_semicolon_1 0 rfl rfl)
theorem dX6_semicolon_27 : decode cX6_semicolon 27 = .ok (.aload_n 0, 1) := dk_42 (dk_at dksX6_semicolon_1 3 rfl rfl)
theorem dX6_semicolon_28 : decode cX6_semicolon 28 = .ok (.dup, 1) := dk_89 (dk_at dksX6_semicolon_1 4 rfl rfl)
theorem dX6_semicolon_29 : decode cX6_semicolon 29 = .ok (.getfield 228, 3) := dk_180 0 228 (dk_at dksX6_semicolon_1 5 rfl rfl)
theorem dX6_semicolon_32 : decode cX6_semicolon 32 = .ok (.iconst 1, 1) := dk_4 (dk_at dksX6_semicolon_1 8 rfl rfl)
theorem dX6_semicolon_33 : decode cX6_semicolon 33 = .ok (.iadd, 1) := dk_96 (dk_at dksX6_semicolon_1 9 rfl rfl)
theorem dX6_semicolon_34 : decode cX6_semicolon 34 = .ok (.putfield 228, 3) := dk_181 0 228 (dk_at dksX6_semicolon_1 10 rfl rfl)
theorem dX6_semicolon_37 : decode cX6_semicolon 37 = .ok (.return_, 1) := dk_177 (dk_at dksX6_semicolon_1 13 rfl rfl)
abbrev cX6_statement : ByteArray := prog_14_method_87_code
def yX6_statement : MethodName := ⟨RX6, "statement", "()V"⟩
def dkwX6_statement_2 : List UInt8 := [167, 0, 14, 42, 182, 0, 250, 60, 42, 3, 4, 182, 0, 253, 42, 182, 1, 25, 177]
abbrev dktX6_statement_2 : List UInt8 := dkwX6_statement_2 ++ []
def dkwX6_statement_1 : List UInt8 := [153, 0, 10, 42, 182, 1, 44, 167, 0, 31, 42, 19, 1, 47, 182, 1, 18, 153, 0, 10, 42, 182, 1, 49]
abbrev dktX6_statement_1 : List UInt8 := dkwX6_statement_1 ++ dktX6_statement_2
def dkwX6_statement_0 : List UInt8 := [42, 19, 1, 37, 182, 1, 18, 153, 0, 10, 42, 182, 1, 39, 167, 0, 48, 42, 19, 1, 42, 182, 1, 18]
abbrev dktX6_statement_0 : List UInt8 := dkwX6_statement_0 ++ dktX6_statement_1
theorem dksX6_statement_0 : cX6_statement.data.toList.drop 0 = dktX6_statement_0 := by decide +kernel
theorem dksX6_statement_1 : cX6_statement.data.toList.drop 24 = dktX6_statement_1 := dk_seg dksX6_statement_0 24 rfl rfl
theorem dksX6_statement_2 : cX6_statement.data.toList.drop 48 = dktX6_statement_2 := dk_seg dksX6_statement_1 24 rfl rfl
theorem dX6_statement_0 : decode cX6_statement 0 = .ok (.aload_n 0, 1) := dk_42 (dk_at dksX6_statement_0 0 rfl rfl)
theorem dX6_statement_1 : decode cX6_statement 1 = .ok (.ldc_w 293, 3) := dk_19 1 37 (dk_at dksX6_statement_0 1 rfl rfl)
theorem dX6_statement_4 : decode cX6_statement 4 = .ok (.invokevirtual 274, 3) := dk_182 1 18 (dk_at dksX6_statement_0 4 rfl rfl)
theorem dX6_statement_7 : decode cX6_statement 7 = .ok (.ifCond .eq 10, 3) := dk_153 0 10 (dk_at dksX6_statement_0 7 rfl rfl)
theorem dX6_statement_10 : decode cX6_statement 10 = .ok (.aload_n 0, 1) := dk_42 (dk_at dksX6_statement_0 10 rfl rfl)
theorem dX6_statement_11 : decode cX6_statement 11 = .ok (.invokevirtual 295, 3) := dk_182 1 39 (dk_at dksX6_statement_0 11 rfl rfl)
theorem dX6_statement_14 : decode cX6_statement 14 = .ok (.goto 48, 3) := dk_167 0 48 (dk_at dksX6_statement_0 14 rfl rfl)
theorem dX6_statement_17 : decode cX6_statement 17 = .ok (.aload_n 0, 1) := dk_42 (dk_at dksX6_statement_0 17 rfl rfl)
theorem dX6_statement_18 : decode cX6_statement 18 = .ok (.ldc_w 298, 3) := dk_19 1 42 (dk_at dksX6_statement_0 18 rfl rfl)
theorem dX6_statement_21 : decode cX6_statement 21 = .ok (.invokevirtual 274, 3) := dk_182 1 18 (dk_at dksX6_statement_0 21 rfl rfl)
theorem dX6_statement_24 : decode cX6_statement 24 = .ok (.ifCond .eq 10, 3) := dk_153 0 10 (dk_at dksX6_statement_1 0 rfl rfl)
theorem dX6_statement_27 : decode cX6_statement 27 = .ok (.aload_n 0, 1) := dk_42 (dk_at dksX6_statement_1 3 rfl rfl)
theorem dX6_statement_28 : decode cX6_statement 28 = .ok (.invokevirtual 300, 3) := dk_182 1 44 (dk_at dksX6_statement_1 4 rfl rfl)
theorem dX6_statement_31 : decode cX6_statement 31 = .ok (.goto 31, 3) := dk_167 0 31 (dk_at dksX6_statement_1 7 rfl rfl)
theorem dX6_statement_34 : decode cX6_statement 34 = .ok (.aload_n 0, 1) := dk_42 (dk_at dksX6_statement_1 10 rfl rfl)
theorem dX6_statement_35 : decode cX6_statement 35 = .ok (.ldc_w 303, 3) := dk_19 1 47 (dk_at dksX6_statement_1 11 rfl rfl)
theorem dX6_statement_38 : decode cX6_statement 38 = .ok (.invokevirtual 274, 3) := dk_182 1 18 (dk_at dksX6_statement_1 14 rfl rfl)
theorem dX6_statement_41 : decode cX6_statement 41 = .ok (.ifCond .eq 10, 3) := dk_153 0 10 (dk_at dksX6_statement_1 17 rfl rfl)
theorem dX6_statement_44 : decode cX6_statement 44 = .ok (.aload_n 0, 1) := dk_42 (dk_at dksX6_statement_1 20 rfl rfl)
theorem dX6_statement_45 : decode cX6_statement 45 = .ok (.invokevirtual 305, 3) := dk_182 1 49 (dk_at dksX6_statement_1 21 rfl rfl)
theorem dX6_statement_48 : decode cX6_statement 48 = .ok (.goto 14, 3) := dk_167 0 14 (dk_at dksX6_statement_2 0 rfl rfl)
theorem dX6_statement_51 : decode cX6_statement 51 = .ok (.aload_n 0, 1) := dk_42 (dk_at dksX6_statement_2 3 rfl rfl)
theorem dX6_statement_52 : decode cX6_statement 52 = .ok (.invokevirtual 250, 3) := dk_182 0 250 (dk_at dksX6_statement_2 4 rfl rfl)
theorem dX6_statement_55 : decode cX6_statement 55 = .ok (.istore_n 1, 1) := dk_60 (dk_at dksX6_statement_2 7 rfl rfl)
theorem dX6_statement_56 : decode cX6_statement 56 = .ok (.aload_n 0, 1) := dk_42 (dk_at dksX6_statement_2 8 rfl rfl)
theorem dX6_statement_57 : decode cX6_statement 57 = .ok (.iconst 0, 1) := dk_3 (dk_at dksX6_statement_2 9 rfl rfl)
theorem dX6_statement_58 : decode cX6_statement 58 = .ok (.iconst 1, 1) := dk_4 (dk_at dksX6_statement_2 10 rfl rfl)
theorem dX6_statement_59 : decode cX6_statement 59 = .ok (.invokevirtual 253, 3) := dk_182 0 253 (dk_at dksX6_statement_2 11 rfl rfl)
theorem dX6_statement_62 : decode cX6_statement 62 = .ok (.aload_n 0, 1) := dk_42 (dk_at dksX6_statement_2 14 rfl rfl)
theorem dX6_statement_63 : decode cX6_statement 63 = .ok (.invokevirtual 281, 3) := dk_182 1 25 (dk_at dksX6_statement_2 15 rfl rfl)
theorem dX6_statement_66 : decode cX6_statement 66 = .ok (.return_, 1) := dk_177 (dk_at dksX6_statement_2 18 rfl rfl)
abbrev cX6_twigLine : ByteArray := prog_14_method_84_code
def yX6_twigLine : MethodName := ⟨RX6, "twigLine", "()V"⟩
def dkwX6_twigLine_3 : List UInt8 := [42, 27, 28, 29, 21, 4, 3, 182, 0, 143, 177]
abbrev dktX6_twigLine_3 : List UInt8 := dkwX6_twigLine_3 ++ []
def dkwX6_twigLine_2 : List UInt8 := [61, 42, 3, 4, 182, 1, 22, 62, 42, 4, 16, 99, 182, 1, 22, 54, 4, 42, 180, 0, 244, 154, 0, 13]
abbrev dktX6_twigLine_2 : List UInt8 := dkwX6_twigLine_2 ++ dktX6_twigLine_3
def dkwX6_twigLine_1 : List UInt8 := [154, 0, 11, 42, 27, 182, 0, 84, 154, 0, 7, 4, 167, 0, 4, 3, 6, 182, 0, 253, 42, 182, 1, 28]
abbrev dktX6_twigLine_1 : List UInt8 := dkwX6_twigLine_1 ++ dktX6_twigLine_2
def dkwX6_twigLine_0 : List UInt8 := [42, 182, 1, 5, 42, 3, 42, 180, 0, 7, 3, 46, 4, 100, 182, 1, 22, 60, 42, 42, 180, 0, 244]
abbrev dktX6_twigLine_0 : List UInt8 := dkwX6_twigLine_0 ++ dktX6_twigLine_1
theorem dksX6_twigLine_0 : cX6_twigLine.data.toList.drop 0 = dktX6_twigLine_0 := by decide +kernel
theorem dksX6_twigLine_1 : cX6_twigLine.data.toList.drop 23 = dktX6_twigLine_1 := dk_seg dksX6_twigLine_0 23 rfl rfl
theorem dksX6_twigLine_2 : cX6_twigLine.data.toList.drop 47 = dktX6_twigLine_2 := dk_seg dksX6_twigLine_1 24 rfl rfl
theorem dksX6_twigLine_3 : cX6_twigLine.data.toList.drop 71 = dktX6_twigLine_3 := dk_seg dksX6_twigLine_2 24 rfl rfl
theorem dX6_twigLine_0 : decode cX6_twigLine 0 = .ok (.aload_n 0, 1) := dk_42 (dk_at dksX6_twigLine_0 0 rfl rfl)
theorem dX6_twigLine_1 : decode cX6_twigLine 1 = .ok (.invokevirtual 261, 3) := dk_182 1 5 (dk_at dksX6_twigLine_0 1 rfl rfl)
theorem dX6_twigLine_4 : decode cX6_twigLine 4 = .ok (.aload_n 0, 1) := dk_42 (dk_at dksX6_twigLine_0 4 rfl rfl)
theorem dX6_twigLine_5 : decode cX6_twigLine 5 = .ok (.iconst 0, 1) := dk_3 (dk_at dksX6_twigLine_0 5 rfl rfl)
theorem dX6_twigLine_6 : decode cX6_twigLine 6 = .ok (.aload_n 0, 1) := dk_42 (dk_at dksX6_twigLine_0 6 rfl rfl)
theorem dX6_twigLine_7 : decode cX6_twigLine 7 = .ok (.getfield 7, 3) := dk_180 0 7 (dk_at dksX6_twigLine_0 7 rfl rfl)
theorem dX6_twigLine_10 : decode cX6_twigLine 10 = .ok (.iconst 0, 1) := dk_3 (dk_at dksX6_twigLine_0 10 rfl rfl)
theorem dX6_twigLine_11 : decode cX6_twigLine 11 = .ok (.iaload, 1) := dk_46 (dk_at dksX6_twigLine_0 11 rfl rfl)
theorem dX6_twigLine_12 : decode cX6_twigLine 12 = .ok (.iconst 1, 1) := dk_4 (dk_at dksX6_twigLine_0 12 rfl rfl)
theorem dX6_twigLine_13 : decode cX6_twigLine 13 = .ok (.isub, 1) := dk_100 (dk_at dksX6_twigLine_0 13 rfl rfl)
theorem dX6_twigLine_14 : decode cX6_twigLine 14 = .ok (.invokevirtual 278, 3) := dk_182 1 22 (dk_at dksX6_twigLine_0 14 rfl rfl)
theorem dX6_twigLine_17 : decode cX6_twigLine 17 = .ok (.istore_n 1, 1) := dk_60 (dk_at dksX6_twigLine_0 17 rfl rfl)
theorem dX6_twigLine_18 : decode cX6_twigLine 18 = .ok (.aload_n 0, 1) := dk_42 (dk_at dksX6_twigLine_0 18 rfl rfl)
theorem dX6_twigLine_19 : decode cX6_twigLine 19 = .ok (.aload_n 0, 1) := dk_42 (dk_at dksX6_twigLine_0 19 rfl rfl)
theorem dX6_twigLine_20 : decode cX6_twigLine 20 = .ok (.getfield 244, 3) := dk_180 0 244 (dk_at dksX6_twigLine_0 20 rfl rfl)
theorem dX6_twigLine_23 : decode cX6_twigLine 23 = .ok (.ifCond .ne 11, 3) := dk_154 0 11 (dk_at dksX6_twigLine_1 0 rfl rfl)
theorem dX6_twigLine_26 : decode cX6_twigLine 26 = .ok (.aload_n 0, 1) := dk_42 (dk_at dksX6_twigLine_1 3 rfl rfl)
theorem dX6_twigLine_27 : decode cX6_twigLine 27 = .ok (.iload_n 1, 1) := dk_27 (dk_at dksX6_twigLine_1 4 rfl rfl)
theorem dX6_twigLine_28 : decode cX6_twigLine 28 = .ok (.invokevirtual 84, 3) := dk_182 0 84 (dk_at dksX6_twigLine_1 5 rfl rfl)
theorem dX6_twigLine_31 : decode cX6_twigLine 31 = .ok (.ifCond .ne 7, 3) := dk_154 0 7 (dk_at dksX6_twigLine_1 8 rfl rfl)
theorem dX6_twigLine_34 : decode cX6_twigLine 34 = .ok (.iconst 1, 1) := dk_4 (dk_at dksX6_twigLine_1 11 rfl rfl)
theorem dX6_twigLine_35 : decode cX6_twigLine 35 = .ok (.goto 4, 3) := dk_167 0 4 (dk_at dksX6_twigLine_1 12 rfl rfl)
theorem dX6_twigLine_38 : decode cX6_twigLine 38 = .ok (.iconst 0, 1) := dk_3 (dk_at dksX6_twigLine_1 15 rfl rfl)
theorem dX6_twigLine_39 : decode cX6_twigLine 39 = .ok (.iconst 3, 1) := dk_6 (dk_at dksX6_twigLine_1 16 rfl rfl)
theorem dX6_twigLine_40 : decode cX6_twigLine 40 = .ok (.invokevirtual 253, 3) := dk_182 0 253 (dk_at dksX6_twigLine_1 17 rfl rfl)
theorem dX6_twigLine_43 : decode cX6_twigLine 43 = .ok (.aload_n 0, 1) := dk_42 (dk_at dksX6_twigLine_1 20 rfl rfl)
theorem dX6_twigLine_44 : decode cX6_twigLine 44 = .ok (.invokevirtual 284, 3) := dk_182 1 28 (dk_at dksX6_twigLine_1 21 rfl rfl)
theorem dX6_twigLine_47 : decode cX6_twigLine 47 = .ok (.istore_n 2, 1) := dk_61 (dk_at dksX6_twigLine_2 0 rfl rfl)
theorem dX6_twigLine_48 : decode cX6_twigLine 48 = .ok (.aload_n 0, 1) := dk_42 (dk_at dksX6_twigLine_2 1 rfl rfl)
theorem dX6_twigLine_49 : decode cX6_twigLine 49 = .ok (.iconst 0, 1) := dk_3 (dk_at dksX6_twigLine_2 2 rfl rfl)
theorem dX6_twigLine_50 : decode cX6_twigLine 50 = .ok (.iconst 1, 1) := dk_4 (dk_at dksX6_twigLine_2 3 rfl rfl)
theorem dX6_twigLine_51 : decode cX6_twigLine 51 = .ok (.invokevirtual 278, 3) := dk_182 1 22 (dk_at dksX6_twigLine_2 4 rfl rfl)
theorem dX6_twigLine_54 : decode cX6_twigLine 54 = .ok (.istore_n 3, 1) := dk_62 (dk_at dksX6_twigLine_2 7 rfl rfl)
theorem dX6_twigLine_55 : decode cX6_twigLine 55 = .ok (.aload_n 0, 1) := dk_42 (dk_at dksX6_twigLine_2 8 rfl rfl)
theorem dX6_twigLine_56 : decode cX6_twigLine 56 = .ok (.iconst 1, 1) := dk_4 (dk_at dksX6_twigLine_2 9 rfl rfl)
theorem dX6_twigLine_57 : decode cX6_twigLine 57 = .ok (.bipush 99, 2) := dk_16 99 (dk_at dksX6_twigLine_2 10 rfl rfl)
theorem dX6_twigLine_59 : decode cX6_twigLine 59 = .ok (.invokevirtual 278, 3) := dk_182 1 22 (dk_at dksX6_twigLine_2 12 rfl rfl)
theorem dX6_twigLine_62 : decode cX6_twigLine 62 = .ok (.istore 4, 2) := dk_54 4 (dk_at dksX6_twigLine_2 15 rfl rfl)
theorem dX6_twigLine_64 : decode cX6_twigLine 64 = .ok (.aload_n 0, 1) := dk_42 (dk_at dksX6_twigLine_2 17 rfl rfl)
theorem dX6_twigLine_65 : decode cX6_twigLine 65 = .ok (.getfield 244, 3) := dk_180 0 244 (dk_at dksX6_twigLine_2 18 rfl rfl)
theorem dX6_twigLine_68 : decode cX6_twigLine 68 = .ok (.ifCond .ne 13, 3) := dk_154 0 13 (dk_at dksX6_twigLine_2 21 rfl rfl)
theorem dX6_twigLine_71 : decode cX6_twigLine 71 = .ok (.aload_n 0, 1) := dk_42 (dk_at dksX6_twigLine_3 0 rfl rfl)
theorem dX6_twigLine_72 : decode cX6_twigLine 72 = .ok (.iload_n 1, 1) := dk_27 (dk_at dksX6_twigLine_3 1 rfl rfl)
theorem dX6_twigLine_73 : decode cX6_twigLine 73 = .ok (.iload_n 2, 1) := dk_28 (dk_at dksX6_twigLine_3 2 rfl rfl)
theorem dX6_twigLine_74 : decode cX6_twigLine 74 = .ok (.iload_n 3, 1) := dk_29 (dk_at dksX6_twigLine_3 3 rfl rfl)
theorem dX6_twigLine_75 : decode cX6_twigLine 75 = .ok (.iload 4, 2) := dk_21 4 (dk_at dksX6_twigLine_3 4 rfl rfl)
theorem dX6_twigLine_77 : decode cX6_twigLine 77 = .ok (.iconst 0, 1) := dk_3 (dk_at dksX6_twigLine_3 6 rfl rfl)
theorem dX6_twigLine_78 : decode cX6_twigLine 78 = .ok (.invokevirtual 143, 3) := dk_182 0 143 (dk_at dksX6_twigLine_3 7 rfl rfl)
theorem dX6_twigLine_81 : decode cX6_twigLine 81 = .ok (.return_, 1) := dk_177 (dk_at dksX6_twigLine_3 10 rfl rfl)
abbrev cX6_hasTwig : ByteArray := prog_14_method_15_code
def yX6_hasTwig : MethodName := ⟨RX6, "hasTwig", "(I)Z"⟩
def dkwX6_hasTwig_0 : List UInt8 := [42, 27, 3, 182, 0, 69, 158, 0, 7, 4, 167, 0, 4, 3, 172]
abbrev dktX6_hasTwig_0 : List UInt8 := dkwX6_hasTwig_0 ++ []
theorem dksX6_hasTwig_0 : cX6_hasTwig.data.toList.drop 0 = dktX6_hasTwig_0 := by decide +kernel
theorem dX6_hasTwig_0 : decode cX6_hasTwig 0 = .ok (.aload_n 0, 1) := dk_42 (dk_at dksX6_hasTwig_0 0 rfl rfl)
theorem dX6_hasTwig_1 : decode cX6_hasTwig 1 = .ok (.iload_n 1, 1) := dk_27 (dk_at dksX6_hasTwig_0 1 rfl rfl)
theorem dX6_hasTwig_2 : decode cX6_hasTwig 2 = .ok (.iconst 0, 1) := dk_3 (dk_at dksX6_hasTwig_0 2 rfl rfl)
theorem dX6_hasTwig_3 : decode cX6_hasTwig 3 = .ok (.invokevirtual 69, 3) := dk_182 0 69 (dk_at dksX6_hasTwig_0 3 rfl rfl)
theorem dX6_hasTwig_6 : decode cX6_hasTwig 6 = .ok (.ifCond .le 7, 3) := dk_158 0 7 (dk_at dksX6_hasTwig_0 6 rfl rfl)
theorem dX6_hasTwig_9 : decode cX6_hasTwig 9 = .ok (.iconst 1, 1) := dk_4 (dk_at dksX6_hasTwig_0 9 rfl rfl)
theorem dX6_hasTwig_10 : decode cX6_hasTwig 10 = .ok (.goto 4, 3) := dk_167 0 4 (dk_at dksX6_hasTwig_0 10 rfl rfl)
theorem dX6_hasTwig_13 : decode cX6_hasTwig 13 = .ok (.iconst 0, 1) := dk_3 (dk_at dksX6_hasTwig_0 13 rfl rfl)
theorem dX6_hasTwig_14 : decode cX6_hasTwig 14 = .ok (.ireturn, 1) := dk_172 (dk_at dksX6_hasTwig_0 14 rfl rfl)
abbrev cX6_of : ByteArray := prog_14_method_11_code
def yX6_of : MethodName := ⟨RX6, "of", "(II)I"⟩
def dkwX6_of_0 : List UInt8 := [42, 180, 0, 7, 16, 22, 8, 27, 104, 96, 28, 96, 46, 172]
abbrev dktX6_of_0 : List UInt8 := dkwX6_of_0 ++ []
theorem dksX6_of_0 : cX6_of.data.toList.drop 0 = dktX6_of_0 := by decide +kernel
theorem dX6_of_0 : decode cX6_of 0 = .ok (.aload_n 0, 1) := dk_42 (dk_at dksX6_of_0 0 rfl rfl)
theorem dX6_of_1 : decode cX6_of 1 = .ok (.getfield 7, 3) := dk_180 0 7 (dk_at dksX6_of_0 1 rfl rfl)
theorem dX6_of_4 : decode cX6_of 4 = .ok (.bipush 22, 2) := dk_16 22 (dk_at dksX6_of_0 4 rfl rfl)
theorem dX6_of_6 : decode cX6_of 6 = .ok (.iconst 5, 1) := dk_8 (dk_at dksX6_of_0 6 rfl rfl)
theorem dX6_of_7 : decode cX6_of 7 = .ok (.iload_n 1, 1) := dk_27 (dk_at dksX6_of_0 7 rfl rfl)
theorem dX6_of_8 : decode cX6_of 8 = .ok (.imul, 1) := dk_104 (dk_at dksX6_of_0 8 rfl rfl)
theorem dX6_of_9 : decode cX6_of 9 = .ok (.iadd, 1) := dk_96 (dk_at dksX6_of_0 9 rfl rfl)
theorem dX6_of_10 : decode cX6_of 10 = .ok (.iload_n 2, 1) := dk_28 (dk_at dksX6_of_0 10 rfl rfl)
theorem dX6_of_11 : decode cX6_of 11 = .ok (.iadd, 1) := dk_96 (dk_at dksX6_of_0 11 rfl rfl)
theorem dX6_of_12 : decode cX6_of 12 = .ok (.iaload, 1) := dk_46 (dk_at dksX6_of_0 12 rfl rfl)
theorem dX6_of_13 : decode cX6_of 13 = .ok (.ireturn, 1) := dk_172 (dk_at dksX6_of_0 13 rfl rfl)
abbrev cX6_letterHere : ByteArray := prog_14_method_76_code
def yX6_letterHere : MethodName := ⟨RX6, "letterHere", "()I"⟩
def dkwX6_letterHere_1 : List UInt8 := [4, 167, 0, 4, 3, 4, 182, 0, 253, 42, 182, 1, 5, 27, 172]
abbrev dktX6_letterHere_1 : List UInt8 := dkwX6_letterHere_1 ++ []
def dkwX6_letterHere_0 : List UInt8 := [42, 180, 0, 244, 153, 0, 6, 16, 97, 172, 42, 182, 0, 250, 60, 42, 42, 180, 0, 237, 4, 160, 0, 7]
abbrev dktX6_letterHere_0 : List UInt8 := dkwX6_letterHere_0 ++ dktX6_letterHere_1
theorem dksX6_letterHere_0 : cX6_letterHere.data.toList.drop 0 = dktX6_letterHere_0 := by decide +kernel
theorem dksX6_letterHere_1 : cX6_letterHere.data.toList.drop 24 = dktX6_letterHere_1 := dk_seg dksX6_letterHere_0 24 rfl rfl
theorem dX6_letterHere_0 : decode cX6_letterHere 0 = .ok (.aload_n 0, 1) := dk_42 (dk_at dksX6_letterHere_0 0 rfl rfl)
theorem dX6_letterHere_1 : decode cX6_letterHere 1 = .ok (.getfield 244, 3) := dk_180 0 244 (dk_at dksX6_letterHere_0 1 rfl rfl)
theorem dX6_letterHere_4 : decode cX6_letterHere 4 = .ok (.ifCond .eq 6, 3) := dk_153 0 6 (dk_at dksX6_letterHere_0 4 rfl rfl)
theorem dX6_letterHere_7 : decode cX6_letterHere 7 = .ok (.bipush 97, 2) := dk_16 97 (dk_at dksX6_letterHere_0 7 rfl rfl)
theorem dX6_letterHere_9 : decode cX6_letterHere 9 = .ok (.ireturn, 1) := dk_172 (dk_at dksX6_letterHere_0 9 rfl rfl)
theorem dX6_letterHere_10 : decode cX6_letterHere 10 = .ok (.aload_n 0, 1) := dk_42 (dk_at dksX6_letterHere_0 10 rfl rfl)
theorem dX6_letterHere_11 : decode cX6_letterHere 11 = .ok (.invokevirtual 250, 3) := dk_182 0 250 (dk_at dksX6_letterHere_0 11 rfl rfl)
theorem dX6_letterHere_14 : decode cX6_letterHere 14 = .ok (.istore_n 1, 1) := dk_60 (dk_at dksX6_letterHere_0 14 rfl rfl)
theorem dX6_letterHere_15 : decode cX6_letterHere 15 = .ok (.aload_n 0, 1) := dk_42 (dk_at dksX6_letterHere_0 15 rfl rfl)
theorem dX6_letterHere_16 : decode cX6_letterHere 16 = .ok (.aload_n 0, 1) := dk_42 (dk_at dksX6_letterHere_0 16 rfl rfl)
theorem dX6_letterHere_17 : decode cX6_letterHere 17 = .ok (.getfield 237, 3) := dk_180 0 237 (dk_at dksX6_letterHere_0 17 rfl rfl)
theorem dX6_letterHere_20 : decode cX6_letterHere 20 = .ok (.iconst 1, 1) := dk_4 (dk_at dksX6_letterHere_0 20 rfl rfl)
theorem dX6_letterHere_21 : decode cX6_letterHere 21 = .ok (.if_icmp .ne 7, 3) := dk_160 0 7 (dk_at dksX6_letterHere_0 21 rfl rfl)
theorem dX6_letterHere_24 : decode cX6_letterHere 24 = .ok (.iconst 1, 1) := dk_4 (dk_at dksX6_letterHere_1 0 rfl rfl)
theorem dX6_letterHere_25 : decode cX6_letterHere 25 = .ok (.goto 4, 3) := dk_167 0 4 (dk_at dksX6_letterHere_1 1 rfl rfl)
theorem dX6_letterHere_28 : decode cX6_letterHere 28 = .ok (.iconst 0, 1) := dk_3 (dk_at dksX6_letterHere_1 4 rfl rfl)
theorem dX6_letterHere_29 : decode cX6_letterHere 29 = .ok (.iconst 1, 1) := dk_4 (dk_at dksX6_letterHere_1 5 rfl rfl)
theorem dX6_letterHere_30 : decode cX6_letterHere 30 = .ok (.invokevirtual 253, 3) := dk_182 0 253 (dk_at dksX6_letterHere_1 6 rfl rfl)
theorem dX6_letterHere_33 : decode cX6_letterHere 33 = .ok (.aload_n 0, 1) := dk_42 (dk_at dksX6_letterHere_1 9 rfl rfl)
theorem dX6_letterHere_34 : decode cX6_letterHere 34 = .ok (.invokevirtual 261, 3) := dk_182 1 5 (dk_at dksX6_letterHere_1 10 rfl rfl)
theorem dX6_letterHere_37 : decode cX6_letterHere 37 = .ok (.iload_n 1, 1) := dk_27 (dk_at dksX6_letterHere_1 13 rfl rfl)
theorem dX6_letterHere_38 : decode cX6_letterHere 38 = .ok (.ireturn, 1) := dk_172 (dk_at dksX6_letterHere_1 14 rfl rfl)
abbrev cX6_twigComes : ByteArray := prog_14_method_20_code
def yX6_twigComes : MethodName := ⟨RX6, "twigComes", "(IIIII)V"⟩
def dkwX6_twigComes_1 : List UInt8 := [6, 21, 5, 182, 0, 87, 42, 180, 0, 7, 16, 8, 92, 46, 4, 96, 79, 177]
abbrev dktX6_twigComes_1 : List UInt8 := dkwX6_twigComes_1 ++ []
def dkwX6_twigComes_0 : List UInt8 := [42, 27, 3, 28, 182, 0, 87, 42, 27, 4, 29, 182, 0, 87, 42, 27, 5, 21, 4, 182, 0, 87, 42, 27]
abbrev dktX6_twigComes_0 : List UInt8 := dkwX6_twigComes_0 ++ dktX6_twigComes_1
theorem dksX6_twigComes_0 : cX6_twigComes.data.toList.drop 0 = dktX6_twigComes_0 := by decide +kernel
theorem dksX6_twigComes_1 : cX6_twigComes.data.toList.drop 24 = dktX6_twigComes_1 := dk_seg dksX6_twigComes_0 24 rfl rfl
theorem dX6_twigComes_0 : decode cX6_twigComes 0 = .ok (.aload_n 0, 1) := dk_42 (dk_at dksX6_twigComes_0 0 rfl rfl)
theorem dX6_twigComes_1 : decode cX6_twigComes 1 = .ok (.iload_n 1, 1) := dk_27 (dk_at dksX6_twigComes_0 1 rfl rfl)
theorem dX6_twigComes_2 : decode cX6_twigComes 2 = .ok (.iconst 0, 1) := dk_3 (dk_at dksX6_twigComes_0 2 rfl rfl)
theorem dX6_twigComes_3 : decode cX6_twigComes 3 = .ok (.iload_n 2, 1) := dk_28 (dk_at dksX6_twigComes_0 3 rfl rfl)
theorem dX6_twigComes_4 : decode cX6_twigComes 4 = .ok (.invokevirtual 87, 3) := dk_182 0 87 (dk_at dksX6_twigComes_0 4 rfl rfl)
theorem dX6_twigComes_7 : decode cX6_twigComes 7 = .ok (.aload_n 0, 1) := dk_42 (dk_at dksX6_twigComes_0 7 rfl rfl)
theorem dX6_twigComes_8 : decode cX6_twigComes 8 = .ok (.iload_n 1, 1) := dk_27 (dk_at dksX6_twigComes_0 8 rfl rfl)
theorem dX6_twigComes_9 : decode cX6_twigComes 9 = .ok (.iconst 1, 1) := dk_4 (dk_at dksX6_twigComes_0 9 rfl rfl)
theorem dX6_twigComes_10 : decode cX6_twigComes 10 = .ok (.iload_n 3, 1) := dk_29 (dk_at dksX6_twigComes_0 10 rfl rfl)
theorem dX6_twigComes_11 : decode cX6_twigComes 11 = .ok (.invokevirtual 87, 3) := dk_182 0 87 (dk_at dksX6_twigComes_0 11 rfl rfl)
theorem dX6_twigComes_14 : decode cX6_twigComes 14 = .ok (.aload_n 0, 1) := dk_42 (dk_at dksX6_twigComes_0 14 rfl rfl)
theorem dX6_twigComes_15 : decode cX6_twigComes 15 = .ok (.iload_n 1, 1) := dk_27 (dk_at dksX6_twigComes_0 15 rfl rfl)
theorem dX6_twigComes_16 : decode cX6_twigComes 16 = .ok (.iconst 2, 1) := dk_5 (dk_at dksX6_twigComes_0 16 rfl rfl)
theorem dX6_twigComes_17 : decode cX6_twigComes 17 = .ok (.iload 4, 2) := dk_21 4 (dk_at dksX6_twigComes_0 17 rfl rfl)
theorem dX6_twigComes_19 : decode cX6_twigComes 19 = .ok (.invokevirtual 87, 3) := dk_182 0 87 (dk_at dksX6_twigComes_0 19 rfl rfl)
theorem dX6_twigComes_22 : decode cX6_twigComes 22 = .ok (.aload_n 0, 1) := dk_42 (dk_at dksX6_twigComes_0 22 rfl rfl)
theorem dX6_twigComes_23 : decode cX6_twigComes 23 = .ok (.iload_n 1, 1) := dk_27 (dk_at dksX6_twigComes_0 23 rfl rfl)
theorem dX6_twigComes_24 : decode cX6_twigComes 24 = .ok (.iconst 3, 1) := dk_6 (dk_at dksX6_twigComes_1 0 rfl rfl)
theorem dX6_twigComes_25 : decode cX6_twigComes 25 = .ok (.iload 5, 2) := dk_21 5 (dk_at dksX6_twigComes_1 1 rfl rfl)
theorem dX6_twigComes_27 : decode cX6_twigComes 27 = .ok (.invokevirtual 87, 3) := dk_182 0 87 (dk_at dksX6_twigComes_1 3 rfl rfl)
theorem dX6_twigComes_30 : decode cX6_twigComes 30 = .ok (.aload_n 0, 1) := dk_42 (dk_at dksX6_twigComes_1 6 rfl rfl)
theorem dX6_twigComes_31 : decode cX6_twigComes 31 = .ok (.getfield 7, 3) := dk_180 0 7 (dk_at dksX6_twigComes_1 7 rfl rfl)
theorem dX6_twigComes_34 : decode cX6_twigComes 34 = .ok (.bipush 8, 2) := dk_16 8 (dk_at dksX6_twigComes_1 10 rfl rfl)
theorem dX6_twigComes_36 : decode cX6_twigComes 36 = .ok (.dup2, 1) := dk_92 (dk_at dksX6_twigComes_1 12 rfl rfl)
theorem dX6_twigComes_37 : decode cX6_twigComes 37 = .ok (.iaload, 1) := dk_46 (dk_at dksX6_twigComes_1 13 rfl rfl)
theorem dX6_twigComes_38 : decode cX6_twigComes 38 = .ok (.iconst 1, 1) := dk_4 (dk_at dksX6_twigComes_1 14 rfl rfl)
theorem dX6_twigComes_39 : decode cX6_twigComes 39 = .ok (.iadd, 1) := dk_96 (dk_at dksX6_twigComes_1 15 rfl rfl)
theorem dX6_twigComes_40 : decode cX6_twigComes 40 = .ok (.iastore, 1) := dk_79 (dk_at dksX6_twigComes_1 16 rfl rfl)
theorem dX6_twigComes_41 : decode cX6_twigComes 41 = .ok (.return_, 1) := dk_177 (dk_at dksX6_twigComes_1 17 rfl rfl)
abbrev cX6_puts : ByteArray := prog_14_method_12_code
def yX6_puts : MethodName := ⟨RX6, "puts", "(III)V"⟩
def dkwX6_puts_0 : List UInt8 := [42, 180, 0, 7, 16, 22, 8, 27, 104, 96, 28, 96, 29, 79, 177]
abbrev dktX6_puts_0 : List UInt8 := dkwX6_puts_0 ++ []
theorem dksX6_puts_0 : cX6_puts.data.toList.drop 0 = dktX6_puts_0 := by decide +kernel
theorem dX6_puts_0 : decode cX6_puts 0 = .ok (.aload_n 0, 1) := dk_42 (dk_at dksX6_puts_0 0 rfl rfl)
theorem dX6_puts_1 : decode cX6_puts 1 = .ok (.getfield 7, 3) := dk_180 0 7 (dk_at dksX6_puts_0 1 rfl rfl)
theorem dX6_puts_4 : decode cX6_puts 4 = .ok (.bipush 22, 2) := dk_16 22 (dk_at dksX6_puts_0 4 rfl rfl)
theorem dX6_puts_6 : decode cX6_puts 6 = .ok (.iconst 5, 1) := dk_8 (dk_at dksX6_puts_0 6 rfl rfl)
theorem dX6_puts_7 : decode cX6_puts 7 = .ok (.iload_n 1, 1) := dk_27 (dk_at dksX6_puts_0 7 rfl rfl)
theorem dX6_puts_8 : decode cX6_puts 8 = .ok (.imul, 1) := dk_104 (dk_at dksX6_puts_0 8 rfl rfl)
theorem dX6_puts_9 : decode cX6_puts 9 = .ok (.iadd, 1) := dk_96 (dk_at dksX6_puts_0 9 rfl rfl)
theorem dX6_puts_10 : decode cX6_puts 10 = .ok (.iload_n 2, 1) := dk_28 (dk_at dksX6_puts_0 10 rfl rfl)
theorem dX6_puts_11 : decode cX6_puts 11 = .ok (.iadd, 1) := dk_96 (dk_at dksX6_puts_0 11 rfl rfl)
theorem dX6_puts_12 : decode cX6_puts 12 = .ok (.iload_n 3, 1) := dk_29 (dk_at dksX6_puts_0 12 rfl rfl)
theorem dX6_puts_13 : decode cX6_puts 13 = .ok (.iastore, 1) := dk_79 (dk_at dksX6_puts_0 13 rfl rfl)
theorem dX6_puts_14 : decode cX6_puts 14 = .ok (.return_, 1) := dk_177 (dk_at dksX6_puts_0 14 rfl rfl)
abbrev cX6_nestLine : ByteArray := prog_14_method_85_code
def yX6_nestLine : MethodName := ⟨RX6, "nestLine", "()V"⟩
def dkwX6_nestLine_3 : List UInt8 := [61, 42, 180, 0, 244, 154, 0, 10, 42, 27, 7, 28, 182, 0, 87, 177]
abbrev dktX6_nestLine_3 : List UInt8 := dkwX6_nestLine_3 ++ []
def dkwX6_nestLine_2 : List UInt8 := [182, 0, 209, 16, 6, 162, 0, 7, 4, 167, 0, 4, 3, 7, 182, 0, 253, 42, 4, 16, 30, 182, 1, 22]
abbrev dktX6_nestLine_2 : List UInt8 := dkwX6_nestLine_2 ++ dktX6_nestLine_3
def dkwX6_nestLine_1 : List UInt8 := [154, 0, 11, 42, 27, 182, 0, 77, 154, 0, 7, 4, 167, 0, 4, 3, 6, 182, 0, 253, 42, 42]
abbrev dktX6_nestLine_1 : List UInt8 := dkwX6_nestLine_1 ++ dktX6_nestLine_2
def dkwX6_nestLine_0 : List UInt8 := [42, 182, 1, 5, 42, 3, 42, 180, 0, 7, 3, 46, 4, 100, 182, 1, 22, 60, 42, 42, 180, 0, 244]
abbrev dktX6_nestLine_0 : List UInt8 := dkwX6_nestLine_0 ++ dktX6_nestLine_1
theorem dksX6_nestLine_0 : cX6_nestLine.data.toList.drop 0 = dktX6_nestLine_0 := by decide +kernel
theorem dksX6_nestLine_1 : cX6_nestLine.data.toList.drop 23 = dktX6_nestLine_1 := dk_seg dksX6_nestLine_0 23 rfl rfl
theorem dksX6_nestLine_2 : cX6_nestLine.data.toList.drop 45 = dktX6_nestLine_2 := dk_seg dksX6_nestLine_1 22 rfl rfl
theorem dksX6_nestLine_3 : cX6_nestLine.data.toList.drop 69 = dktX6_nestLine_3 := dk_seg dksX6_nestLine_2 24 rfl rfl
theorem dX6_nestLine_0 : decode cX6_nestLine 0 = .ok (.aload_n 0, 1) := dk_42 (dk_at dksX6_nestLine_0 0 rfl rfl)
theorem dX6_nestLine_1 : decode cX6_nestLine 1 = .ok (.invokevirtual 261, 3) := dk_182 1 5 (dk_at dksX6_nestLine_0 1 rfl rfl)
theorem dX6_nestLine_4 : decode cX6_nestLine 4 = .ok (.aload_n 0, 1) := dk_42 (dk_at dksX6_nestLine_0 4 rfl rfl)
theorem dX6_nestLine_5 : decode cX6_nestLine 5 = .ok (.iconst 0, 1) := dk_3 (dk_at dksX6_nestLine_0 5 rfl rfl)
theorem dX6_nestLine_6 : decode cX6_nestLine 6 = .ok (.aload_n 0, 1) := dk_42 (dk_at dksX6_nestLine_0 6 rfl rfl)
theorem dX6_nestLine_7 : decode cX6_nestLine 7 = .ok (.getfield 7, 3) := dk_180 0 7 (dk_at dksX6_nestLine_0 7 rfl rfl)
theorem dX6_nestLine_10 : decode cX6_nestLine 10 = .ok (.iconst 0, 1) := dk_3 (dk_at dksX6_nestLine_0 10 rfl rfl)
theorem dX6_nestLine_11 : decode cX6_nestLine 11 = .ok (.iaload, 1) := dk_46 (dk_at dksX6_nestLine_0 11 rfl rfl)
theorem dX6_nestLine_12 : decode cX6_nestLine 12 = .ok (.iconst 1, 1) := dk_4 (dk_at dksX6_nestLine_0 12 rfl rfl)
theorem dX6_nestLine_13 : decode cX6_nestLine 13 = .ok (.isub, 1) := dk_100 (dk_at dksX6_nestLine_0 13 rfl rfl)
theorem dX6_nestLine_14 : decode cX6_nestLine 14 = .ok (.invokevirtual 278, 3) := dk_182 1 22 (dk_at dksX6_nestLine_0 14 rfl rfl)
theorem dX6_nestLine_17 : decode cX6_nestLine 17 = .ok (.istore_n 1, 1) := dk_60 (dk_at dksX6_nestLine_0 17 rfl rfl)
theorem dX6_nestLine_18 : decode cX6_nestLine 18 = .ok (.aload_n 0, 1) := dk_42 (dk_at dksX6_nestLine_0 18 rfl rfl)
theorem dX6_nestLine_19 : decode cX6_nestLine 19 = .ok (.aload_n 0, 1) := dk_42 (dk_at dksX6_nestLine_0 19 rfl rfl)
theorem dX6_nestLine_20 : decode cX6_nestLine 20 = .ok (.getfield 244, 3) := dk_180 0 244 (dk_at dksX6_nestLine_0 20 rfl rfl)
theorem dX6_nestLine_23 : decode cX6_nestLine 23 = .ok (.ifCond .ne 11, 3) := dk_154 0 11 (dk_at dksX6_nestLine_1 0 rfl rfl)
theorem dX6_nestLine_26 : decode cX6_nestLine 26 = .ok (.aload_n 0, 1) := dk_42 (dk_at dksX6_nestLine_1 3 rfl rfl)
theorem dX6_nestLine_27 : decode cX6_nestLine 27 = .ok (.iload_n 1, 1) := dk_27 (dk_at dksX6_nestLine_1 4 rfl rfl)
theorem dX6_nestLine_28 : decode cX6_nestLine 28 = .ok (.invokevirtual 77, 3) := dk_182 0 77 (dk_at dksX6_nestLine_1 5 rfl rfl)
theorem dX6_nestLine_31 : decode cX6_nestLine 31 = .ok (.ifCond .ne 7, 3) := dk_154 0 7 (dk_at dksX6_nestLine_1 8 rfl rfl)
theorem dX6_nestLine_34 : decode cX6_nestLine 34 = .ok (.iconst 1, 1) := dk_4 (dk_at dksX6_nestLine_1 11 rfl rfl)
theorem dX6_nestLine_35 : decode cX6_nestLine 35 = .ok (.goto 4, 3) := dk_167 0 4 (dk_at dksX6_nestLine_1 12 rfl rfl)
theorem dX6_nestLine_38 : decode cX6_nestLine 38 = .ok (.iconst 0, 1) := dk_3 (dk_at dksX6_nestLine_1 15 rfl rfl)
theorem dX6_nestLine_39 : decode cX6_nestLine 39 = .ok (.iconst 3, 1) := dk_6 (dk_at dksX6_nestLine_1 16 rfl rfl)
theorem dX6_nestLine_40 : decode cX6_nestLine 40 = .ok (.invokevirtual 253, 3) := dk_182 0 253 (dk_at dksX6_nestLine_1 17 rfl rfl)
theorem dX6_nestLine_43 : decode cX6_nestLine 43 = .ok (.aload_n 0, 1) := dk_42 (dk_at dksX6_nestLine_1 20 rfl rfl)
theorem dX6_nestLine_44 : decode cX6_nestLine 44 = .ok (.aload_n 0, 1) := dk_42 (dk_at dksX6_nestLine_1 21 rfl rfl)
theorem dX6_nestLine_45 : decode cX6_nestLine 45 = .ok (.invokevirtual 209, 3) := dk_182 0 209 (dk_at dksX6_nestLine_2 0 rfl rfl)
theorem dX6_nestLine_48 : decode cX6_nestLine 48 = .ok (.bipush 6, 2) := dk_16 6 (dk_at dksX6_nestLine_2 3 rfl rfl)
theorem dX6_nestLine_50 : decode cX6_nestLine 50 = .ok (.if_icmp .ge 7, 3) := dk_162 0 7 (dk_at dksX6_nestLine_2 5 rfl rfl)
theorem dX6_nestLine_53 : decode cX6_nestLine 53 = .ok (.iconst 1, 1) := dk_4 (dk_at dksX6_nestLine_2 8 rfl rfl)
theorem dX6_nestLine_54 : decode cX6_nestLine 54 = .ok (.goto 4, 3) := dk_167 0 4 (dk_at dksX6_nestLine_2 9 rfl rfl)
theorem dX6_nestLine_57 : decode cX6_nestLine 57 = .ok (.iconst 0, 1) := dk_3 (dk_at dksX6_nestLine_2 12 rfl rfl)
theorem dX6_nestLine_58 : decode cX6_nestLine 58 = .ok (.iconst 4, 1) := dk_7 (dk_at dksX6_nestLine_2 13 rfl rfl)
theorem dX6_nestLine_59 : decode cX6_nestLine 59 = .ok (.invokevirtual 253, 3) := dk_182 0 253 (dk_at dksX6_nestLine_2 14 rfl rfl)
theorem dX6_nestLine_62 : decode cX6_nestLine 62 = .ok (.aload_n 0, 1) := dk_42 (dk_at dksX6_nestLine_2 17 rfl rfl)
theorem dX6_nestLine_63 : decode cX6_nestLine 63 = .ok (.iconst 1, 1) := dk_4 (dk_at dksX6_nestLine_2 18 rfl rfl)
theorem dX6_nestLine_64 : decode cX6_nestLine 64 = .ok (.bipush 30, 2) := dk_16 30 (dk_at dksX6_nestLine_2 19 rfl rfl)
theorem dX6_nestLine_66 : decode cX6_nestLine 66 = .ok (.invokevirtual 278, 3) := dk_182 1 22 (dk_at dksX6_nestLine_2 21 rfl rfl)
theorem dX6_nestLine_69 : decode cX6_nestLine 69 = .ok (.istore_n 2, 1) := dk_61 (dk_at dksX6_nestLine_3 0 rfl rfl)
theorem dX6_nestLine_70 : decode cX6_nestLine 70 = .ok (.aload_n 0, 1) := dk_42 (dk_at dksX6_nestLine_3 1 rfl rfl)
theorem dX6_nestLine_71 : decode cX6_nestLine 71 = .ok (.getfield 244, 3) := dk_180 0 244 (dk_at dksX6_nestLine_3 2 rfl rfl)
theorem dX6_nestLine_74 : decode cX6_nestLine 74 = .ok (.ifCond .ne 10, 3) := dk_154 0 10 (dk_at dksX6_nestLine_3 5 rfl rfl)
theorem dX6_nestLine_77 : decode cX6_nestLine 77 = .ok (.aload_n 0, 1) := dk_42 (dk_at dksX6_nestLine_3 8 rfl rfl)
theorem dX6_nestLine_78 : decode cX6_nestLine 78 = .ok (.iload_n 1, 1) := dk_27 (dk_at dksX6_nestLine_3 9 rfl rfl)
theorem dX6_nestLine_79 : decode cX6_nestLine 79 = .ok (.iconst 4, 1) := dk_7 (dk_at dksX6_nestLine_3 10 rfl rfl)
theorem dX6_nestLine_80 : decode cX6_nestLine 80 = .ok (.iload_n 2, 1) := dk_28 (dk_at dksX6_nestLine_3 11 rfl rfl)
theorem dX6_nestLine_81 : decode cX6_nestLine 81 = .ok (.invokevirtual 87, 3) := dk_182 0 87 (dk_at dksX6_nestLine_3 12 rfl rfl)
theorem dX6_nestLine_84 : decode cX6_nestLine 84 = .ok (.return_, 1) := dk_177 (dk_at dksX6_nestLine_3 15 rfl rfl)
abbrev cX6_hasNest : ByteArray := prog_14_method_16_code
def yX6_hasNest : MethodName := ⟨RX6, "hasNest", "(I)Z"⟩
def dkwX6_hasNest_0 : List UInt8 := [42, 27, 182, 0, 73, 153, 0, 16, 42, 27, 7, 182, 0, 69, 158, 0, 7, 4, 167, 0, 4, 3, 172]
abbrev dktX6_hasNest_0 : List UInt8 := dkwX6_hasNest_0 ++ []
theorem dksX6_hasNest_0 : cX6_hasNest.data.toList.drop 0 = dktX6_hasNest_0 := by decide +kernel
theorem dX6_hasNest_0 : decode cX6_hasNest 0 = .ok (.aload_n 0, 1) := dk_42 (dk_at dksX6_hasNest_0 0 rfl rfl)
theorem dX6_hasNest_1 : decode cX6_hasNest 1 = .ok (.iload_n 1, 1) := dk_27 (dk_at dksX6_hasNest_0 1 rfl rfl)
theorem dX6_hasNest_2 : decode cX6_hasNest 2 = .ok (.invokevirtual 73, 3) := dk_182 0 73 (dk_at dksX6_hasNest_0 2 rfl rfl)
theorem dX6_hasNest_5 : decode cX6_hasNest 5 = .ok (.ifCond .eq 16, 3) := dk_153 0 16 (dk_at dksX6_hasNest_0 5 rfl rfl)
theorem dX6_hasNest_8 : decode cX6_hasNest 8 = .ok (.aload_n 0, 1) := dk_42 (dk_at dksX6_hasNest_0 8 rfl rfl)
theorem dX6_hasNest_9 : decode cX6_hasNest 9 = .ok (.iload_n 1, 1) := dk_27 (dk_at dksX6_hasNest_0 9 rfl rfl)
theorem dX6_hasNest_10 : decode cX6_hasNest 10 = .ok (.iconst 4, 1) := dk_7 (dk_at dksX6_hasNest_0 10 rfl rfl)
theorem dX6_hasNest_11 : decode cX6_hasNest 11 = .ok (.invokevirtual 69, 3) := dk_182 0 69 (dk_at dksX6_hasNest_0 11 rfl rfl)
theorem dX6_hasNest_14 : decode cX6_hasNest 14 = .ok (.ifCond .le 7, 3) := dk_158 0 7 (dk_at dksX6_hasNest_0 14 rfl rfl)
theorem dX6_hasNest_17 : decode cX6_hasNest 17 = .ok (.iconst 1, 1) := dk_4 (dk_at dksX6_hasNest_0 17 rfl rfl)
theorem dX6_hasNest_18 : decode cX6_hasNest 18 = .ok (.goto 4, 3) := dk_167 0 4 (dk_at dksX6_hasNest_0 18 rfl rfl)
theorem dX6_hasNest_21 : decode cX6_hasNest 21 = .ok (.iconst 0, 1) := dk_3 (dk_at dksX6_hasNest_0 21 rfl rfl)
theorem dX6_hasNest_22 : decode cX6_hasNest 22 = .ok (.ireturn, 1) := dk_172 (dk_at dksX6_hasNest_0 22 rfl rfl)
abbrev cX6_isSlot : ByteArray := prog_14_method_13_code
def yX6_isSlot : MethodName := ⟨RX6, "isSlot", "(I)Z"⟩
def dkwX6_isSlot_0 : List UInt8 := [27, 133, 9, 42, 180, 0, 7, 3, 46, 4, 100, 133, 184, 0, 65, 172]
abbrev dktX6_isSlot_0 : List UInt8 := dkwX6_isSlot_0 ++ []
theorem dksX6_isSlot_0 : cX6_isSlot.data.toList.drop 0 = dktX6_isSlot_0 := by decide +kernel
theorem dX6_isSlot_0 : decode cX6_isSlot 0 = .ok (.iload_n 1, 1) := dk_27 (dk_at dksX6_isSlot_0 0 rfl rfl)
theorem dX6_isSlot_1 : decode cX6_isSlot 1 = .ok (.i2l, 1) := dk_133 (dk_at dksX6_isSlot_0 1 rfl rfl)
theorem dX6_isSlot_2 : decode cX6_isSlot 2 = .ok (.lconst 0, 1) := dk_9 (dk_at dksX6_isSlot_0 2 rfl rfl)
theorem dX6_isSlot_3 : decode cX6_isSlot 3 = .ok (.aload_n 0, 1) := dk_42 (dk_at dksX6_isSlot_0 3 rfl rfl)
theorem dX6_isSlot_4 : decode cX6_isSlot 4 = .ok (.getfield 7, 3) := dk_180 0 7 (dk_at dksX6_isSlot_0 4 rfl rfl)
theorem dX6_isSlot_7 : decode cX6_isSlot 7 = .ok (.iconst 0, 1) := dk_3 (dk_at dksX6_isSlot_0 7 rfl rfl)
theorem dX6_isSlot_8 : decode cX6_isSlot 8 = .ok (.iaload, 1) := dk_46 (dk_at dksX6_isSlot_0 8 rfl rfl)
theorem dX6_isSlot_9 : decode cX6_isSlot 9 = .ok (.iconst 1, 1) := dk_4 (dk_at dksX6_isSlot_0 9 rfl rfl)
theorem dX6_isSlot_10 : decode cX6_isSlot 10 = .ok (.isub, 1) := dk_100 (dk_at dksX6_isSlot_0 10 rfl rfl)
theorem dX6_isSlot_11 : decode cX6_isSlot 11 = .ok (.i2l, 1) := dk_133 (dk_at dksX6_isSlot_0 11 rfl rfl)
theorem dX6_isSlot_12 : decode cX6_isSlot 12 = .ok (.invokestatic 65, 3) := dk_184 0 65 (dk_at dksX6_isSlot_0 12 rfl rfl)
theorem dX6_isSlot_15 : decode cX6_isSlot 15 = .ok (.ireturn, 1) := dk_172 (dk_at dksX6_isSlot_0 15 rfl rfl)
abbrev cX6_nests : ByteArray := prog_14_method_18_code
def yX6_nests : MethodName := ⟨RX6, "nests", "()I"⟩
def dkwX6_nests_1 : List UInt8 := [4, 167, 0, 4, 3, 184, 0, 80, 96, 60, 132, 2, 1, 167, 255, 223, 27, 172]
abbrev dktX6_nests_1 : List UInt8 := dkwX6_nests_1 ++ []
def dkwX6_nests_0 : List UInt8 := [3, 60, 3, 61, 28, 42, 180, 0, 7, 3, 46, 162, 0, 29, 27, 42, 28, 7, 182, 0, 69, 158, 0, 7]
abbrev dktX6_nests_0 : List UInt8 := dkwX6_nests_0 ++ dktX6_nests_1
theorem dksX6_nests_0 : cX6_nests.data.toList.drop 0 = dktX6_nests_0 := by decide +kernel
theorem dksX6_nests_1 : cX6_nests.data.toList.drop 24 = dktX6_nests_1 := dk_seg dksX6_nests_0 24 rfl rfl
theorem dX6_nests_0 : decode cX6_nests 0 = .ok (.iconst 0, 1) := dk_3 (dk_at dksX6_nests_0 0 rfl rfl)
theorem dX6_nests_1 : decode cX6_nests 1 = .ok (.istore_n 1, 1) := dk_60 (dk_at dksX6_nests_0 1 rfl rfl)
theorem dX6_nests_2 : decode cX6_nests 2 = .ok (.iconst 0, 1) := dk_3 (dk_at dksX6_nests_0 2 rfl rfl)
theorem dX6_nests_3 : decode cX6_nests 3 = .ok (.istore_n 2, 1) := dk_61 (dk_at dksX6_nests_0 3 rfl rfl)
theorem dX6_nests_4 : decode cX6_nests 4 = .ok (.iload_n 2, 1) := dk_28 (dk_at dksX6_nests_0 4 rfl rfl)
theorem dX6_nests_5 : decode cX6_nests 5 = .ok (.aload_n 0, 1) := dk_42 (dk_at dksX6_nests_0 5 rfl rfl)
theorem dX6_nests_6 : decode cX6_nests 6 = .ok (.getfield 7, 3) := dk_180 0 7 (dk_at dksX6_nests_0 6 rfl rfl)
theorem dX6_nests_9 : decode cX6_nests 9 = .ok (.iconst 0, 1) := dk_3 (dk_at dksX6_nests_0 9 rfl rfl)
theorem dX6_nests_10 : decode cX6_nests 10 = .ok (.iaload, 1) := dk_46 (dk_at dksX6_nests_0 10 rfl rfl)
theorem dX6_nests_11 : decode cX6_nests 11 = .ok (.if_icmp .ge 29, 3) := dk_162 0 29 (dk_at dksX6_nests_0 11 rfl rfl)
theorem dX6_nests_14 : decode cX6_nests 14 = .ok (.iload_n 1, 1) := dk_27 (dk_at dksX6_nests_0 14 rfl rfl)
theorem dX6_nests_15 : decode cX6_nests 15 = .ok (.aload_n 0, 1) := dk_42 (dk_at dksX6_nests_0 15 rfl rfl)
theorem dX6_nests_16 : decode cX6_nests 16 = .ok (.iload_n 2, 1) := dk_28 (dk_at dksX6_nests_0 16 rfl rfl)
theorem dX6_nests_17 : decode cX6_nests 17 = .ok (.iconst 4, 1) := dk_7 (dk_at dksX6_nests_0 17 rfl rfl)
theorem dX6_nests_18 : decode cX6_nests 18 = .ok (.invokevirtual 69, 3) := dk_182 0 69 (dk_at dksX6_nests_0 18 rfl rfl)
theorem dX6_nests_21 : decode cX6_nests 21 = .ok (.ifCond .le 7, 3) := dk_158 0 7 (dk_at dksX6_nests_0 21 rfl rfl)
theorem dX6_nests_24 : decode cX6_nests 24 = .ok (.iconst 1, 1) := dk_4 (dk_at dksX6_nests_1 0 rfl rfl)
theorem dX6_nests_25 : decode cX6_nests 25 = .ok (.goto 4, 3) := dk_167 0 4 (dk_at dksX6_nests_1 1 rfl rfl)
theorem dX6_nests_28 : decode cX6_nests 28 = .ok (.iconst 0, 1) := dk_3 (dk_at dksX6_nests_1 4 rfl rfl)
theorem dX6_nests_29 : decode cX6_nests 29 = .ok (.invokestatic 80, 3) := dk_184 0 80 (dk_at dksX6_nests_1 5 rfl rfl)
theorem dX6_nests_32 : decode cX6_nests 32 = .ok (.iadd, 1) := dk_96 (dk_at dksX6_nests_1 8 rfl rfl)
theorem dX6_nests_33 : decode cX6_nests 33 = .ok (.istore_n 1, 1) := dk_60 (dk_at dksX6_nests_1 9 rfl rfl)
theorem dX6_nests_34 : decode cX6_nests 34 = .ok (.iinc 2 1, 3) := dk_132 2 1 (dk_at dksX6_nests_1 10 rfl rfl)
theorem dX6_nests_37 : decode cX6_nests 37 = .ok (.goto (-33), 3) := dk_167 255 223 (dk_at dksX6_nests_1 13 rfl rfl)
theorem dX6_nests_40 : decode cX6_nests 40 = .ok (.iload_n 1, 1) := dk_27 (dk_at dksX6_nests_1 16 rfl rfl)
theorem dX6_nests_41 : decode cX6_nests 41 = .ok (.ireturn, 1) := dk_172 (dk_at dksX6_nests_1 17 rfl rfl)
abbrev cX6_truth : ByteArray := prog_14_method_4_code
def yX6_truth : MethodName := ⟨RX6, "truth", "(Z)I"⟩
def dkwX6_truth_0 : List UInt8 := [26, 153, 0, 7, 4, 167, 0, 4, 3, 172]
abbrev dktX6_truth_0 : List UInt8 := dkwX6_truth_0 ++ []
theorem dksX6_truth_0 : cX6_truth.data.toList.drop 0 = dktX6_truth_0 := by decide +kernel
theorem dX6_truth_0 : decode cX6_truth 0 = .ok (.iload_n 0, 1) := dk_26 (dk_at dksX6_truth_0 0 rfl rfl)
theorem dX6_truth_1 : decode cX6_truth 1 = .ok (.ifCond .eq 7, 3) := dk_153 0 7 (dk_at dksX6_truth_0 1 rfl rfl)
theorem dX6_truth_4 : decode cX6_truth 4 = .ok (.iconst 1, 1) := dk_4 (dk_at dksX6_truth_0 4 rfl rfl)
theorem dX6_truth_5 : decode cX6_truth 5 = .ok (.goto 4, 3) := dk_167 0 4 (dk_at dksX6_truth_0 5 rfl rfl)
theorem dX6_truth_8 : decode cX6_truth 8 = .ok (.iconst 0, 1) := dk_3 (dk_at dksX6_truth_0 8 rfl rfl)
theorem dX6_truth_9 : decode cX6_truth 9 = .ok (.ireturn, 1) := dk_172 (dk_at dksX6_truth_0 9 rfl rfl)
abbrev cX6_messageLine : ByteArray := prog_14_method_86_code
def yX6_messageLine : MethodName := ⟨RX6, "messageLine", "()V"⟩
def dkwX6_messageLine_2 : List UInt8 := [180, 0, 244, 153, 0, 4, 177, 42, 182, 1, 5, 42, 27, 182, 1, 34, 61, 177]
abbrev dktX6_messageLine_2 : List UInt8 := dkwX6_messageLine_2 ++ []
def dkwX6_messageLine_1 : List UInt8 := [180, 0, 7, 16, 12, 27, 96, 46, 16, 8, 162, 0, 7, 4, 167, 0, 4, 3, 7, 182, 0, 253, 42]
abbrev dktX6_messageLine_1 : List UInt8 := dkwX6_messageLine_1 ++ dktX6_messageLine_2
def dkwX6_messageLine_0 : List UInt8 := [42, 182, 1, 5, 42, 3, 4, 182, 1, 22, 60, 42, 182, 1, 31, 42, 42, 180, 0, 244, 154, 0, 17, 42]
abbrev dktX6_messageLine_0 : List UInt8 := dkwX6_messageLine_0 ++ dktX6_messageLine_1
theorem dksX6_messageLine_0 : cX6_messageLine.data.toList.drop 0 = dktX6_messageLine_0 := by decide +kernel
theorem dksX6_messageLine_1 : cX6_messageLine.data.toList.drop 24 = dktX6_messageLine_1 := dk_seg dksX6_messageLine_0 24 rfl rfl
theorem dksX6_messageLine_2 : cX6_messageLine.data.toList.drop 47 = dktX6_messageLine_2 := dk_seg dksX6_messageLine_1 23 rfl rfl
theorem dX6_messageLine_0 : decode cX6_messageLine 0 = .ok (.aload_n 0, 1) := dk_42 (dk_at dksX6_messageLine_0 0 rfl rfl)
theorem dX6_messageLine_1 : decode cX6_messageLine 1 = .ok (.invokevirtual 261, 3) := dk_182 1 5 (dk_at dksX6_messageLine_0 1 rfl rfl)
theorem dX6_messageLine_4 : decode cX6_messageLine 4 = .ok (.aload_n 0, 1) := dk_42 (dk_at dksX6_messageLine_0 4 rfl rfl)
theorem dX6_messageLine_5 : decode cX6_messageLine 5 = .ok (.iconst 0, 1) := dk_3 (dk_at dksX6_messageLine_0 5 rfl rfl)
theorem dX6_messageLine_6 : decode cX6_messageLine 6 = .ok (.iconst 1, 1) := dk_4 (dk_at dksX6_messageLine_0 6 rfl rfl)
theorem dX6_messageLine_7 : decode cX6_messageLine 7 = .ok (.invokevirtual 278, 3) := dk_182 1 22 (dk_at dksX6_messageLine_0 7 rfl rfl)
theorem dX6_messageLine_10 : decode cX6_messageLine 10 = .ok (.istore_n 1, 1) := dk_60 (dk_at dksX6_messageLine_0 10 rfl rfl)
theorem dX6_messageLine_11 : decode cX6_messageLine 11 = .ok (.aload_n 0, 1) := dk_42 (dk_at dksX6_messageLine_0 11 rfl rfl)
theorem dX6_messageLine_12 : decode cX6_messageLine 12 = .ok (.invokevirtual 287, 3) := dk_182 1 31 (dk_at dksX6_messageLine_0 12 rfl rfl)
theorem dX6_messageLine_15 : decode cX6_messageLine 15 = .ok (.aload_n 0, 1) := dk_42 (dk_at dksX6_messageLine_0 15 rfl rfl)
theorem dX6_messageLine_16 : decode cX6_messageLine 16 = .ok (.aload_n 0, 1) := dk_42 (dk_at dksX6_messageLine_0 16 rfl rfl)
theorem dX6_messageLine_17 : decode cX6_messageLine 17 = .ok (.getfield 244, 3) := dk_180 0 244 (dk_at dksX6_messageLine_0 17 rfl rfl)
theorem dX6_messageLine_20 : decode cX6_messageLine 20 = .ok (.ifCond .ne 17, 3) := dk_154 0 17 (dk_at dksX6_messageLine_0 20 rfl rfl)
theorem dX6_messageLine_23 : decode cX6_messageLine 23 = .ok (.aload_n 0, 1) := dk_42 (dk_at dksX6_messageLine_0 23 rfl rfl)
theorem dX6_messageLine_24 : decode cX6_messageLine 24 = .ok (.getfield 7, 3) := dk_180 0 7 (dk_at dksX6_messageLine_1 0 rfl rfl)
theorem dX6_messageLine_27 : decode cX6_messageLine 27 = .ok (.bipush 12, 2) := dk_16 12 (dk_at dksX6_messageLine_1 3 rfl rfl)
theorem dX6_messageLine_29 : decode cX6_messageLine 29 = .ok (.iload_n 1, 1) := dk_27 (dk_at dksX6_messageLine_1 5 rfl rfl)
theorem dX6_messageLine_30 : decode cX6_messageLine 30 = .ok (.iadd, 1) := dk_96 (dk_at dksX6_messageLine_1 6 rfl rfl)
theorem dX6_messageLine_31 : decode cX6_messageLine 31 = .ok (.iaload, 1) := dk_46 (dk_at dksX6_messageLine_1 7 rfl rfl)
theorem dX6_messageLine_32 : decode cX6_messageLine 32 = .ok (.bipush 8, 2) := dk_16 8 (dk_at dksX6_messageLine_1 8 rfl rfl)
theorem dX6_messageLine_34 : decode cX6_messageLine 34 = .ok (.if_icmp .ge 7, 3) := dk_162 0 7 (dk_at dksX6_messageLine_1 10 rfl rfl)
theorem dX6_messageLine_37 : decode cX6_messageLine 37 = .ok (.iconst 1, 1) := dk_4 (dk_at dksX6_messageLine_1 13 rfl rfl)
theorem dX6_messageLine_38 : decode cX6_messageLine 38 = .ok (.goto 4, 3) := dk_167 0 4 (dk_at dksX6_messageLine_1 14 rfl rfl)
theorem dX6_messageLine_41 : decode cX6_messageLine 41 = .ok (.iconst 0, 1) := dk_3 (dk_at dksX6_messageLine_1 17 rfl rfl)
theorem dX6_messageLine_42 : decode cX6_messageLine 42 = .ok (.iconst 4, 1) := dk_7 (dk_at dksX6_messageLine_1 18 rfl rfl)
theorem dX6_messageLine_43 : decode cX6_messageLine 43 = .ok (.invokevirtual 253, 3) := dk_182 0 253 (dk_at dksX6_messageLine_1 19 rfl rfl)
theorem dX6_messageLine_46 : decode cX6_messageLine 46 = .ok (.aload_n 0, 1) := dk_42 (dk_at dksX6_messageLine_1 22 rfl rfl)
theorem dX6_messageLine_47 : decode cX6_messageLine 47 = .ok (.getfield 244, 3) := dk_180 0 244 (dk_at dksX6_messageLine_2 0 rfl rfl)
theorem dX6_messageLine_50 : decode cX6_messageLine 50 = .ok (.ifCond .eq 4, 3) := dk_153 0 4 (dk_at dksX6_messageLine_2 3 rfl rfl)
theorem dX6_messageLine_53 : decode cX6_messageLine 53 = .ok (.return_, 1) := dk_177 (dk_at dksX6_messageLine_2 6 rfl rfl)
theorem dX6_messageLine_54 : decode cX6_messageLine 54 = .ok (.aload_n 0, 1) := dk_42 (dk_at dksX6_messageLine_2 7 rfl rfl)
theorem dX6_messageLine_55 : decode cX6_messageLine 55 = .ok (.invokevirtual 261, 3) := dk_182 1 5 (dk_at dksX6_messageLine_2 8 rfl rfl)
theorem dX6_messageLine_58 : decode cX6_messageLine 58 = .ok (.aload_n 0, 1) := dk_42 (dk_at dksX6_messageLine_2 11 rfl rfl)
theorem dX6_messageLine_59 : decode cX6_messageLine 59 = .ok (.iload_n 1, 1) := dk_27 (dk_at dksX6_messageLine_2 12 rfl rfl)
theorem dX6_messageLine_60 : decode cX6_messageLine 60 = .ok (.invokevirtual 290, 3) := dk_182 1 34 (dk_at dksX6_messageLine_2 13 rfl rfl)
theorem dX6_messageLine_63 : decode cX6_messageLine 63 = .ok (.istore_n 2, 1) := dk_61 (dk_at dksX6_messageLine_2 16 rfl rfl)
theorem dX6_messageLine_64 : decode cX6_messageLine 64 = .ok (.return_, 1) := dk_177 (dk_at dksX6_messageLine_2 17 rfl rfl)
abbrev cX6_wordHere : ByteArray := prog_14_method_78_code
def yX6_wordHere : MethodName := ⟨RX6, "wordHere", "()V"⟩
def dkwX6_wordHere_2 : List UInt8 := [182, 1, 10, 177]
abbrev dktX6_wordHere_2 : List UInt8 := dkwX6_wordHere_2 ++ []
def dkwX6_wordHere_1 : List UInt8 := [184, 0, 65, 4, 182, 0, 253, 42, 180, 0, 244, 154, 0, 15, 42, 42, 180, 0, 234, 42, 180, 0, 237]
abbrev dktX6_wordHere_1 : List UInt8 := dkwX6_wordHere_1 ++ dktX6_wordHere_2
def dkwX6_wordHere_0 : List UInt8 := [42, 180, 0, 244, 153, 0, 4, 177, 42, 182, 0, 250, 60, 42, 42, 180, 0, 237, 133, 10, 20, 1, 8]
abbrev dktX6_wordHere_0 : List UInt8 := dkwX6_wordHere_0 ++ dktX6_wordHere_1
theorem dksX6_wordHere_0 : cX6_wordHere.data.toList.drop 0 = dktX6_wordHere_0 := by decide +kernel
theorem dksX6_wordHere_1 : cX6_wordHere.data.toList.drop 23 = dktX6_wordHere_1 := dk_seg dksX6_wordHere_0 23 rfl rfl
theorem dksX6_wordHere_2 : cX6_wordHere.data.toList.drop 46 = dktX6_wordHere_2 := dk_seg dksX6_wordHere_1 23 rfl rfl
theorem dX6_wordHere_0 : decode cX6_wordHere 0 = .ok (.aload_n 0, 1) := dk_42 (dk_at dksX6_wordHere_0 0 rfl rfl)
theorem dX6_wordHere_1 : decode cX6_wordHere 1 = .ok (.getfield 244, 3) := dk_180 0 244 (dk_at dksX6_wordHere_0 1 rfl rfl)
theorem dX6_wordHere_4 : decode cX6_wordHere 4 = .ok (.ifCond .eq 4, 3) := dk_153 0 4 (dk_at dksX6_wordHere_0 4 rfl rfl)
theorem dX6_wordHere_7 : decode cX6_wordHere 7 = .ok (.return_, 1) := dk_177 (dk_at dksX6_wordHere_0 7 rfl rfl)
theorem dX6_wordHere_8 : decode cX6_wordHere 8 = .ok (.aload_n 0, 1) := dk_42 (dk_at dksX6_wordHere_0 8 rfl rfl)
theorem dX6_wordHere_9 : decode cX6_wordHere 9 = .ok (.invokevirtual 250, 3) := dk_182 0 250 (dk_at dksX6_wordHere_0 9 rfl rfl)
theorem dX6_wordHere_12 : decode cX6_wordHere 12 = .ok (.istore_n 1, 1) := dk_60 (dk_at dksX6_wordHere_0 12 rfl rfl)
theorem dX6_wordHere_13 : decode cX6_wordHere 13 = .ok (.aload_n 0, 1) := dk_42 (dk_at dksX6_wordHere_0 13 rfl rfl)
theorem dX6_wordHere_14 : decode cX6_wordHere 14 = .ok (.aload_n 0, 1) := dk_42 (dk_at dksX6_wordHere_0 14 rfl rfl)
theorem dX6_wordHere_15 : decode cX6_wordHere 15 = .ok (.getfield 237, 3) := dk_180 0 237 (dk_at dksX6_wordHere_0 15 rfl rfl)
theorem dX6_wordHere_18 : decode cX6_wordHere 18 = .ok (.i2l, 1) := dk_133 (dk_at dksX6_wordHere_0 18 rfl rfl)
theorem dX6_wordHere_19 : decode cX6_wordHere 19 = .ok (.lconst 1, 1) := dk_10 (dk_at dksX6_wordHere_0 19 rfl rfl)
theorem dX6_wordHere_20 : decode cX6_wordHere 20 = .ok (.ldc2_w 264, 3) := dk_20 1 8 (dk_at dksX6_wordHere_0 20 rfl rfl)
theorem dX6_wordHere_23 : decode cX6_wordHere 23 = .ok (.invokestatic 65, 3) := dk_184 0 65 (dk_at dksX6_wordHere_1 0 rfl rfl)
theorem dX6_wordHere_26 : decode cX6_wordHere 26 = .ok (.iconst 1, 1) := dk_4 (dk_at dksX6_wordHere_1 3 rfl rfl)
theorem dX6_wordHere_27 : decode cX6_wordHere 27 = .ok (.invokevirtual 253, 3) := dk_182 0 253 (dk_at dksX6_wordHere_1 4 rfl rfl)
theorem dX6_wordHere_30 : decode cX6_wordHere 30 = .ok (.aload_n 0, 1) := dk_42 (dk_at dksX6_wordHere_1 7 rfl rfl)
theorem dX6_wordHere_31 : decode cX6_wordHere 31 = .ok (.getfield 244, 3) := dk_180 0 244 (dk_at dksX6_wordHere_1 8 rfl rfl)
theorem dX6_wordHere_34 : decode cX6_wordHere 34 = .ok (.ifCond .ne 15, 3) := dk_154 0 15 (dk_at dksX6_wordHere_1 11 rfl rfl)
theorem dX6_wordHere_37 : decode cX6_wordHere 37 = .ok (.aload_n 0, 1) := dk_42 (dk_at dksX6_wordHere_1 14 rfl rfl)
theorem dX6_wordHere_38 : decode cX6_wordHere 38 = .ok (.aload_n 0, 1) := dk_42 (dk_at dksX6_wordHere_1 15 rfl rfl)
theorem dX6_wordHere_39 : decode cX6_wordHere 39 = .ok (.getfield 234, 3) := dk_180 0 234 (dk_at dksX6_wordHere_1 16 rfl rfl)
theorem dX6_wordHere_42 : decode cX6_wordHere 42 = .ok (.aload_n 0, 1) := dk_42 (dk_at dksX6_wordHere_1 19 rfl rfl)
theorem dX6_wordHere_43 : decode cX6_wordHere 43 = .ok (.getfield 237, 3) := dk_180 0 237 (dk_at dksX6_wordHere_1 20 rfl rfl)
theorem dX6_wordHere_46 : decode cX6_wordHere 46 = .ok (.invokevirtual 266, 3) := dk_182 1 10 (dk_at dksX6_wordHere_2 0 rfl rfl)
theorem dX6_wordHere_49 : decode cX6_wordHere 49 = .ok (.return_, 1) := dk_177 (dk_at dksX6_wordHere_2 3 rfl rfl)
abbrev cX6_takesWord : ByteArray := prog_14_method_77_code
def yX6_takesWord : MethodName := ⟨RX6, "takesWord", "(II)V"⟩
def dkwX6_takesWord_1 : List UInt8 := [162, 0, 14, 42, 180, 0, 28, 27, 29, 96, 46, 167, 0, 4, 3, 79, 132, 3, 1, 167, 255, 222, 177]
abbrev dktX6_takesWord_1 : List UInt8 := dkwX6_takesWord_1 ++ []
def dkwX6_takesWord_0 : List UInt8 := [42, 180, 0, 25, 3, 28, 79, 3, 62, 29, 16, 12, 162, 0, 34, 42, 180, 0, 25, 4, 29, 96, 29, 28]
abbrev dktX6_takesWord_0 : List UInt8 := dkwX6_takesWord_0 ++ dktX6_takesWord_1
theorem dksX6_takesWord_0 : cX6_takesWord.data.toList.drop 0 = dktX6_takesWord_0 := by decide +kernel
theorem dksX6_takesWord_1 : cX6_takesWord.data.toList.drop 24 = dktX6_takesWord_1 := dk_seg dksX6_takesWord_0 24 rfl rfl
theorem dX6_takesWord_0 : decode cX6_takesWord 0 = .ok (.aload_n 0, 1) := dk_42 (dk_at dksX6_takesWord_0 0 rfl rfl)
theorem dX6_takesWord_1 : decode cX6_takesWord 1 = .ok (.getfield 25, 3) := dk_180 0 25 (dk_at dksX6_takesWord_0 1 rfl rfl)
theorem dX6_takesWord_4 : decode cX6_takesWord 4 = .ok (.iconst 0, 1) := dk_3 (dk_at dksX6_takesWord_0 4 rfl rfl)
theorem dX6_takesWord_5 : decode cX6_takesWord 5 = .ok (.iload_n 2, 1) := dk_28 (dk_at dksX6_takesWord_0 5 rfl rfl)
theorem dX6_takesWord_6 : decode cX6_takesWord 6 = .ok (.iastore, 1) := dk_79 (dk_at dksX6_takesWord_0 6 rfl rfl)
theorem dX6_takesWord_7 : decode cX6_takesWord 7 = .ok (.iconst 0, 1) := dk_3 (dk_at dksX6_takesWord_0 7 rfl rfl)
theorem dX6_takesWord_8 : decode cX6_takesWord 8 = .ok (.istore_n 3, 1) := dk_62 (dk_at dksX6_takesWord_0 8 rfl rfl)
theorem dX6_takesWord_9 : decode cX6_takesWord 9 = .ok (.iload_n 3, 1) := dk_29 (dk_at dksX6_takesWord_0 9 rfl rfl)
theorem dX6_takesWord_10 : decode cX6_takesWord 10 = .ok (.bipush 12, 2) := dk_16 12 (dk_at dksX6_takesWord_0 10 rfl rfl)
theorem dX6_takesWord_12 : decode cX6_takesWord 12 = .ok (.if_icmp .ge 34, 3) := dk_162 0 34 (dk_at dksX6_takesWord_0 12 rfl rfl)
theorem dX6_takesWord_15 : decode cX6_takesWord 15 = .ok (.aload_n 0, 1) := dk_42 (dk_at dksX6_takesWord_0 15 rfl rfl)
theorem dX6_takesWord_16 : decode cX6_takesWord 16 = .ok (.getfield 25, 3) := dk_180 0 25 (dk_at dksX6_takesWord_0 16 rfl rfl)
theorem dX6_takesWord_19 : decode cX6_takesWord 19 = .ok (.iconst 1, 1) := dk_4 (dk_at dksX6_takesWord_0 19 rfl rfl)
theorem dX6_takesWord_20 : decode cX6_takesWord 20 = .ok (.iload_n 3, 1) := dk_29 (dk_at dksX6_takesWord_0 20 rfl rfl)
theorem dX6_takesWord_21 : decode cX6_takesWord 21 = .ok (.iadd, 1) := dk_96 (dk_at dksX6_takesWord_0 21 rfl rfl)
theorem dX6_takesWord_22 : decode cX6_takesWord 22 = .ok (.iload_n 3, 1) := dk_29 (dk_at dksX6_takesWord_0 22 rfl rfl)
theorem dX6_takesWord_23 : decode cX6_takesWord 23 = .ok (.iload_n 2, 1) := dk_28 (dk_at dksX6_takesWord_0 23 rfl rfl)
theorem dX6_takesWord_24 : decode cX6_takesWord 24 = .ok (.if_icmp .ge 14, 3) := dk_162 0 14 (dk_at dksX6_takesWord_1 0 rfl rfl)
theorem dX6_takesWord_27 : decode cX6_takesWord 27 = .ok (.aload_n 0, 1) := dk_42 (dk_at dksX6_takesWord_1 3 rfl rfl)
theorem dX6_takesWord_28 : decode cX6_takesWord 28 = .ok (.getfield 28, 3) := dk_180 0 28 (dk_at dksX6_takesWord_1 4 rfl rfl)
theorem dX6_takesWord_31 : decode cX6_takesWord 31 = .ok (.iload_n 1, 1) := dk_27 (dk_at dksX6_takesWord_1 7 rfl rfl)
theorem dX6_takesWord_32 : decode cX6_takesWord 32 = .ok (.iload_n 3, 1) := dk_29 (dk_at dksX6_takesWord_1 8 rfl rfl)
theorem dX6_takesWord_33 : decode cX6_takesWord 33 = .ok (.iadd, 1) := dk_96 (dk_at dksX6_takesWord_1 9 rfl rfl)
theorem dX6_takesWord_34 : decode cX6_takesWord 34 = .ok (.iaload, 1) := dk_46 (dk_at dksX6_takesWord_1 10 rfl rfl)
theorem dX6_takesWord_35 : decode cX6_takesWord 35 = .ok (.goto 4, 3) := dk_167 0 4 (dk_at dksX6_takesWord_1 11 rfl rfl)
theorem dX6_takesWord_38 : decode cX6_takesWord 38 = .ok (.iconst 0, 1) := dk_3 (dk_at dksX6_takesWord_1 14 rfl rfl)
theorem dX6_takesWord_39 : decode cX6_takesWord 39 = .ok (.iastore, 1) := dk_79 (dk_at dksX6_takesWord_1 15 rfl rfl)
theorem dX6_takesWord_40 : decode cX6_takesWord 40 = .ok (.iinc 3 1, 3) := dk_132 3 1 (dk_at dksX6_takesWord_1 16 rfl rfl)
theorem dX6_takesWord_43 : decode cX6_takesWord 43 = .ok (.goto (-34), 3) := dk_167 255 222 (dk_at dksX6_takesWord_1 19 rfl rfl)
theorem dX6_takesWord_46 : decode cX6_takesWord 46 = .ok (.return_, 1) := dk_177 (dk_at dksX6_takesWord_1 22 rfl rfl)
abbrev cX6_messageNow : ByteArray := prog_14_method_61_code
def yX6_messageNow : MethodName := ⟨RX6, "messageNow", "(I)Z"⟩
def dkwX6_messageNow_4 : List UInt8 := [181, 0, 200, 4, 172]
abbrev dktX6_messageNow_4 : List UInt8 := dkwX6_messageNow_4 ++ []
def dkwX6_messageNow_3 : List UInt8 := [79, 42, 180, 0, 7, 16, 14, 27, 96, 92, 46, 4, 96, 79, 42, 42, 180, 0, 7, 16, 12, 27, 96, 46]
abbrev dktX6_messageNow_3 : List UInt8 := dkwX6_messageNow_3 ++ dktX6_messageNow_4
def dkwX6_messageNow_2 : List UInt8 := [180, 0, 25, 29, 46, 79, 132, 3, 1, 167, 255, 233, 42, 180, 0, 7, 16, 12, 27, 96, 92, 46, 4, 96]
abbrev dktX6_messageNow_2 : List UInt8 := dkwX6_messageNow_2 ++ dktX6_messageNow_3
def dkwX6_messageNow_1 : List UInt8 := [96, 46, 184, 0, 114, 61, 3, 62, 29, 16, 13, 162, 0, 23, 42, 180, 0, 7, 28, 29, 96, 42]
abbrev dktX6_messageNow_1 : List UInt8 := dkwX6_messageNow_1 ++ dktX6_messageNow_2
def dkwX6_messageNow_0 : List UInt8 := [42, 180, 0, 7, 16, 12, 27, 96, 46, 16, 8, 160, 0, 5, 3, 172, 27, 42, 180, 0, 7, 16, 12, 27]
abbrev dktX6_messageNow_0 : List UInt8 := dkwX6_messageNow_0 ++ dktX6_messageNow_1
theorem dksX6_messageNow_0 : cX6_messageNow.data.toList.drop 0 = dktX6_messageNow_0 := by decide +kernel
theorem dksX6_messageNow_1 : cX6_messageNow.data.toList.drop 24 = dktX6_messageNow_1 := dk_seg dksX6_messageNow_0 24 rfl rfl
theorem dksX6_messageNow_2 : cX6_messageNow.data.toList.drop 46 = dktX6_messageNow_2 := dk_seg dksX6_messageNow_1 22 rfl rfl
theorem dksX6_messageNow_3 : cX6_messageNow.data.toList.drop 70 = dktX6_messageNow_3 := dk_seg dksX6_messageNow_2 24 rfl rfl
theorem dksX6_messageNow_4 : cX6_messageNow.data.toList.drop 94 = dktX6_messageNow_4 := dk_seg dksX6_messageNow_3 24 rfl rfl
theorem dX6_messageNow_0 : decode cX6_messageNow 0 = .ok (.aload_n 0, 1) := dk_42 (dk_at dksX6_messageNow_0 0 rfl rfl)
theorem dX6_messageNow_1 : decode cX6_messageNow 1 = .ok (.getfield 7, 3) := dk_180 0 7 (dk_at dksX6_messageNow_0 1 rfl rfl)
theorem dX6_messageNow_4 : decode cX6_messageNow 4 = .ok (.bipush 12, 2) := dk_16 12 (dk_at dksX6_messageNow_0 4 rfl rfl)
theorem dX6_messageNow_6 : decode cX6_messageNow 6 = .ok (.iload_n 1, 1) := dk_27 (dk_at dksX6_messageNow_0 6 rfl rfl)
theorem dX6_messageNow_7 : decode cX6_messageNow 7 = .ok (.iadd, 1) := dk_96 (dk_at dksX6_messageNow_0 7 rfl rfl)
theorem dX6_messageNow_8 : decode cX6_messageNow 8 = .ok (.iaload, 1) := dk_46 (dk_at dksX6_messageNow_0 8 rfl rfl)
theorem dX6_messageNow_9 : decode cX6_messageNow 9 = .ok (.bipush 8, 2) := dk_16 8 (dk_at dksX6_messageNow_0 9 rfl rfl)
theorem dX6_messageNow_11 : decode cX6_messageNow 11 = .ok (.if_icmp .ne 5, 3) := dk_160 0 5 (dk_at dksX6_messageNow_0 11 rfl rfl)
theorem dX6_messageNow_14 : decode cX6_messageNow 14 = .ok (.iconst 0, 1) := dk_3 (dk_at dksX6_messageNow_0 14 rfl rfl)
theorem dX6_messageNow_15 : decode cX6_messageNow 15 = .ok (.ireturn, 1) := dk_172 (dk_at dksX6_messageNow_0 15 rfl rfl)
theorem dX6_messageNow_16 : decode cX6_messageNow 16 = .ok (.iload_n 1, 1) := dk_27 (dk_at dksX6_messageNow_0 16 rfl rfl)
theorem dX6_messageNow_17 : decode cX6_messageNow 17 = .ok (.aload_n 0, 1) := dk_42 (dk_at dksX6_messageNow_0 17 rfl rfl)
theorem dX6_messageNow_18 : decode cX6_messageNow 18 = .ok (.getfield 7, 3) := dk_180 0 7 (dk_at dksX6_messageNow_0 18 rfl rfl)
theorem dX6_messageNow_21 : decode cX6_messageNow 21 = .ok (.bipush 12, 2) := dk_16 12 (dk_at dksX6_messageNow_0 21 rfl rfl)
theorem dX6_messageNow_23 : decode cX6_messageNow 23 = .ok (.iload_n 1, 1) := dk_27 (dk_at dksX6_messageNow_0 23 rfl rfl)
theorem dX6_messageNow_24 : decode cX6_messageNow 24 = .ok (.iadd, 1) := dk_96 (dk_at dksX6_messageNow_1 0 rfl rfl)
theorem dX6_messageNow_25 : decode cX6_messageNow 25 = .ok (.iaload, 1) := dk_46 (dk_at dksX6_messageNow_1 1 rfl rfl)
theorem dX6_messageNow_26 : decode cX6_messageNow 26 = .ok (.invokestatic 114, 3) := dk_184 0 114 (dk_at dksX6_messageNow_1 2 rfl rfl)
theorem dX6_messageNow_29 : decode cX6_messageNow 29 = .ok (.istore_n 2, 1) := dk_61 (dk_at dksX6_messageNow_1 5 rfl rfl)
theorem dX6_messageNow_30 : decode cX6_messageNow 30 = .ok (.iconst 0, 1) := dk_3 (dk_at dksX6_messageNow_1 6 rfl rfl)
theorem dX6_messageNow_31 : decode cX6_messageNow 31 = .ok (.istore_n 3, 1) := dk_62 (dk_at dksX6_messageNow_1 7 rfl rfl)
theorem dX6_messageNow_32 : decode cX6_messageNow 32 = .ok (.iload_n 3, 1) := dk_29 (dk_at dksX6_messageNow_1 8 rfl rfl)
theorem dX6_messageNow_33 : decode cX6_messageNow 33 = .ok (.bipush 13, 2) := dk_16 13 (dk_at dksX6_messageNow_1 9 rfl rfl)
theorem dX6_messageNow_35 : decode cX6_messageNow 35 = .ok (.if_icmp .ge 23, 3) := dk_162 0 23 (dk_at dksX6_messageNow_1 11 rfl rfl)
theorem dX6_messageNow_38 : decode cX6_messageNow 38 = .ok (.aload_n 0, 1) := dk_42 (dk_at dksX6_messageNow_1 14 rfl rfl)
theorem dX6_messageNow_39 : decode cX6_messageNow 39 = .ok (.getfield 7, 3) := dk_180 0 7 (dk_at dksX6_messageNow_1 15 rfl rfl)
theorem dX6_messageNow_42 : decode cX6_messageNow 42 = .ok (.iload_n 2, 1) := dk_28 (dk_at dksX6_messageNow_1 18 rfl rfl)
theorem dX6_messageNow_43 : decode cX6_messageNow 43 = .ok (.iload_n 3, 1) := dk_29 (dk_at dksX6_messageNow_1 19 rfl rfl)
theorem dX6_messageNow_44 : decode cX6_messageNow 44 = .ok (.iadd, 1) := dk_96 (dk_at dksX6_messageNow_1 20 rfl rfl)
theorem dX6_messageNow_45 : decode cX6_messageNow 45 = .ok (.aload_n 0, 1) := dk_42 (dk_at dksX6_messageNow_1 21 rfl rfl)
theorem dX6_messageNow_46 : decode cX6_messageNow 46 = .ok (.getfield 25, 3) := dk_180 0 25 (dk_at dksX6_messageNow_2 0 rfl rfl)
theorem dX6_messageNow_49 : decode cX6_messageNow 49 = .ok (.iload_n 3, 1) := dk_29 (dk_at dksX6_messageNow_2 3 rfl rfl)
theorem dX6_messageNow_50 : decode cX6_messageNow 50 = .ok (.iaload, 1) := dk_46 (dk_at dksX6_messageNow_2 4 rfl rfl)
theorem dX6_messageNow_51 : decode cX6_messageNow 51 = .ok (.iastore, 1) := dk_79 (dk_at dksX6_messageNow_2 5 rfl rfl)
theorem dX6_messageNow_52 : decode cX6_messageNow 52 = .ok (.iinc 3 1, 3) := dk_132 3 1 (dk_at dksX6_messageNow_2 6 rfl rfl)
theorem dX6_messageNow_55 : decode cX6_messageNow 55 = .ok (.goto (-23), 3) := dk_167 255 233 (dk_at dksX6_messageNow_2 9 rfl rfl)
theorem dX6_messageNow_58 : decode cX6_messageNow 58 = .ok (.aload_n 0, 1) := dk_42 (dk_at dksX6_messageNow_2 12 rfl rfl)
theorem dX6_messageNow_59 : decode cX6_messageNow 59 = .ok (.getfield 7, 3) := dk_180 0 7 (dk_at dksX6_messageNow_2 13 rfl rfl)
theorem dX6_messageNow_62 : decode cX6_messageNow 62 = .ok (.bipush 12, 2) := dk_16 12 (dk_at dksX6_messageNow_2 16 rfl rfl)
theorem dX6_messageNow_64 : decode cX6_messageNow 64 = .ok (.iload_n 1, 1) := dk_27 (dk_at dksX6_messageNow_2 18 rfl rfl)
theorem dX6_messageNow_65 : decode cX6_messageNow 65 = .ok (.iadd, 1) := dk_96 (dk_at dksX6_messageNow_2 19 rfl rfl)
theorem dX6_messageNow_66 : decode cX6_messageNow 66 = .ok (.dup2, 1) := dk_92 (dk_at dksX6_messageNow_2 20 rfl rfl)
theorem dX6_messageNow_67 : decode cX6_messageNow 67 = .ok (.iaload, 1) := dk_46 (dk_at dksX6_messageNow_2 21 rfl rfl)
theorem dX6_messageNow_68 : decode cX6_messageNow 68 = .ok (.iconst 1, 1) := dk_4 (dk_at dksX6_messageNow_2 22 rfl rfl)
theorem dX6_messageNow_69 : decode cX6_messageNow 69 = .ok (.iadd, 1) := dk_96 (dk_at dksX6_messageNow_2 23 rfl rfl)
theorem dX6_messageNow_70 : decode cX6_messageNow 70 = .ok (.iastore, 1) := dk_79 (dk_at dksX6_messageNow_3 0 rfl rfl)
theorem dX6_messageNow_71 : decode cX6_messageNow 71 = .ok (.aload_n 0, 1) := dk_42 (dk_at dksX6_messageNow_3 1 rfl rfl)
theorem dX6_messageNow_72 : decode cX6_messageNow 72 = .ok (.getfield 7, 3) := dk_180 0 7 (dk_at dksX6_messageNow_3 2 rfl rfl)
theorem dX6_messageNow_75 : decode cX6_messageNow 75 = .ok (.bipush 14, 2) := dk_16 14 (dk_at dksX6_messageNow_3 5 rfl rfl)
theorem dX6_messageNow_77 : decode cX6_messageNow 77 = .ok (.iload_n 1, 1) := dk_27 (dk_at dksX6_messageNow_3 7 rfl rfl)
theorem dX6_messageNow_78 : decode cX6_messageNow 78 = .ok (.iadd, 1) := dk_96 (dk_at dksX6_messageNow_3 8 rfl rfl)
theorem dX6_messageNow_79 : decode cX6_messageNow 79 = .ok (.dup2, 1) := dk_92 (dk_at dksX6_messageNow_3 9 rfl rfl)
theorem dX6_messageNow_80 : decode cX6_messageNow 80 = .ok (.iaload, 1) := dk_46 (dk_at dksX6_messageNow_3 10 rfl rfl)
theorem dX6_messageNow_81 : decode cX6_messageNow 81 = .ok (.iconst 1, 1) := dk_4 (dk_at dksX6_messageNow_3 11 rfl rfl)
theorem dX6_messageNow_82 : decode cX6_messageNow 82 = .ok (.iadd, 1) := dk_96 (dk_at dksX6_messageNow_3 12 rfl rfl)
theorem dX6_messageNow_83 : decode cX6_messageNow 83 = .ok (.iastore, 1) := dk_79 (dk_at dksX6_messageNow_3 13 rfl rfl)
theorem dX6_messageNow_84 : decode cX6_messageNow 84 = .ok (.aload_n 0, 1) := dk_42 (dk_at dksX6_messageNow_3 14 rfl rfl)
theorem dX6_messageNow_85 : decode cX6_messageNow 85 = .ok (.aload_n 0, 1) := dk_42 (dk_at dksX6_messageNow_3 15 rfl rfl)
theorem dX6_messageNow_86 : decode cX6_messageNow 86 = .ok (.getfield 7, 3) := dk_180 0 7 (dk_at dksX6_messageNow_3 16 rfl rfl)
theorem dX6_messageNow_89 : decode cX6_messageNow 89 = .ok (.bipush 12, 2) := dk_16 12 (dk_at dksX6_messageNow_3 19 rfl rfl)
theorem dX6_messageNow_91 : decode cX6_messageNow 91 = .ok (.iload_n 1, 1) := dk_27 (dk_at dksX6_messageNow_3 21 rfl rfl)
theorem dX6_messageNow_92 : decode cX6_messageNow 92 = .ok (.iadd, 1) := dk_96 (dk_at dksX6_messageNow_3 22 rfl rfl)
theorem dX6_messageNow_93 : decode cX6_messageNow 93 = .ok (.iaload, 1) := dk_46 (dk_at dksX6_messageNow_3 23 rfl rfl)
theorem dX6_messageNow_94 : decode cX6_messageNow 94 = .ok (.putfield 200, 3) := dk_181 0 200 (dk_at dksX6_messageNow_4 0 rfl rfl)
theorem dX6_messageNow_97 : decode cX6_messageNow 97 = .ok (.iconst 1, 1) := dk_4 (dk_at dksX6_messageNow_4 3 rfl rfl)
theorem dX6_messageNow_98 : decode cX6_messageNow 98 = .ok (.ireturn, 1) := dk_172 (dk_at dksX6_messageNow_4 4 rfl rfl)
abbrev cX6_waitingAt : ByteArray := prog_14_method_25_code
def yX6_waitingAt : MethodName := ⟨RX6, "waitingAt", "(II)I"⟩
def dkwX6_waitingAt_0 : List UInt8 := [17, 0, 222, 16, 13, 16, 8, 26, 104, 27, 96, 104, 96, 172]
abbrev dktX6_waitingAt_0 : List UInt8 := dkwX6_waitingAt_0 ++ []
theorem dksX6_waitingAt_0 : cX6_waitingAt.data.toList.drop 0 = dktX6_waitingAt_0 := by decide +kernel
theorem dX6_waitingAt_0 : decode cX6_waitingAt 0 = .ok (.sipush 222, 3) := dk_17 0 222 (dk_at dksX6_waitingAt_0 0 rfl rfl)
theorem dX6_waitingAt_3 : decode cX6_waitingAt 3 = .ok (.bipush 13, 2) := dk_16 13 (dk_at dksX6_waitingAt_0 3 rfl rfl)
theorem dX6_waitingAt_5 : decode cX6_waitingAt 5 = .ok (.bipush 8, 2) := dk_16 8 (dk_at dksX6_waitingAt_0 5 rfl rfl)
theorem dX6_waitingAt_7 : decode cX6_waitingAt 7 = .ok (.iload_n 0, 1) := dk_26 (dk_at dksX6_waitingAt_0 7 rfl rfl)
theorem dX6_waitingAt_8 : decode cX6_waitingAt 8 = .ok (.imul, 1) := dk_104 (dk_at dksX6_waitingAt_0 8 rfl rfl)
theorem dX6_waitingAt_9 : decode cX6_waitingAt 9 = .ok (.iload_n 1, 1) := dk_27 (dk_at dksX6_waitingAt_0 9 rfl rfl)
theorem dX6_waitingAt_10 : decode cX6_waitingAt 10 = .ok (.iadd, 1) := dk_96 (dk_at dksX6_waitingAt_0 10 rfl rfl)
theorem dX6_waitingAt_11 : decode cX6_waitingAt 11 = .ok (.imul, 1) := dk_104 (dk_at dksX6_waitingAt_0 11 rfl rfl)
theorem dX6_waitingAt_12 : decode cX6_waitingAt 12 = .ok (.iadd, 1) := dk_96 (dk_at dksX6_waitingAt_0 12 rfl rfl)
theorem dX6_waitingAt_13 : decode cX6_waitingAt 13 = .ok (.ireturn, 1) := dk_172 (dk_at dksX6_waitingAt_0 13 rfl rfl)
abbrev cX6_endsText : ByteArray := prog_14_method_80_code
def yX6_endsText : MethodName := ⟨RX6, "endsText", "()Z"⟩
def dkwX6_endsText_1 : List UInt8 := [180, 0, 244, 154, 0, 7, 4, 167, 0, 4, 3, 172]
abbrev dktX6_endsText_1 : List UInt8 := dkwX6_endsText_1 ++ []
def dkwX6_endsText_0 : List UInt8 := [42, 3, 181, 0, 53, 42, 42, 180, 0, 244, 181, 1, 13, 42, 42, 180, 0, 247, 181, 0, 31, 42]
abbrev dktX6_endsText_0 : List UInt8 := dkwX6_endsText_0 ++ dktX6_endsText_1
theorem dksX6_endsText_0 : cX6_endsText.data.toList.drop 0 = dktX6_endsText_0 := by decide +kernel
theorem dksX6_endsText_1 : cX6_endsText.data.toList.drop 22 = dktX6_endsText_1 := dk_seg dksX6_endsText_0 22 rfl rfl
theorem dX6_endsText_0 : decode cX6_endsText 0 = .ok (.aload_n 0, 1) := dk_42 (dk_at dksX6_endsText_0 0 rfl rfl)
theorem dX6_endsText_1 : decode cX6_endsText 1 = .ok (.iconst 0, 1) := dk_3 (dk_at dksX6_endsText_0 1 rfl rfl)
theorem dX6_endsText_2 : decode cX6_endsText 2 = .ok (.putfield 53, 3) := dk_181 0 53 (dk_at dksX6_endsText_0 2 rfl rfl)
theorem dX6_endsText_5 : decode cX6_endsText 5 = .ok (.aload_n 0, 1) := dk_42 (dk_at dksX6_endsText_0 5 rfl rfl)
theorem dX6_endsText_6 : decode cX6_endsText 6 = .ok (.aload_n 0, 1) := dk_42 (dk_at dksX6_endsText_0 6 rfl rfl)
theorem dX6_endsText_7 : decode cX6_endsText 7 = .ok (.getfield 244, 3) := dk_180 0 244 (dk_at dksX6_endsText_0 7 rfl rfl)
theorem dX6_endsText_10 : decode cX6_endsText 10 = .ok (.putfield 269, 3) := dk_181 1 13 (dk_at dksX6_endsText_0 10 rfl rfl)
theorem dX6_endsText_13 : decode cX6_endsText 13 = .ok (.aload_n 0, 1) := dk_42 (dk_at dksX6_endsText_0 13 rfl rfl)
theorem dX6_endsText_14 : decode cX6_endsText 14 = .ok (.aload_n 0, 1) := dk_42 (dk_at dksX6_endsText_0 14 rfl rfl)
theorem dX6_endsText_15 : decode cX6_endsText 15 = .ok (.getfield 247, 3) := dk_180 0 247 (dk_at dksX6_endsText_0 15 rfl rfl)
theorem dX6_endsText_18 : decode cX6_endsText 18 = .ok (.putfield 31, 3) := dk_181 0 31 (dk_at dksX6_endsText_0 18 rfl rfl)
theorem dX6_endsText_21 : decode cX6_endsText 21 = .ok (.aload_n 0, 1) := dk_42 (dk_at dksX6_endsText_0 21 rfl rfl)
theorem dX6_endsText_22 : decode cX6_endsText 22 = .ok (.getfield 244, 3) := dk_180 0 244 (dk_at dksX6_endsText_1 0 rfl rfl)
theorem dX6_endsText_25 : decode cX6_endsText 25 = .ok (.ifCond .ne 7, 3) := dk_154 0 7 (dk_at dksX6_endsText_1 3 rfl rfl)
theorem dX6_endsText_28 : decode cX6_endsText 28 = .ok (.iconst 1, 1) := dk_4 (dk_at dksX6_endsText_1 6 rfl rfl)
theorem dX6_endsText_29 : decode cX6_endsText 29 = .ok (.goto 4, 3) := dk_167 0 4 (dk_at dksX6_endsText_1 7 rfl rfl)
theorem dX6_endsText_32 : decode cX6_endsText 32 = .ok (.iconst 0, 1) := dk_3 (dk_at dksX6_endsText_1 10 rfl rfl)
theorem dX6_endsText_33 : decode cX6_endsText 33 = .ok (.ireturn, 1) := dk_172 (dk_at dksX6_endsText_1 11 rfl rfl)
abbrev cX6_passes : ByteArray := prog_14_method_5_code
def yX6_passes : MethodName := ⟨RX6, "passes", "(Z)Z"⟩
def dkwX6_passes_0 : List UInt8 := [42, 27, 153, 0, 7, 3, 167, 0, 4, 4, 181, 0, 58, 27, 172]
abbrev dktX6_passes_0 : List UInt8 := dkwX6_passes_0 ++ []
theorem dksX6_passes_0 : cX6_passes.data.toList.drop 0 = dktX6_passes_0 := by decide +kernel
theorem dX6_passes_0 : decode cX6_passes 0 = .ok (.aload_n 0, 1) := dk_42 (dk_at dksX6_passes_0 0 rfl rfl)
theorem dX6_passes_1 : decode cX6_passes 1 = .ok (.iload_n 1, 1) := dk_27 (dk_at dksX6_passes_0 1 rfl rfl)
theorem dX6_passes_2 : decode cX6_passes 2 = .ok (.ifCond .eq 7, 3) := dk_153 0 7 (dk_at dksX6_passes_0 2 rfl rfl)
theorem dX6_passes_5 : decode cX6_passes 5 = .ok (.iconst 0, 1) := dk_3 (dk_at dksX6_passes_0 5 rfl rfl)
theorem dX6_passes_6 : decode cX6_passes 6 = .ok (.goto 4, 3) := dk_167 0 4 (dk_at dksX6_passes_0 6 rfl rfl)
theorem dX6_passes_9 : decode cX6_passes 9 = .ok (.iconst 1, 1) := dk_4 (dk_at dksX6_passes_0 9 rfl rfl)
theorem dX6_passes_10 : decode cX6_passes 10 = .ok (.putfield 58, 3) := dk_181 0 58 (dk_at dksX6_passes_0 10 rfl rfl)
theorem dX6_passes_13 : decode cX6_passes 13 = .ok (.iload_n 1, 1) := dk_27 (dk_at dksX6_passes_0 13 rfl rfl)
theorem dX6_passes_14 : decode cX6_passes 14 = .ok (.ireturn, 1) := dk_172 (dk_at dksX6_passes_0 14 rfl rfl)
abbrev cX6_thrown : ByteArray := prog_14_method_2_code
def yX6_thrown : MethodName := ⟨RX6, "thrown", "()I"⟩
theorem dX6_thrown_0 : decode cX6_thrown 0 = .ok (.aload_n 0, 1) := by decide +kernel
theorem dX6_thrown_1 : decode cX6_thrown 1 = .ok (.getfield 58, 3) := by decide +kernel
theorem dX6_thrown_4 : decode cX6_thrown 4 = .ok (.ireturn, 1) := by decide +kernel
abbrev cX6_append : ByteArray := prog_14_method_67_code
def yX6_append : MethodName := ⟨RX6, "append", "(IIIII)I"⟩
def dkwX6_append_2 : List UInt8 := [182, 0, 225, 42, 21, 5, 182, 0, 225, 42, 180, 0, 53, 172]
abbrev dktX6_append_2 : List UInt8 := dkwX6_append_2 ++ []
def dkwX6_append_1 : List UInt8 := [154, 0, 5, 3, 172, 42, 27, 182, 0, 225, 42, 28, 182, 0, 225, 42, 29, 182, 0, 225, 42, 21, 4]
abbrev dktX6_append_1 : List UInt8 := dkwX6_append_1 ++ dktX6_append_2
def dkwX6_append_0 : List UInt8 := [42, 42, 180, 0, 53, 16, 20, 96, 17, 3, 32, 163, 0, 7, 4, 167, 0, 4, 3, 182, 0, 221]
abbrev dktX6_append_0 : List UInt8 := dkwX6_append_0 ++ dktX6_append_1
theorem dksX6_append_0 : cX6_append.data.toList.drop 0 = dktX6_append_0 := by decide +kernel
theorem dksX6_append_1 : cX6_append.data.toList.drop 22 = dktX6_append_1 := dk_seg dksX6_append_0 22 rfl rfl
theorem dksX6_append_2 : cX6_append.data.toList.drop 45 = dktX6_append_2 := dk_seg dksX6_append_1 23 rfl rfl
theorem dX6_append_0 : decode cX6_append 0 = .ok (.aload_n 0, 1) := dk_42 (dk_at dksX6_append_0 0 rfl rfl)
theorem dX6_append_1 : decode cX6_append 1 = .ok (.aload_n 0, 1) := dk_42 (dk_at dksX6_append_0 1 rfl rfl)
theorem dX6_append_2 : decode cX6_append 2 = .ok (.getfield 53, 3) := dk_180 0 53 (dk_at dksX6_append_0 2 rfl rfl)
theorem dX6_append_5 : decode cX6_append 5 = .ok (.bipush 20, 2) := dk_16 20 (dk_at dksX6_append_0 5 rfl rfl)
theorem dX6_append_7 : decode cX6_append 7 = .ok (.iadd, 1) := dk_96 (dk_at dksX6_append_0 7 rfl rfl)
theorem dX6_append_8 : decode cX6_append 8 = .ok (.sipush 800, 3) := dk_17 3 32 (dk_at dksX6_append_0 8 rfl rfl)
theorem dX6_append_11 : decode cX6_append 11 = .ok (.if_icmp .gt 7, 3) := dk_163 0 7 (dk_at dksX6_append_0 11 rfl rfl)
theorem dX6_append_14 : decode cX6_append 14 = .ok (.iconst 1, 1) := dk_4 (dk_at dksX6_append_0 14 rfl rfl)
theorem dX6_append_15 : decode cX6_append 15 = .ok (.goto 4, 3) := dk_167 0 4 (dk_at dksX6_append_0 15 rfl rfl)
theorem dX6_append_18 : decode cX6_append 18 = .ok (.iconst 0, 1) := dk_3 (dk_at dksX6_append_0 18 rfl rfl)
theorem dX6_append_19 : decode cX6_append 19 = .ok (.invokevirtual 221, 3) := dk_182 0 221 (dk_at dksX6_append_0 19 rfl rfl)
theorem dX6_append_22 : decode cX6_append 22 = .ok (.ifCond .ne 5, 3) := dk_154 0 5 (dk_at dksX6_append_1 0 rfl rfl)
theorem dX6_append_25 : decode cX6_append 25 = .ok (.iconst 0, 1) := dk_3 (dk_at dksX6_append_1 3 rfl rfl)
theorem dX6_append_26 : decode cX6_append 26 = .ok (.ireturn, 1) := dk_172 (dk_at dksX6_append_1 4 rfl rfl)
theorem dX6_append_27 : decode cX6_append 27 = .ok (.aload_n 0, 1) := dk_42 (dk_at dksX6_append_1 5 rfl rfl)
theorem dX6_append_28 : decode cX6_append 28 = .ok (.iload_n 1, 1) := dk_27 (dk_at dksX6_append_1 6 rfl rfl)
theorem dX6_append_29 : decode cX6_append 29 = .ok (.invokevirtual 225, 3) := dk_182 0 225 (dk_at dksX6_append_1 7 rfl rfl)
theorem dX6_append_32 : decode cX6_append 32 = .ok (.aload_n 0, 1) := dk_42 (dk_at dksX6_append_1 10 rfl rfl)
theorem dX6_append_33 : decode cX6_append 33 = .ok (.iload_n 2, 1) := dk_28 (dk_at dksX6_append_1 11 rfl rfl)
theorem dX6_append_34 : decode cX6_append 34 = .ok (.invokevirtual 225, 3) := dk_182 0 225 (dk_at dksX6_append_1 12 rfl rfl)
theorem dX6_append_37 : decode cX6_append 37 = .ok (.aload_n 0, 1) := dk_42 (dk_at dksX6_append_1 15 rfl rfl)
theorem dX6_append_38 : decode cX6_append 38 = .ok (.iload_n 3, 1) := dk_29 (dk_at dksX6_append_1 16 rfl rfl)
theorem dX6_append_39 : decode cX6_append 39 = .ok (.invokevirtual 225, 3) := dk_182 0 225 (dk_at dksX6_append_1 17 rfl rfl)
theorem dX6_append_42 : decode cX6_append 42 = .ok (.aload_n 0, 1) := dk_42 (dk_at dksX6_append_1 20 rfl rfl)
theorem dX6_append_43 : decode cX6_append 43 = .ok (.iload 4, 2) := dk_21 4 (dk_at dksX6_append_1 21 rfl rfl)
theorem dX6_append_45 : decode cX6_append 45 = .ok (.invokevirtual 225, 3) := dk_182 0 225 (dk_at dksX6_append_2 0 rfl rfl)
theorem dX6_append_48 : decode cX6_append 48 = .ok (.aload_n 0, 1) := dk_42 (dk_at dksX6_append_2 3 rfl rfl)
theorem dX6_append_49 : decode cX6_append 49 = .ok (.iload 5, 2) := dk_21 5 (dk_at dksX6_append_2 4 rfl rfl)
theorem dX6_append_51 : decode cX6_append 51 = .ok (.invokevirtual 225, 3) := dk_182 0 225 (dk_at dksX6_append_2 6 rfl rfl)
theorem dX6_append_54 : decode cX6_append 54 = .ok (.aload_n 0, 1) := dk_42 (dk_at dksX6_append_2 9 rfl rfl)
theorem dX6_append_55 : decode cX6_append 55 = .ok (.getfield 53, 3) := dk_180 0 53 (dk_at dksX6_append_2 10 rfl rfl)
theorem dX6_append_58 : decode cX6_append 58 = .ok (.ireturn, 1) := dk_172 (dk_at dksX6_append_2 13 rfl rfl)
abbrev cX6_four : ByteArray := prog_14_method_66_code
def yX6_four : MethodName := ⟨RX6, "four", "(I)V"⟩
def dkwX6_four_1 : List UInt8 := [89, 180, 0, 53, 4, 96, 181, 0, 53, 132, 2, 248, 167, 255, 223, 177]
abbrev dktX6_four_1 : List UInt8 := dkwX6_four_1 ++ []
def dkwX6_four_0 : List UInt8 := [16, 24, 61, 28, 155, 0, 35, 42, 180, 0, 28, 42, 180, 0, 53, 27, 28, 122, 17, 0, 255, 126, 79, 42]
abbrev dktX6_four_0 : List UInt8 := dkwX6_four_0 ++ dktX6_four_1
theorem dksX6_four_0 : cX6_four.data.toList.drop 0 = dktX6_four_0 := by decide +kernel
theorem dksX6_four_1 : cX6_four.data.toList.drop 24 = dktX6_four_1 := dk_seg dksX6_four_0 24 rfl rfl
theorem dX6_four_0 : decode cX6_four 0 = .ok (.bipush 24, 2) := dk_16 24 (dk_at dksX6_four_0 0 rfl rfl)
theorem dX6_four_2 : decode cX6_four 2 = .ok (.istore_n 2, 1) := dk_61 (dk_at dksX6_four_0 2 rfl rfl)
theorem dX6_four_3 : decode cX6_four 3 = .ok (.iload_n 2, 1) := dk_28 (dk_at dksX6_four_0 3 rfl rfl)
theorem dX6_four_4 : decode cX6_four 4 = .ok (.ifCond .lt 35, 3) := dk_155 0 35 (dk_at dksX6_four_0 4 rfl rfl)
theorem dX6_four_7 : decode cX6_four 7 = .ok (.aload_n 0, 1) := dk_42 (dk_at dksX6_four_0 7 rfl rfl)
theorem dX6_four_8 : decode cX6_four 8 = .ok (.getfield 28, 3) := dk_180 0 28 (dk_at dksX6_four_0 8 rfl rfl)
theorem dX6_four_11 : decode cX6_four 11 = .ok (.aload_n 0, 1) := dk_42 (dk_at dksX6_four_0 11 rfl rfl)
theorem dX6_four_12 : decode cX6_four 12 = .ok (.getfield 53, 3) := dk_180 0 53 (dk_at dksX6_four_0 12 rfl rfl)
theorem dX6_four_15 : decode cX6_four 15 = .ok (.iload_n 1, 1) := dk_27 (dk_at dksX6_four_0 15 rfl rfl)
theorem dX6_four_16 : decode cX6_four 16 = .ok (.iload_n 2, 1) := dk_28 (dk_at dksX6_four_0 16 rfl rfl)
theorem dX6_four_17 : decode cX6_four 17 = .ok (.ishr, 1) := dk_122 (dk_at dksX6_four_0 17 rfl rfl)
theorem dX6_four_18 : decode cX6_four 18 = .ok (.sipush 255, 3) := dk_17 0 255 (dk_at dksX6_four_0 18 rfl rfl)
theorem dX6_four_21 : decode cX6_four 21 = .ok (.iand, 1) := dk_126 (dk_at dksX6_four_0 21 rfl rfl)
theorem dX6_four_22 : decode cX6_four 22 = .ok (.iastore, 1) := dk_79 (dk_at dksX6_four_0 22 rfl rfl)
theorem dX6_four_23 : decode cX6_four 23 = .ok (.aload_n 0, 1) := dk_42 (dk_at dksX6_four_0 23 rfl rfl)
theorem dX6_four_24 : decode cX6_four 24 = .ok (.dup, 1) := dk_89 (dk_at dksX6_four_1 0 rfl rfl)
theorem dX6_four_25 : decode cX6_four 25 = .ok (.getfield 53, 3) := dk_180 0 53 (dk_at dksX6_four_1 1 rfl rfl)
theorem dX6_four_28 : decode cX6_four 28 = .ok (.iconst 1, 1) := dk_4 (dk_at dksX6_four_1 4 rfl rfl)
theorem dX6_four_29 : decode cX6_four 29 = .ok (.iadd, 1) := dk_96 (dk_at dksX6_four_1 5 rfl rfl)
theorem dX6_four_30 : decode cX6_four 30 = .ok (.putfield 53, 3) := dk_181 0 53 (dk_at dksX6_four_1 6 rfl rfl)
theorem dX6_four_33 : decode cX6_four 33 = .ok (.iinc 2 (-8), 3) := dk_132 2 248 (dk_at dksX6_four_1 9 rfl rfl)
theorem dX6_four_36 : decode cX6_four 36 = .ok (.goto (-33), 3) := dk_167 255 223 (dk_at dksX6_four_1 12 rfl rfl)
theorem dX6_four_39 : decode cX6_four 39 = .ok (.return_, 1) := dk_177 (dk_at dksX6_four_1 15 rfl rfl)
abbrev cX6_truncate : ByteArray := prog_14_method_68_code
def yX6_truncate : MethodName := ⟨RX6, "truncate", "(I)I"⟩
def dkwX6_truncate_1 : List UInt8 := [181, 0, 53, 27, 172]
abbrev dktX6_truncate_1 : List UInt8 := dkwX6_truncate_1 ++ []
def dkwX6_truncate_0 : List UInt8 := [42, 27, 133, 9, 42, 180, 0, 53, 133, 184, 0, 65, 182, 0, 221, 154, 0, 5, 3, 172, 42, 27]
abbrev dktX6_truncate_0 : List UInt8 := dkwX6_truncate_0 ++ dktX6_truncate_1
theorem dksX6_truncate_0 : cX6_truncate.data.toList.drop 0 = dktX6_truncate_0 := by decide +kernel
theorem dksX6_truncate_1 : cX6_truncate.data.toList.drop 22 = dktX6_truncate_1 := dk_seg dksX6_truncate_0 22 rfl rfl
theorem dX6_truncate_0 : decode cX6_truncate 0 = .ok (.aload_n 0, 1) := dk_42 (dk_at dksX6_truncate_0 0 rfl rfl)
theorem dX6_truncate_1 : decode cX6_truncate 1 = .ok (.iload_n 1, 1) := dk_27 (dk_at dksX6_truncate_0 1 rfl rfl)
theorem dX6_truncate_2 : decode cX6_truncate 2 = .ok (.i2l, 1) := dk_133 (dk_at dksX6_truncate_0 2 rfl rfl)
theorem dX6_truncate_3 : decode cX6_truncate 3 = .ok (.lconst 0, 1) := dk_9 (dk_at dksX6_truncate_0 3 rfl rfl)
theorem dX6_truncate_4 : decode cX6_truncate 4 = .ok (.aload_n 0, 1) := dk_42 (dk_at dksX6_truncate_0 4 rfl rfl)
theorem dX6_truncate_5 : decode cX6_truncate 5 = .ok (.getfield 53, 3) := dk_180 0 53 (dk_at dksX6_truncate_0 5 rfl rfl)
theorem dX6_truncate_8 : decode cX6_truncate 8 = .ok (.i2l, 1) := dk_133 (dk_at dksX6_truncate_0 8 rfl rfl)
theorem dX6_truncate_9 : decode cX6_truncate 9 = .ok (.invokestatic 65, 3) := dk_184 0 65 (dk_at dksX6_truncate_0 9 rfl rfl)
theorem dX6_truncate_12 : decode cX6_truncate 12 = .ok (.invokevirtual 221, 3) := dk_182 0 221 (dk_at dksX6_truncate_0 12 rfl rfl)
theorem dX6_truncate_15 : decode cX6_truncate 15 = .ok (.ifCond .ne 5, 3) := dk_154 0 5 (dk_at dksX6_truncate_0 15 rfl rfl)
theorem dX6_truncate_18 : decode cX6_truncate 18 = .ok (.iconst 0, 1) := dk_3 (dk_at dksX6_truncate_0 18 rfl rfl)
theorem dX6_truncate_19 : decode cX6_truncate 19 = .ok (.ireturn, 1) := dk_172 (dk_at dksX6_truncate_0 19 rfl rfl)
theorem dX6_truncate_20 : decode cX6_truncate 20 = .ok (.aload_n 0, 1) := dk_42 (dk_at dksX6_truncate_0 20 rfl rfl)
theorem dX6_truncate_21 : decode cX6_truncate 21 = .ok (.iload_n 1, 1) := dk_27 (dk_at dksX6_truncate_0 21 rfl rfl)
theorem dX6_truncate_22 : decode cX6_truncate 22 = .ok (.putfield 53, 3) := dk_181 0 53 (dk_at dksX6_truncate_1 0 rfl rfl)
theorem dX6_truncate_25 : decode cX6_truncate 25 = .ok (.iload_n 1, 1) := dk_27 (dk_at dksX6_truncate_1 3 rfl rfl)
theorem dX6_truncate_26 : decode cX6_truncate 26 = .ok (.ireturn, 1) := dk_172 (dk_at dksX6_truncate_1 4 rfl rfl)
abbrev cX6_errorCode : ByteArray := prog_14_method_81_code
def yX6_errorCode : MethodName := ⟨RX6, "errorCode", "()I"⟩
def dkwX6_errorCode_0 : List UInt8 := [42, 3, 181, 0, 58, 42, 180, 1, 13, 172]
abbrev dktX6_errorCode_0 : List UInt8 := dkwX6_errorCode_0 ++ []
theorem dksX6_errorCode_0 : cX6_errorCode.data.toList.drop 0 = dktX6_errorCode_0 := by decide +kernel
theorem dX6_errorCode_0 : decode cX6_errorCode 0 = .ok (.aload_n 0, 1) := dk_42 (dk_at dksX6_errorCode_0 0 rfl rfl)
theorem dX6_errorCode_1 : decode cX6_errorCode 1 = .ok (.iconst 0, 1) := dk_3 (dk_at dksX6_errorCode_0 1 rfl rfl)
theorem dX6_errorCode_2 : decode cX6_errorCode 2 = .ok (.putfield 58, 3) := dk_181 0 58 (dk_at dksX6_errorCode_0 2 rfl rfl)
theorem dX6_errorCode_5 : decode cX6_errorCode 5 = .ok (.aload_n 0, 1) := dk_42 (dk_at dksX6_errorCode_0 5 rfl rfl)
theorem dX6_errorCode_6 : decode cX6_errorCode 6 = .ok (.getfield 269, 3) := dk_180 1 13 (dk_at dksX6_errorCode_0 6 rfl rfl)
theorem dX6_errorCode_9 : decode cX6_errorCode 9 = .ok (.ireturn, 1) := dk_172 (dk_at dksX6_errorCode_0 9 rfl rfl)
abbrev cX6_errorPosition : ByteArray := prog_14_method_82_code
def yX6_errorPosition : MethodName := ⟨RX6, "errorPosition", "()I"⟩
def dkwX6_errorPosition_0 : List UInt8 := [42, 3, 181, 0, 58, 42, 180, 0, 31, 172]
abbrev dktX6_errorPosition_0 : List UInt8 := dkwX6_errorPosition_0 ++ []
theorem dksX6_errorPosition_0 : cX6_errorPosition.data.toList.drop 0 = dktX6_errorPosition_0 := by decide +kernel
theorem dX6_errorPosition_0 : decode cX6_errorPosition 0 = .ok (.aload_n 0, 1) := dk_42 (dk_at dksX6_errorPosition_0 0 rfl rfl)
theorem dX6_errorPosition_1 : decode cX6_errorPosition 1 = .ok (.iconst 0, 1) := dk_3 (dk_at dksX6_errorPosition_0 1 rfl rfl)
theorem dX6_errorPosition_2 : decode cX6_errorPosition 2 = .ok (.putfield 58, 3) := dk_181 0 58 (dk_at dksX6_errorPosition_0 2 rfl rfl)
theorem dX6_errorPosition_5 : decode cX6_errorPosition 5 = .ok (.aload_n 0, 1) := dk_42 (dk_at dksX6_errorPosition_0 5 rfl rfl)
theorem dX6_errorPosition_6 : decode cX6_errorPosition 6 = .ok (.getfield 31, 3) := dk_180 0 31 (dk_at dksX6_errorPosition_0 6 rfl rfl)
theorem dX6_errorPosition_9 : decode cX6_errorPosition 9 = .ok (.ireturn, 1) := dk_172 (dk_at dksX6_errorPosition_0 9 rfl rfl)
abbrev cX6_executeCommands : ByteArray := prog_14_method_97_code
def yX6_executeCommands : MethodName := ⟨RX6, "executeCommands", "()I"⟩
def dkwX6_executeCommands_3 : List UInt8 := [153, 0, 9, 132, 1, 1, 167, 255, 234, 27, 172]
abbrev dktX6_executeCommands_3 : List UInt8 := dkwX6_executeCommands_3 ++ []
def dkwX6_executeCommands_2 : List UInt8 := [180, 0, 7, 182, 1, 122, 3, 60, 27, 42, 180, 1, 92, 162, 0, 20, 42, 16, 16, 27, 104, 182, 1, 126]
abbrev dktX6_executeCommands_2 : List UInt8 := dkwX6_executeCommands_2 ++ dktX6_executeCommands_3
def dkwX6_executeCommands_1 : List UInt8 := [42, 182, 1, 119, 167, 255, 237, 42, 42, 182, 1, 61, 182, 0, 221, 154, 0, 5, 3, 172, 42, 42]
abbrev dktX6_executeCommands_1 : List UInt8 := dkwX6_executeCommands_1 ++ dktX6_executeCommands_2
def dkwX6_executeCommands_0 : List UInt8 := [42, 182, 1, 52, 42, 3, 181, 1, 92, 42, 180, 0, 244, 154, 0, 18, 42, 182, 0, 250, 2, 159, 0, 10]
abbrev dktX6_executeCommands_0 : List UInt8 := dkwX6_executeCommands_0 ++ dktX6_executeCommands_1
theorem dksX6_executeCommands_0 : cX6_executeCommands.data.toList.drop 0 = dktX6_executeCommands_0 := by decide +kernel
theorem dksX6_executeCommands_1 : cX6_executeCommands.data.toList.drop 24 = dktX6_executeCommands_1 := dk_seg dksX6_executeCommands_0 24 rfl rfl
theorem dksX6_executeCommands_2 : cX6_executeCommands.data.toList.drop 46 = dktX6_executeCommands_2 := dk_seg dksX6_executeCommands_1 22 rfl rfl
theorem dksX6_executeCommands_3 : cX6_executeCommands.data.toList.drop 70 = dktX6_executeCommands_3 := dk_seg dksX6_executeCommands_2 24 rfl rfl
theorem dX6_executeCommands_0 : decode cX6_executeCommands 0 = .ok (.aload_n 0, 1) := dk_42 (dk_at dksX6_executeCommands_0 0 rfl rfl)
theorem dX6_executeCommands_1 : decode cX6_executeCommands 1 = .ok (.invokevirtual 308, 3) := dk_182 1 52 (dk_at dksX6_executeCommands_0 1 rfl rfl)
theorem dX6_executeCommands_4 : decode cX6_executeCommands 4 = .ok (.aload_n 0, 1) := dk_42 (dk_at dksX6_executeCommands_0 4 rfl rfl)
theorem dX6_executeCommands_5 : decode cX6_executeCommands 5 = .ok (.iconst 0, 1) := dk_3 (dk_at dksX6_executeCommands_0 5 rfl rfl)
theorem dX6_executeCommands_6 : decode cX6_executeCommands 6 = .ok (.putfield 348, 3) := dk_181 1 92 (dk_at dksX6_executeCommands_0 6 rfl rfl)
theorem dX6_executeCommands_9 : decode cX6_executeCommands 9 = .ok (.aload_n 0, 1) := dk_42 (dk_at dksX6_executeCommands_0 9 rfl rfl)
theorem dX6_executeCommands_10 : decode cX6_executeCommands 10 = .ok (.getfield 244, 3) := dk_180 0 244 (dk_at dksX6_executeCommands_0 10 rfl rfl)
theorem dX6_executeCommands_13 : decode cX6_executeCommands 13 = .ok (.ifCond .ne 18, 3) := dk_154 0 18 (dk_at dksX6_executeCommands_0 13 rfl rfl)
theorem dX6_executeCommands_16 : decode cX6_executeCommands 16 = .ok (.aload_n 0, 1) := dk_42 (dk_at dksX6_executeCommands_0 16 rfl rfl)
theorem dX6_executeCommands_17 : decode cX6_executeCommands 17 = .ok (.invokevirtual 250, 3) := dk_182 0 250 (dk_at dksX6_executeCommands_0 17 rfl rfl)
theorem dX6_executeCommands_20 : decode cX6_executeCommands 20 = .ok (.iconst (-1), 1) := dk_2 (dk_at dksX6_executeCommands_0 20 rfl rfl)
theorem dX6_executeCommands_21 : decode cX6_executeCommands 21 = .ok (.if_icmp .eq 10, 3) := dk_159 0 10 (dk_at dksX6_executeCommands_0 21 rfl rfl)
theorem dX6_executeCommands_24 : decode cX6_executeCommands 24 = .ok (.aload_n 0, 1) := dk_42 (dk_at dksX6_executeCommands_1 0 rfl rfl)
theorem dX6_executeCommands_25 : decode cX6_executeCommands 25 = .ok (.invokevirtual 375, 3) := dk_182 1 119 (dk_at dksX6_executeCommands_1 1 rfl rfl)
theorem dX6_executeCommands_28 : decode cX6_executeCommands 28 = .ok (.goto (-19), 3) := dk_167 255 237 (dk_at dksX6_executeCommands_1 4 rfl rfl)
theorem dX6_executeCommands_31 : decode cX6_executeCommands 31 = .ok (.aload_n 0, 1) := dk_42 (dk_at dksX6_executeCommands_1 7 rfl rfl)
theorem dX6_executeCommands_32 : decode cX6_executeCommands 32 = .ok (.aload_n 0, 1) := dk_42 (dk_at dksX6_executeCommands_1 8 rfl rfl)
theorem dX6_executeCommands_33 : decode cX6_executeCommands 33 = .ok (.invokevirtual 317, 3) := dk_182 1 61 (dk_at dksX6_executeCommands_1 9 rfl rfl)
theorem dX6_executeCommands_36 : decode cX6_executeCommands 36 = .ok (.invokevirtual 221, 3) := dk_182 0 221 (dk_at dksX6_executeCommands_1 12 rfl rfl)
theorem dX6_executeCommands_39 : decode cX6_executeCommands 39 = .ok (.ifCond .ne 5, 3) := dk_154 0 5 (dk_at dksX6_executeCommands_1 15 rfl rfl)
theorem dX6_executeCommands_42 : decode cX6_executeCommands 42 = .ok (.iconst 0, 1) := dk_3 (dk_at dksX6_executeCommands_1 18 rfl rfl)
theorem dX6_executeCommands_43 : decode cX6_executeCommands 43 = .ok (.ireturn, 1) := dk_172 (dk_at dksX6_executeCommands_1 19 rfl rfl)
theorem dX6_executeCommands_44 : decode cX6_executeCommands 44 = .ok (.aload_n 0, 1) := dk_42 (dk_at dksX6_executeCommands_1 20 rfl rfl)
theorem dX6_executeCommands_45 : decode cX6_executeCommands 45 = .ok (.aload_n 0, 1) := dk_42 (dk_at dksX6_executeCommands_1 21 rfl rfl)
theorem dX6_executeCommands_46 : decode cX6_executeCommands 46 = .ok (.getfield 7, 3) := dk_180 0 7 (dk_at dksX6_executeCommands_2 0 rfl rfl)
theorem dX6_executeCommands_49 : decode cX6_executeCommands 49 = .ok (.invokevirtual 378, 3) := dk_182 1 122 (dk_at dksX6_executeCommands_2 3 rfl rfl)
theorem dX6_executeCommands_52 : decode cX6_executeCommands 52 = .ok (.iconst 0, 1) := dk_3 (dk_at dksX6_executeCommands_2 6 rfl rfl)
theorem dX6_executeCommands_53 : decode cX6_executeCommands 53 = .ok (.istore_n 1, 1) := dk_60 (dk_at dksX6_executeCommands_2 7 rfl rfl)
theorem dX6_executeCommands_54 : decode cX6_executeCommands 54 = .ok (.iload_n 1, 1) := dk_27 (dk_at dksX6_executeCommands_2 8 rfl rfl)
theorem dX6_executeCommands_55 : decode cX6_executeCommands 55 = .ok (.aload_n 0, 1) := dk_42 (dk_at dksX6_executeCommands_2 9 rfl rfl)
theorem dX6_executeCommands_56 : decode cX6_executeCommands 56 = .ok (.getfield 348, 3) := dk_180 1 92 (dk_at dksX6_executeCommands_2 10 rfl rfl)
theorem dX6_executeCommands_59 : decode cX6_executeCommands 59 = .ok (.if_icmp .ge 20, 3) := dk_162 0 20 (dk_at dksX6_executeCommands_2 13 rfl rfl)
theorem dX6_executeCommands_62 : decode cX6_executeCommands 62 = .ok (.aload_n 0, 1) := dk_42 (dk_at dksX6_executeCommands_2 16 rfl rfl)
theorem dX6_executeCommands_63 : decode cX6_executeCommands 63 = .ok (.bipush 16, 2) := dk_16 16 (dk_at dksX6_executeCommands_2 17 rfl rfl)
theorem dX6_executeCommands_65 : decode cX6_executeCommands 65 = .ok (.iload_n 1, 1) := dk_27 (dk_at dksX6_executeCommands_2 19 rfl rfl)
theorem dX6_executeCommands_66 : decode cX6_executeCommands 66 = .ok (.imul, 1) := dk_104 (dk_at dksX6_executeCommands_2 20 rfl rfl)
theorem dX6_executeCommands_67 : decode cX6_executeCommands 67 = .ok (.invokevirtual 382, 3) := dk_182 1 126 (dk_at dksX6_executeCommands_2 21 rfl rfl)
theorem dX6_executeCommands_70 : decode cX6_executeCommands 70 = .ok (.ifCond .eq 9, 3) := dk_153 0 9 (dk_at dksX6_executeCommands_3 0 rfl rfl)
theorem dX6_executeCommands_73 : decode cX6_executeCommands 73 = .ok (.iinc 1 1, 3) := dk_132 1 1 (dk_at dksX6_executeCommands_3 3 rfl rfl)
theorem dX6_executeCommands_76 : decode cX6_executeCommands 76 = .ok (.goto (-22), 3) := dk_167 255 234 (dk_at dksX6_executeCommands_3 6 rfl rfl)
theorem dX6_executeCommands_79 : decode cX6_executeCommands 79 = .ok (.iload_n 1, 1) := dk_27 (dk_at dksX6_executeCommands_3 9 rfl rfl)
theorem dX6_executeCommands_80 : decode cX6_executeCommands 80 = .ok (.ireturn, 1) := dk_172 (dk_at dksX6_executeCommands_3 10 rfl rfl)
abbrev cX6_readsOne : ByteArray := prog_14_method_94_code
def yX6_readsOne : MethodName := ⟨RX6, "readsOne", "()V"⟩
def dkwX6_readsOne_3 : List UInt8 := [180, 1, 92, 104, 4, 96, 182, 1, 95, 42, 89, 180, 1, 92, 4, 96, 181, 1, 92, 42, 182, 1, 25, 177]
abbrev dktX6_readsOne_3 : List UInt8 := dkwX6_readsOne_3 ++ []
def dkwX6_readsOne_2 : List UInt8 := [177, 42, 182, 1, 5, 42, 180, 0, 35, 16, 16, 42, 180, 1, 92, 104, 27, 79, 42, 27, 16, 16, 42]
abbrev dktX6_readsOne_2 : List UInt8 := dkwX6_readsOne_2 ++ dktX6_readsOne_3
def dkwX6_readsOne_1 : List UInt8 := [180, 1, 92, 16, 30, 162, 0, 7, 4, 167, 0, 4, 3, 7, 182, 0, 253, 42, 180, 0, 244, 153, 0, 4]
abbrev dktX6_readsOne_1 : List UInt8 := dkwX6_readsOne_1 ++ dktX6_readsOne_2
def dkwX6_readsOne_0 : List UInt8 := [42, 182, 1, 89, 60, 42, 27, 2, 159, 0, 7, 4, 167, 0, 4, 3, 4, 182, 0, 253, 42, 42]
abbrev dktX6_readsOne_0 : List UInt8 := dkwX6_readsOne_0 ++ dktX6_readsOne_1
theorem dksX6_readsOne_0 : cX6_readsOne.data.toList.drop 0 = dktX6_readsOne_0 := by decide +kernel
theorem dksX6_readsOne_1 : cX6_readsOne.data.toList.drop 22 = dktX6_readsOne_1 := dk_seg dksX6_readsOne_0 22 rfl rfl
theorem dksX6_readsOne_2 : cX6_readsOne.data.toList.drop 46 = dktX6_readsOne_2 := dk_seg dksX6_readsOne_1 24 rfl rfl
theorem dksX6_readsOne_3 : cX6_readsOne.data.toList.drop 69 = dktX6_readsOne_3 := dk_seg dksX6_readsOne_2 23 rfl rfl
theorem dX6_readsOne_0 : decode cX6_readsOne 0 = .ok (.aload_n 0, 1) := dk_42 (dk_at dksX6_readsOne_0 0 rfl rfl)
theorem dX6_readsOne_1 : decode cX6_readsOne 1 = .ok (.invokevirtual 345, 3) := dk_182 1 89 (dk_at dksX6_readsOne_0 1 rfl rfl)
theorem dX6_readsOne_4 : decode cX6_readsOne 4 = .ok (.istore_n 1, 1) := dk_60 (dk_at dksX6_readsOne_0 4 rfl rfl)
theorem dX6_readsOne_5 : decode cX6_readsOne 5 = .ok (.aload_n 0, 1) := dk_42 (dk_at dksX6_readsOne_0 5 rfl rfl)
theorem dX6_readsOne_6 : decode cX6_readsOne 6 = .ok (.iload_n 1, 1) := dk_27 (dk_at dksX6_readsOne_0 6 rfl rfl)
theorem dX6_readsOne_7 : decode cX6_readsOne 7 = .ok (.iconst (-1), 1) := dk_2 (dk_at dksX6_readsOne_0 7 rfl rfl)
theorem dX6_readsOne_8 : decode cX6_readsOne 8 = .ok (.if_icmp .eq 7, 3) := dk_159 0 7 (dk_at dksX6_readsOne_0 8 rfl rfl)
theorem dX6_readsOne_11 : decode cX6_readsOne 11 = .ok (.iconst 1, 1) := dk_4 (dk_at dksX6_readsOne_0 11 rfl rfl)
theorem dX6_readsOne_12 : decode cX6_readsOne 12 = .ok (.goto 4, 3) := dk_167 0 4 (dk_at dksX6_readsOne_0 12 rfl rfl)
theorem dX6_readsOne_15 : decode cX6_readsOne 15 = .ok (.iconst 0, 1) := dk_3 (dk_at dksX6_readsOne_0 15 rfl rfl)
theorem dX6_readsOne_16 : decode cX6_readsOne 16 = .ok (.iconst 1, 1) := dk_4 (dk_at dksX6_readsOne_0 16 rfl rfl)
theorem dX6_readsOne_17 : decode cX6_readsOne 17 = .ok (.invokevirtual 253, 3) := dk_182 0 253 (dk_at dksX6_readsOne_0 17 rfl rfl)
theorem dX6_readsOne_20 : decode cX6_readsOne 20 = .ok (.aload_n 0, 1) := dk_42 (dk_at dksX6_readsOne_0 20 rfl rfl)
theorem dX6_readsOne_21 : decode cX6_readsOne 21 = .ok (.aload_n 0, 1) := dk_42 (dk_at dksX6_readsOne_0 21 rfl rfl)
theorem dX6_readsOne_22 : decode cX6_readsOne 22 = .ok (.getfield 348, 3) := dk_180 1 92 (dk_at dksX6_readsOne_1 0 rfl rfl)
theorem dX6_readsOne_25 : decode cX6_readsOne 25 = .ok (.bipush 30, 2) := dk_16 30 (dk_at dksX6_readsOne_1 3 rfl rfl)
theorem dX6_readsOne_27 : decode cX6_readsOne 27 = .ok (.if_icmp .ge 7, 3) := dk_162 0 7 (dk_at dksX6_readsOne_1 5 rfl rfl)
theorem dX6_readsOne_30 : decode cX6_readsOne 30 = .ok (.iconst 1, 1) := dk_4 (dk_at dksX6_readsOne_1 8 rfl rfl)
theorem dX6_readsOne_31 : decode cX6_readsOne 31 = .ok (.goto 4, 3) := dk_167 0 4 (dk_at dksX6_readsOne_1 9 rfl rfl)
theorem dX6_readsOne_34 : decode cX6_readsOne 34 = .ok (.iconst 0, 1) := dk_3 (dk_at dksX6_readsOne_1 12 rfl rfl)
theorem dX6_readsOne_35 : decode cX6_readsOne 35 = .ok (.iconst 4, 1) := dk_7 (dk_at dksX6_readsOne_1 13 rfl rfl)
theorem dX6_readsOne_36 : decode cX6_readsOne 36 = .ok (.invokevirtual 253, 3) := dk_182 0 253 (dk_at dksX6_readsOne_1 14 rfl rfl)
theorem dX6_readsOne_39 : decode cX6_readsOne 39 = .ok (.aload_n 0, 1) := dk_42 (dk_at dksX6_readsOne_1 17 rfl rfl)
theorem dX6_readsOne_40 : decode cX6_readsOne 40 = .ok (.getfield 244, 3) := dk_180 0 244 (dk_at dksX6_readsOne_1 18 rfl rfl)
theorem dX6_readsOne_43 : decode cX6_readsOne 43 = .ok (.ifCond .eq 4, 3) := dk_153 0 4 (dk_at dksX6_readsOne_1 21 rfl rfl)
theorem dX6_readsOne_46 : decode cX6_readsOne 46 = .ok (.return_, 1) := dk_177 (dk_at dksX6_readsOne_2 0 rfl rfl)
theorem dX6_readsOne_47 : decode cX6_readsOne 47 = .ok (.aload_n 0, 1) := dk_42 (dk_at dksX6_readsOne_2 1 rfl rfl)
theorem dX6_readsOne_48 : decode cX6_readsOne 48 = .ok (.invokevirtual 261, 3) := dk_182 1 5 (dk_at dksX6_readsOne_2 2 rfl rfl)
theorem dX6_readsOne_51 : decode cX6_readsOne 51 = .ok (.aload_n 0, 1) := dk_42 (dk_at dksX6_readsOne_2 5 rfl rfl)
theorem dX6_readsOne_52 : decode cX6_readsOne 52 = .ok (.getfield 35, 3) := dk_180 0 35 (dk_at dksX6_readsOne_2 6 rfl rfl)
theorem dX6_readsOne_55 : decode cX6_readsOne 55 = .ok (.bipush 16, 2) := dk_16 16 (dk_at dksX6_readsOne_2 9 rfl rfl)
theorem dX6_readsOne_57 : decode cX6_readsOne 57 = .ok (.aload_n 0, 1) := dk_42 (dk_at dksX6_readsOne_2 11 rfl rfl)
theorem dX6_readsOne_58 : decode cX6_readsOne 58 = .ok (.getfield 348, 3) := dk_180 1 92 (dk_at dksX6_readsOne_2 12 rfl rfl)
theorem dX6_readsOne_61 : decode cX6_readsOne 61 = .ok (.imul, 1) := dk_104 (dk_at dksX6_readsOne_2 15 rfl rfl)
theorem dX6_readsOne_62 : decode cX6_readsOne 62 = .ok (.iload_n 1, 1) := dk_27 (dk_at dksX6_readsOne_2 16 rfl rfl)
theorem dX6_readsOne_63 : decode cX6_readsOne 63 = .ok (.iastore, 1) := dk_79 (dk_at dksX6_readsOne_2 17 rfl rfl)
theorem dX6_readsOne_64 : decode cX6_readsOne 64 = .ok (.aload_n 0, 1) := dk_42 (dk_at dksX6_readsOne_2 18 rfl rfl)
theorem dX6_readsOne_65 : decode cX6_readsOne 65 = .ok (.iload_n 1, 1) := dk_27 (dk_at dksX6_readsOne_2 19 rfl rfl)
theorem dX6_readsOne_66 : decode cX6_readsOne 66 = .ok (.bipush 16, 2) := dk_16 16 (dk_at dksX6_readsOne_2 20 rfl rfl)
theorem dX6_readsOne_68 : decode cX6_readsOne 68 = .ok (.aload_n 0, 1) := dk_42 (dk_at dksX6_readsOne_2 22 rfl rfl)
theorem dX6_readsOne_69 : decode cX6_readsOne 69 = .ok (.getfield 348, 3) := dk_180 1 92 (dk_at dksX6_readsOne_3 0 rfl rfl)
theorem dX6_readsOne_72 : decode cX6_readsOne 72 = .ok (.imul, 1) := dk_104 (dk_at dksX6_readsOne_3 3 rfl rfl)
theorem dX6_readsOne_73 : decode cX6_readsOne 73 = .ok (.iconst 1, 1) := dk_4 (dk_at dksX6_readsOne_3 4 rfl rfl)
theorem dX6_readsOne_74 : decode cX6_readsOne 74 = .ok (.iadd, 1) := dk_96 (dk_at dksX6_readsOne_3 5 rfl rfl)
theorem dX6_readsOne_75 : decode cX6_readsOne 75 = .ok (.invokevirtual 351, 3) := dk_182 1 95 (dk_at dksX6_readsOne_3 6 rfl rfl)
theorem dX6_readsOne_78 : decode cX6_readsOne 78 = .ok (.aload_n 0, 1) := dk_42 (dk_at dksX6_readsOne_3 9 rfl rfl)
theorem dX6_readsOne_79 : decode cX6_readsOne 79 = .ok (.dup, 1) := dk_89 (dk_at dksX6_readsOne_3 10 rfl rfl)
theorem dX6_readsOne_80 : decode cX6_readsOne 80 = .ok (.getfield 348, 3) := dk_180 1 92 (dk_at dksX6_readsOne_3 11 rfl rfl)
theorem dX6_readsOne_83 : decode cX6_readsOne 83 = .ok (.iconst 1, 1) := dk_4 (dk_at dksX6_readsOne_3 14 rfl rfl)
theorem dX6_readsOne_84 : decode cX6_readsOne 84 = .ok (.iadd, 1) := dk_96 (dk_at dksX6_readsOne_3 15 rfl rfl)
theorem dX6_readsOne_85 : decode cX6_readsOne 85 = .ok (.putfield 348, 3) := dk_181 1 92 (dk_at dksX6_readsOne_3 16 rfl rfl)
theorem dX6_readsOne_88 : decode cX6_readsOne 88 = .ok (.aload_n 0, 1) := dk_42 (dk_at dksX6_readsOne_3 19 rfl rfl)
theorem dX6_readsOne_89 : decode cX6_readsOne 89 = .ok (.invokevirtual 281, 3) := dk_182 1 25 (dk_at dksX6_readsOne_3 20 rfl rfl)
theorem dX6_readsOne_92 : decode cX6_readsOne 92 = .ok (.return_, 1) := dk_177 (dk_at dksX6_readsOne_3 23 rfl rfl)
abbrev cX6_commandHere : ByteArray := prog_14_method_90_code
def yX6_commandHere : MethodName := ⟨RX6, "commandHere", "()I"⟩
def dkwX6_commandHere_2 : List UInt8 := [167, 0, 7, 42, 182, 1, 80, 172]
abbrev dktX6_commandHere_2 : List UInt8 := dkwX6_commandHere_2 ++ []
def dkwX6_commandHere_1 : List UInt8 := [42, 19, 1, 78, 182, 1, 18, 153, 0, 5, 5, 172, 42, 19, 1, 42, 182, 1, 18, 153, 0, 7, 6]
abbrev dktX6_commandHere_1 : List UInt8 := dkwX6_commandHere_1 ++ dktX6_commandHere_2
def dkwX6_commandHere_0 : List UInt8 := [42, 19, 1, 74, 182, 1, 18, 153, 0, 5, 3, 172, 42, 19, 1, 76, 182, 1, 18, 153, 0, 5, 4, 172]
abbrev dktX6_commandHere_0 : List UInt8 := dkwX6_commandHere_0 ++ dktX6_commandHere_1
theorem dksX6_commandHere_0 : cX6_commandHere.data.toList.drop 0 = dktX6_commandHere_0 := by decide +kernel
theorem dksX6_commandHere_1 : cX6_commandHere.data.toList.drop 24 = dktX6_commandHere_1 := dk_seg dksX6_commandHere_0 24 rfl rfl
theorem dksX6_commandHere_2 : cX6_commandHere.data.toList.drop 47 = dktX6_commandHere_2 := dk_seg dksX6_commandHere_1 23 rfl rfl
theorem dX6_commandHere_0 : decode cX6_commandHere 0 = .ok (.aload_n 0, 1) := dk_42 (dk_at dksX6_commandHere_0 0 rfl rfl)
theorem dX6_commandHere_1 : decode cX6_commandHere 1 = .ok (.ldc_w 330, 3) := dk_19 1 74 (dk_at dksX6_commandHere_0 1 rfl rfl)
theorem dX6_commandHere_4 : decode cX6_commandHere 4 = .ok (.invokevirtual 274, 3) := dk_182 1 18 (dk_at dksX6_commandHere_0 4 rfl rfl)
theorem dX6_commandHere_7 : decode cX6_commandHere 7 = .ok (.ifCond .eq 5, 3) := dk_153 0 5 (dk_at dksX6_commandHere_0 7 rfl rfl)
theorem dX6_commandHere_10 : decode cX6_commandHere 10 = .ok (.iconst 0, 1) := dk_3 (dk_at dksX6_commandHere_0 10 rfl rfl)
theorem dX6_commandHere_11 : decode cX6_commandHere 11 = .ok (.ireturn, 1) := dk_172 (dk_at dksX6_commandHere_0 11 rfl rfl)
theorem dX6_commandHere_12 : decode cX6_commandHere 12 = .ok (.aload_n 0, 1) := dk_42 (dk_at dksX6_commandHere_0 12 rfl rfl)
theorem dX6_commandHere_13 : decode cX6_commandHere 13 = .ok (.ldc_w 332, 3) := dk_19 1 76 (dk_at dksX6_commandHere_0 13 rfl rfl)
theorem dX6_commandHere_16 : decode cX6_commandHere 16 = .ok (.invokevirtual 274, 3) := dk_182 1 18 (dk_at dksX6_commandHere_0 16 rfl rfl)
theorem dX6_commandHere_19 : decode cX6_commandHere 19 = .ok (.ifCond .eq 5, 3) := dk_153 0 5 (dk_at dksX6_commandHere_0 19 rfl rfl)
theorem dX6_commandHere_22 : decode cX6_commandHere 22 = .ok (.iconst 1, 1) := dk_4 (dk_at dksX6_commandHere_0 22 rfl rfl)
theorem dX6_commandHere_23 : decode cX6_commandHere 23 = .ok (.ireturn, 1) := dk_172 (dk_at dksX6_commandHere_0 23 rfl rfl)
theorem dX6_commandHere_24 : decode cX6_commandHere 24 = .ok (.aload_n 0, 1) := dk_42 (dk_at dksX6_commandHere_1 0 rfl rfl)
theorem dX6_commandHere_25 : decode cX6_commandHere 25 = .ok (.ldc_w 334, 3) := dk_19 1 78 (dk_at dksX6_commandHere_1 1 rfl rfl)
theorem dX6_commandHere_28 : decode cX6_commandHere 28 = .ok (.invokevirtual 274, 3) := dk_182 1 18 (dk_at dksX6_commandHere_1 4 rfl rfl)
theorem dX6_commandHere_31 : decode cX6_commandHere 31 = .ok (.ifCond .eq 5, 3) := dk_153 0 5 (dk_at dksX6_commandHere_1 7 rfl rfl)
theorem dX6_commandHere_34 : decode cX6_commandHere 34 = .ok (.iconst 2, 1) := dk_5 (dk_at dksX6_commandHere_1 10 rfl rfl)
theorem dX6_commandHere_35 : decode cX6_commandHere 35 = .ok (.ireturn, 1) := dk_172 (dk_at dksX6_commandHere_1 11 rfl rfl)
theorem dX6_commandHere_36 : decode cX6_commandHere 36 = .ok (.aload_n 0, 1) := dk_42 (dk_at dksX6_commandHere_1 12 rfl rfl)
theorem dX6_commandHere_37 : decode cX6_commandHere 37 = .ok (.ldc_w 298, 3) := dk_19 1 42 (dk_at dksX6_commandHere_1 13 rfl rfl)
theorem dX6_commandHere_40 : decode cX6_commandHere 40 = .ok (.invokevirtual 274, 3) := dk_182 1 18 (dk_at dksX6_commandHere_1 16 rfl rfl)
theorem dX6_commandHere_43 : decode cX6_commandHere 43 = .ok (.ifCond .eq 7, 3) := dk_153 0 7 (dk_at dksX6_commandHere_1 19 rfl rfl)
theorem dX6_commandHere_46 : decode cX6_commandHere 46 = .ok (.iconst 3, 1) := dk_6 (dk_at dksX6_commandHere_1 22 rfl rfl)
theorem dX6_commandHere_47 : decode cX6_commandHere 47 = .ok (.goto 7, 3) := dk_167 0 7 (dk_at dksX6_commandHere_2 0 rfl rfl)
theorem dX6_commandHere_50 : decode cX6_commandHere 50 = .ok (.aload_n 0, 1) := dk_42 (dk_at dksX6_commandHere_2 3 rfl rfl)
theorem dX6_commandHere_51 : decode cX6_commandHere 51 = .ok (.invokevirtual 336, 3) := dk_182 1 80 (dk_at dksX6_commandHere_2 4 rfl rfl)
theorem dX6_commandHere_54 : decode cX6_commandHere 54 = .ok (.ireturn, 1) := dk_172 (dk_at dksX6_commandHere_2 7 rfl rfl)
abbrev cX6_otherCommand : ByteArray := prog_14_method_89_code
def yX6_otherCommand : MethodName := ⟨RX6, "otherCommand", "()I"⟩
def dkwX6_otherCommand_2 : List UInt8 := [16, 7, 167, 0, 4, 2, 172]
abbrev dktX6_otherCommand_2 : List UInt8 := dkwX6_otherCommand_2 ++ []
def dkwX6_otherCommand_1 : List UInt8 := [42, 19, 1, 70, 182, 1, 18, 153, 0, 6, 16, 6, 172, 42, 19, 1, 72, 182, 1, 18, 153, 0, 8]
abbrev dktX6_otherCommand_1 : List UInt8 := dkwX6_otherCommand_1 ++ dktX6_otherCommand_2
def dkwX6_otherCommand_0 : List UInt8 := [42, 19, 1, 47, 182, 1, 18, 153, 0, 5, 7, 172, 42, 19, 1, 68, 182, 1, 18, 153, 0, 5, 8, 172]
abbrev dktX6_otherCommand_0 : List UInt8 := dkwX6_otherCommand_0 ++ dktX6_otherCommand_1
theorem dksX6_otherCommand_0 : cX6_otherCommand.data.toList.drop 0 = dktX6_otherCommand_0 := by decide +kernel
theorem dksX6_otherCommand_1 : cX6_otherCommand.data.toList.drop 24 = dktX6_otherCommand_1 := dk_seg dksX6_otherCommand_0 24 rfl rfl
theorem dksX6_otherCommand_2 : cX6_otherCommand.data.toList.drop 47 = dktX6_otherCommand_2 := dk_seg dksX6_otherCommand_1 23 rfl rfl
theorem dX6_otherCommand_0 : decode cX6_otherCommand 0 = .ok (.aload_n 0, 1) := dk_42 (dk_at dksX6_otherCommand_0 0 rfl rfl)
theorem dX6_otherCommand_1 : decode cX6_otherCommand 1 = .ok (.ldc_w 303, 3) := dk_19 1 47 (dk_at dksX6_otherCommand_0 1 rfl rfl)
theorem dX6_otherCommand_4 : decode cX6_otherCommand 4 = .ok (.invokevirtual 274, 3) := dk_182 1 18 (dk_at dksX6_otherCommand_0 4 rfl rfl)
theorem dX6_otherCommand_7 : decode cX6_otherCommand 7 = .ok (.ifCond .eq 5, 3) := dk_153 0 5 (dk_at dksX6_otherCommand_0 7 rfl rfl)
theorem dX6_otherCommand_10 : decode cX6_otherCommand 10 = .ok (.iconst 4, 1) := dk_7 (dk_at dksX6_otherCommand_0 10 rfl rfl)
theorem dX6_otherCommand_11 : decode cX6_otherCommand 11 = .ok (.ireturn, 1) := dk_172 (dk_at dksX6_otherCommand_0 11 rfl rfl)
theorem dX6_otherCommand_12 : decode cX6_otherCommand 12 = .ok (.aload_n 0, 1) := dk_42 (dk_at dksX6_otherCommand_0 12 rfl rfl)
theorem dX6_otherCommand_13 : decode cX6_otherCommand 13 = .ok (.ldc_w 324, 3) := dk_19 1 68 (dk_at dksX6_otherCommand_0 13 rfl rfl)
theorem dX6_otherCommand_16 : decode cX6_otherCommand 16 = .ok (.invokevirtual 274, 3) := dk_182 1 18 (dk_at dksX6_otherCommand_0 16 rfl rfl)
theorem dX6_otherCommand_19 : decode cX6_otherCommand 19 = .ok (.ifCond .eq 5, 3) := dk_153 0 5 (dk_at dksX6_otherCommand_0 19 rfl rfl)
theorem dX6_otherCommand_22 : decode cX6_otherCommand 22 = .ok (.iconst 5, 1) := dk_8 (dk_at dksX6_otherCommand_0 22 rfl rfl)
theorem dX6_otherCommand_23 : decode cX6_otherCommand 23 = .ok (.ireturn, 1) := dk_172 (dk_at dksX6_otherCommand_0 23 rfl rfl)
theorem dX6_otherCommand_24 : decode cX6_otherCommand 24 = .ok (.aload_n 0, 1) := dk_42 (dk_at dksX6_otherCommand_1 0 rfl rfl)
theorem dX6_otherCommand_25 : decode cX6_otherCommand 25 = .ok (.ldc_w 326, 3) := dk_19 1 70 (dk_at dksX6_otherCommand_1 1 rfl rfl)
theorem dX6_otherCommand_28 : decode cX6_otherCommand 28 = .ok (.invokevirtual 274, 3) := dk_182 1 18 (dk_at dksX6_otherCommand_1 4 rfl rfl)
theorem dX6_otherCommand_31 : decode cX6_otherCommand 31 = .ok (.ifCond .eq 6, 3) := dk_153 0 6 (dk_at dksX6_otherCommand_1 7 rfl rfl)
theorem dX6_otherCommand_34 : decode cX6_otherCommand 34 = .ok (.bipush 6, 2) := dk_16 6 (dk_at dksX6_otherCommand_1 10 rfl rfl)
theorem dX6_otherCommand_36 : decode cX6_otherCommand 36 = .ok (.ireturn, 1) := dk_172 (dk_at dksX6_otherCommand_1 12 rfl rfl)
theorem dX6_otherCommand_37 : decode cX6_otherCommand 37 = .ok (.aload_n 0, 1) := dk_42 (dk_at dksX6_otherCommand_1 13 rfl rfl)
theorem dX6_otherCommand_38 : decode cX6_otherCommand 38 = .ok (.ldc_w 328, 3) := dk_19 1 72 (dk_at dksX6_otherCommand_1 14 rfl rfl)
theorem dX6_otherCommand_41 : decode cX6_otherCommand 41 = .ok (.invokevirtual 274, 3) := dk_182 1 18 (dk_at dksX6_otherCommand_1 17 rfl rfl)
theorem dX6_otherCommand_44 : decode cX6_otherCommand 44 = .ok (.ifCond .eq 8, 3) := dk_153 0 8 (dk_at dksX6_otherCommand_1 20 rfl rfl)
theorem dX6_otherCommand_47 : decode cX6_otherCommand 47 = .ok (.bipush 7, 2) := dk_16 7 (dk_at dksX6_otherCommand_2 0 rfl rfl)
theorem dX6_otherCommand_49 : decode cX6_otherCommand 49 = .ok (.goto 4, 3) := dk_167 0 4 (dk_at dksX6_otherCommand_2 2 rfl rfl)
theorem dX6_otherCommand_52 : decode cX6_otherCommand 52 = .ok (.iconst (-1), 1) := dk_2 (dk_at dksX6_otherCommand_2 5 rfl rfl)
theorem dX6_otherCommand_53 : decode cX6_otherCommand 53 = .ok (.ireturn, 1) := dk_172 (dk_at dksX6_otherCommand_2 6 rfl rfl)
abbrev cX6_partsOf : ByteArray := prog_14_method_93_code
def yX6_partsOf : MethodName := ⟨RX6, "partsOf", "(II)V"⟩
def dkwX6_partsOf_5 : List UInt8 := [42, 4, 16, 60, 182, 1, 22, 79, 177, 42, 27, 28, 182, 1, 86, 177]
abbrev dktX6_partsOf_5 : List UInt8 := dkwX6_partsOf_5 ++ []
def dkwX6_partsOf_4 : List UInt8 := [182, 1, 22, 79, 177, 42, 180, 0, 35, 28, 42, 4, 16, 12, 182, 1, 22, 79, 177, 42, 180, 0, 35, 28]
abbrev dktX6_partsOf_4 : List UInt8 := dkwX6_partsOf_4 ++ dktX6_partsOf_5
def dkwX6_partsOf_3 : List UInt8 := [180, 0, 35, 28, 42, 3, 4, 182, 1, 22, 79, 42, 180, 0, 35, 28, 4, 96, 42, 3, 16, 7]
abbrev dktX6_partsOf_3 : List UInt8 := dkwX6_partsOf_3 ++ dktX6_partsOf_4
def dkwX6_partsOf_2 : List UInt8 := [42, 180, 0, 35, 28, 42, 3, 4, 182, 1, 22, 79, 42, 28, 6, 96, 4, 100, 182, 1, 83, 177, 42]
abbrev dktX6_partsOf_2 : List UInt8 := dkwX6_partsOf_2 ++ dktX6_partsOf_3
def dkwX6_partsOf_1 : List UInt8 := [170, 0, 0, 0, 0, 0, 109, 0, 0, 0, 4, 0, 0, 0, 7, 0, 0, 0, 31, 0, 0, 0, 53, 0, 0, 0, 81, 0, 0, 0, 95]
abbrev dktX6_partsOf_1 : List UInt8 := dkwX6_partsOf_1 ++ dktX6_partsOf_2
def dkwX6_partsOf_0 : List UInt8 := [27]
abbrev dktX6_partsOf_0 : List UInt8 := dkwX6_partsOf_0 ++ dktX6_partsOf_1
theorem dksX6_partsOf_0 : cX6_partsOf.data.toList.drop 0 = dktX6_partsOf_0 := by decide +kernel
theorem dksX6_partsOf_1 : cX6_partsOf.data.toList.drop 1 = dktX6_partsOf_1 := dk_seg dksX6_partsOf_0 1 rfl rfl
theorem dksX6_partsOf_2 : cX6_partsOf.data.toList.drop 32 = dktX6_partsOf_2 := dk_seg dksX6_partsOf_1 31 rfl rfl
theorem dksX6_partsOf_3 : cX6_partsOf.data.toList.drop 55 = dktX6_partsOf_3 := dk_seg dksX6_partsOf_2 23 rfl rfl
theorem dksX6_partsOf_4 : cX6_partsOf.data.toList.drop 77 = dktX6_partsOf_4 := dk_seg dksX6_partsOf_3 22 rfl rfl
theorem dksX6_partsOf_5 : cX6_partsOf.data.toList.drop 101 = dktX6_partsOf_5 := dk_seg dksX6_partsOf_4 24 rfl rfl
theorem dX6_partsOf_0 : decode cX6_partsOf 0 = .ok (.iload_n 1, 1) := dk_27 (dk_at dksX6_partsOf_0 0 rfl rfl)
theorem dX6_partsOf_1 : decode cX6_partsOf 1 = .ok (.tableswitch 109 4 7 #[31, 53, 81, 95], 31) := by decide +kernel
theorem dX6_partsOf_32 : decode cX6_partsOf 32 = .ok (.aload_n 0, 1) := dk_42 (dk_at dksX6_partsOf_2 0 rfl rfl)
theorem dX6_partsOf_33 : decode cX6_partsOf 33 = .ok (.getfield 35, 3) := dk_180 0 35 (dk_at dksX6_partsOf_2 1 rfl rfl)
theorem dX6_partsOf_36 : decode cX6_partsOf 36 = .ok (.iload_n 2, 1) := dk_28 (dk_at dksX6_partsOf_2 4 rfl rfl)
theorem dX6_partsOf_37 : decode cX6_partsOf 37 = .ok (.aload_n 0, 1) := dk_42 (dk_at dksX6_partsOf_2 5 rfl rfl)
theorem dX6_partsOf_38 : decode cX6_partsOf 38 = .ok (.iconst 0, 1) := dk_3 (dk_at dksX6_partsOf_2 6 rfl rfl)
theorem dX6_partsOf_39 : decode cX6_partsOf 39 = .ok (.iconst 1, 1) := dk_4 (dk_at dksX6_partsOf_2 7 rfl rfl)
theorem dX6_partsOf_40 : decode cX6_partsOf 40 = .ok (.invokevirtual 278, 3) := dk_182 1 22 (dk_at dksX6_partsOf_2 8 rfl rfl)
theorem dX6_partsOf_43 : decode cX6_partsOf 43 = .ok (.iastore, 1) := dk_79 (dk_at dksX6_partsOf_2 11 rfl rfl)
theorem dX6_partsOf_44 : decode cX6_partsOf 44 = .ok (.aload_n 0, 1) := dk_42 (dk_at dksX6_partsOf_2 12 rfl rfl)
theorem dX6_partsOf_45 : decode cX6_partsOf 45 = .ok (.iload_n 2, 1) := dk_28 (dk_at dksX6_partsOf_2 13 rfl rfl)
theorem dX6_partsOf_46 : decode cX6_partsOf 46 = .ok (.iconst 3, 1) := dk_6 (dk_at dksX6_partsOf_2 14 rfl rfl)
theorem dX6_partsOf_47 : decode cX6_partsOf 47 = .ok (.iadd, 1) := dk_96 (dk_at dksX6_partsOf_2 15 rfl rfl)
theorem dX6_partsOf_48 : decode cX6_partsOf 48 = .ok (.iconst 1, 1) := dk_4 (dk_at dksX6_partsOf_2 16 rfl rfl)
theorem dX6_partsOf_49 : decode cX6_partsOf 49 = .ok (.isub, 1) := dk_100 (dk_at dksX6_partsOf_2 17 rfl rfl)
theorem dX6_partsOf_50 : decode cX6_partsOf 50 = .ok (.invokevirtual 339, 3) := dk_182 1 83 (dk_at dksX6_partsOf_2 18 rfl rfl)
theorem dX6_partsOf_53 : decode cX6_partsOf 53 = .ok (.return_, 1) := dk_177 (dk_at dksX6_partsOf_2 21 rfl rfl)
theorem dX6_partsOf_54 : decode cX6_partsOf 54 = .ok (.aload_n 0, 1) := dk_42 (dk_at dksX6_partsOf_2 22 rfl rfl)
theorem dX6_partsOf_55 : decode cX6_partsOf 55 = .ok (.getfield 35, 3) := dk_180 0 35 (dk_at dksX6_partsOf_3 0 rfl rfl)
theorem dX6_partsOf_58 : decode cX6_partsOf 58 = .ok (.iload_n 2, 1) := dk_28 (dk_at dksX6_partsOf_3 3 rfl rfl)
theorem dX6_partsOf_59 : decode cX6_partsOf 59 = .ok (.aload_n 0, 1) := dk_42 (dk_at dksX6_partsOf_3 4 rfl rfl)
theorem dX6_partsOf_60 : decode cX6_partsOf 60 = .ok (.iconst 0, 1) := dk_3 (dk_at dksX6_partsOf_3 5 rfl rfl)
theorem dX6_partsOf_61 : decode cX6_partsOf 61 = .ok (.iconst 1, 1) := dk_4 (dk_at dksX6_partsOf_3 6 rfl rfl)
theorem dX6_partsOf_62 : decode cX6_partsOf 62 = .ok (.invokevirtual 278, 3) := dk_182 1 22 (dk_at dksX6_partsOf_3 7 rfl rfl)
theorem dX6_partsOf_65 : decode cX6_partsOf 65 = .ok (.iastore, 1) := dk_79 (dk_at dksX6_partsOf_3 10 rfl rfl)
theorem dX6_partsOf_66 : decode cX6_partsOf 66 = .ok (.aload_n 0, 1) := dk_42 (dk_at dksX6_partsOf_3 11 rfl rfl)
theorem dX6_partsOf_67 : decode cX6_partsOf 67 = .ok (.getfield 35, 3) := dk_180 0 35 (dk_at dksX6_partsOf_3 12 rfl rfl)
theorem dX6_partsOf_70 : decode cX6_partsOf 70 = .ok (.iload_n 2, 1) := dk_28 (dk_at dksX6_partsOf_3 15 rfl rfl)
theorem dX6_partsOf_71 : decode cX6_partsOf 71 = .ok (.iconst 1, 1) := dk_4 (dk_at dksX6_partsOf_3 16 rfl rfl)
theorem dX6_partsOf_72 : decode cX6_partsOf 72 = .ok (.iadd, 1) := dk_96 (dk_at dksX6_partsOf_3 17 rfl rfl)
theorem dX6_partsOf_73 : decode cX6_partsOf 73 = .ok (.aload_n 0, 1) := dk_42 (dk_at dksX6_partsOf_3 18 rfl rfl)
theorem dX6_partsOf_74 : decode cX6_partsOf 74 = .ok (.iconst 0, 1) := dk_3 (dk_at dksX6_partsOf_3 19 rfl rfl)
theorem dX6_partsOf_75 : decode cX6_partsOf 75 = .ok (.bipush 7, 2) := dk_16 7 (dk_at dksX6_partsOf_3 20 rfl rfl)
theorem dX6_partsOf_77 : decode cX6_partsOf 77 = .ok (.invokevirtual 278, 3) := dk_182 1 22 (dk_at dksX6_partsOf_4 0 rfl rfl)
theorem dX6_partsOf_80 : decode cX6_partsOf 80 = .ok (.iastore, 1) := dk_79 (dk_at dksX6_partsOf_4 3 rfl rfl)
theorem dX6_partsOf_81 : decode cX6_partsOf 81 = .ok (.return_, 1) := dk_177 (dk_at dksX6_partsOf_4 4 rfl rfl)
theorem dX6_partsOf_82 : decode cX6_partsOf 82 = .ok (.aload_n 0, 1) := dk_42 (dk_at dksX6_partsOf_4 5 rfl rfl)
theorem dX6_partsOf_83 : decode cX6_partsOf 83 = .ok (.getfield 35, 3) := dk_180 0 35 (dk_at dksX6_partsOf_4 6 rfl rfl)
theorem dX6_partsOf_86 : decode cX6_partsOf 86 = .ok (.iload_n 2, 1) := dk_28 (dk_at dksX6_partsOf_4 9 rfl rfl)
theorem dX6_partsOf_87 : decode cX6_partsOf 87 = .ok (.aload_n 0, 1) := dk_42 (dk_at dksX6_partsOf_4 10 rfl rfl)
theorem dX6_partsOf_88 : decode cX6_partsOf 88 = .ok (.iconst 1, 1) := dk_4 (dk_at dksX6_partsOf_4 11 rfl rfl)
theorem dX6_partsOf_89 : decode cX6_partsOf 89 = .ok (.bipush 12, 2) := dk_16 12 (dk_at dksX6_partsOf_4 12 rfl rfl)
theorem dX6_partsOf_91 : decode cX6_partsOf 91 = .ok (.invokevirtual 278, 3) := dk_182 1 22 (dk_at dksX6_partsOf_4 14 rfl rfl)
theorem dX6_partsOf_94 : decode cX6_partsOf 94 = .ok (.iastore, 1) := dk_79 (dk_at dksX6_partsOf_4 17 rfl rfl)
theorem dX6_partsOf_95 : decode cX6_partsOf 95 = .ok (.return_, 1) := dk_177 (dk_at dksX6_partsOf_4 18 rfl rfl)
theorem dX6_partsOf_96 : decode cX6_partsOf 96 = .ok (.aload_n 0, 1) := dk_42 (dk_at dksX6_partsOf_4 19 rfl rfl)
theorem dX6_partsOf_97 : decode cX6_partsOf 97 = .ok (.getfield 35, 3) := dk_180 0 35 (dk_at dksX6_partsOf_4 20 rfl rfl)
theorem dX6_partsOf_100 : decode cX6_partsOf 100 = .ok (.iload_n 2, 1) := dk_28 (dk_at dksX6_partsOf_4 23 rfl rfl)
theorem dX6_partsOf_101 : decode cX6_partsOf 101 = .ok (.aload_n 0, 1) := dk_42 (dk_at dksX6_partsOf_5 0 rfl rfl)
theorem dX6_partsOf_102 : decode cX6_partsOf 102 = .ok (.iconst 1, 1) := dk_4 (dk_at dksX6_partsOf_5 1 rfl rfl)
theorem dX6_partsOf_103 : decode cX6_partsOf 103 = .ok (.bipush 60, 2) := dk_16 60 (dk_at dksX6_partsOf_5 2 rfl rfl)
theorem dX6_partsOf_105 : decode cX6_partsOf 105 = .ok (.invokevirtual 278, 3) := dk_182 1 22 (dk_at dksX6_partsOf_5 4 rfl rfl)
theorem dX6_partsOf_108 : decode cX6_partsOf 108 = .ok (.iastore, 1) := dk_79 (dk_at dksX6_partsOf_5 7 rfl rfl)
theorem dX6_partsOf_109 : decode cX6_partsOf 109 = .ok (.return_, 1) := dk_177 (dk_at dksX6_partsOf_5 8 rfl rfl)
theorem dX6_partsOf_110 : decode cX6_partsOf 110 = .ok (.aload_n 0, 1) := dk_42 (dk_at dksX6_partsOf_5 9 rfl rfl)
theorem dX6_partsOf_111 : decode cX6_partsOf 111 = .ok (.iload_n 1, 1) := dk_27 (dk_at dksX6_partsOf_5 10 rfl rfl)
theorem dX6_partsOf_112 : decode cX6_partsOf 112 = .ok (.iload_n 2, 1) := dk_28 (dk_at dksX6_partsOf_5 11 rfl rfl)
theorem dX6_partsOf_113 : decode cX6_partsOf 113 = .ok (.invokevirtual 342, 3) := dk_182 1 86 (dk_at dksX6_partsOf_5 12 rfl rfl)
theorem dX6_partsOf_116 : decode cX6_partsOf 116 = .ok (.return_, 1) := dk_177 (dk_at dksX6_partsOf_5 15 rfl rfl)
abbrev cX6_wordOf : ByteArray := prog_14_method_91_code
def yX6_wordOf : MethodName := ⟨RX6, "wordOf", "(I)V"⟩
def dkwX6_wordOf_1 : List UInt8 := [42, 180, 0, 35, 27, 28, 96, 42, 180, 0, 25, 28, 46, 79, 132, 2, 1, 167, 255, 233, 177]
abbrev dktX6_wordOf_1 : List UInt8 := dkwX6_wordOf_1 ++ []
def dkwX6_wordOf_0 : List UInt8 := [42, 182, 1, 31, 42, 180, 0, 244, 153, 0, 4, 177, 42, 182, 1, 5, 3, 61, 28, 16, 13, 162, 0, 23]
abbrev dktX6_wordOf_0 : List UInt8 := dkwX6_wordOf_0 ++ dktX6_wordOf_1
theorem dksX6_wordOf_0 : cX6_wordOf.data.toList.drop 0 = dktX6_wordOf_0 := by decide +kernel
theorem dksX6_wordOf_1 : cX6_wordOf.data.toList.drop 24 = dktX6_wordOf_1 := dk_seg dksX6_wordOf_0 24 rfl rfl
theorem dX6_wordOf_0 : decode cX6_wordOf 0 = .ok (.aload_n 0, 1) := dk_42 (dk_at dksX6_wordOf_0 0 rfl rfl)
theorem dX6_wordOf_1 : decode cX6_wordOf 1 = .ok (.invokevirtual 287, 3) := dk_182 1 31 (dk_at dksX6_wordOf_0 1 rfl rfl)
theorem dX6_wordOf_4 : decode cX6_wordOf 4 = .ok (.aload_n 0, 1) := dk_42 (dk_at dksX6_wordOf_0 4 rfl rfl)
theorem dX6_wordOf_5 : decode cX6_wordOf 5 = .ok (.getfield 244, 3) := dk_180 0 244 (dk_at dksX6_wordOf_0 5 rfl rfl)
theorem dX6_wordOf_8 : decode cX6_wordOf 8 = .ok (.ifCond .eq 4, 3) := dk_153 0 4 (dk_at dksX6_wordOf_0 8 rfl rfl)
theorem dX6_wordOf_11 : decode cX6_wordOf 11 = .ok (.return_, 1) := dk_177 (dk_at dksX6_wordOf_0 11 rfl rfl)
theorem dX6_wordOf_12 : decode cX6_wordOf 12 = .ok (.aload_n 0, 1) := dk_42 (dk_at dksX6_wordOf_0 12 rfl rfl)
theorem dX6_wordOf_13 : decode cX6_wordOf 13 = .ok (.invokevirtual 261, 3) := dk_182 1 5 (dk_at dksX6_wordOf_0 13 rfl rfl)
theorem dX6_wordOf_16 : decode cX6_wordOf 16 = .ok (.iconst 0, 1) := dk_3 (dk_at dksX6_wordOf_0 16 rfl rfl)
theorem dX6_wordOf_17 : decode cX6_wordOf 17 = .ok (.istore_n 2, 1) := dk_61 (dk_at dksX6_wordOf_0 17 rfl rfl)
theorem dX6_wordOf_18 : decode cX6_wordOf 18 = .ok (.iload_n 2, 1) := dk_28 (dk_at dksX6_wordOf_0 18 rfl rfl)
theorem dX6_wordOf_19 : decode cX6_wordOf 19 = .ok (.bipush 13, 2) := dk_16 13 (dk_at dksX6_wordOf_0 19 rfl rfl)
theorem dX6_wordOf_21 : decode cX6_wordOf 21 = .ok (.if_icmp .ge 23, 3) := dk_162 0 23 (dk_at dksX6_wordOf_0 21 rfl rfl)
theorem dX6_wordOf_24 : decode cX6_wordOf 24 = .ok (.aload_n 0, 1) := dk_42 (dk_at dksX6_wordOf_1 0 rfl rfl)
theorem dX6_wordOf_25 : decode cX6_wordOf 25 = .ok (.getfield 35, 3) := dk_180 0 35 (dk_at dksX6_wordOf_1 1 rfl rfl)
theorem dX6_wordOf_28 : decode cX6_wordOf 28 = .ok (.iload_n 1, 1) := dk_27 (dk_at dksX6_wordOf_1 4 rfl rfl)
theorem dX6_wordOf_29 : decode cX6_wordOf 29 = .ok (.iload_n 2, 1) := dk_28 (dk_at dksX6_wordOf_1 5 rfl rfl)
theorem dX6_wordOf_30 : decode cX6_wordOf 30 = .ok (.iadd, 1) := dk_96 (dk_at dksX6_wordOf_1 6 rfl rfl)
theorem dX6_wordOf_31 : decode cX6_wordOf 31 = .ok (.aload_n 0, 1) := dk_42 (dk_at dksX6_wordOf_1 7 rfl rfl)
theorem dX6_wordOf_32 : decode cX6_wordOf 32 = .ok (.getfield 25, 3) := dk_180 0 25 (dk_at dksX6_wordOf_1 8 rfl rfl)
theorem dX6_wordOf_35 : decode cX6_wordOf 35 = .ok (.iload_n 2, 1) := dk_28 (dk_at dksX6_wordOf_1 11 rfl rfl)
theorem dX6_wordOf_36 : decode cX6_wordOf 36 = .ok (.iaload, 1) := dk_46 (dk_at dksX6_wordOf_1 12 rfl rfl)
theorem dX6_wordOf_37 : decode cX6_wordOf 37 = .ok (.iastore, 1) := dk_79 (dk_at dksX6_wordOf_1 13 rfl rfl)
theorem dX6_wordOf_38 : decode cX6_wordOf 38 = .ok (.iinc 2 1, 3) := dk_132 2 1 (dk_at dksX6_wordOf_1 14 rfl rfl)
theorem dX6_wordOf_41 : decode cX6_wordOf 41 = .ok (.goto (-23), 3) := dk_167 255 233 (dk_at dksX6_wordOf_1 17 rfl rfl)
theorem dX6_wordOf_44 : decode cX6_wordOf 44 = .ok (.return_, 1) := dk_177 (dk_at dksX6_wordOf_1 20 rfl rfl)
abbrev cX6_slotParts : ByteArray := prog_14_method_92_code
def yX6_slotParts : MethodName := ⟨RX6, "slotParts", "(II)V"⟩
def dkwX6_slotParts_3 : List UInt8 := [182, 1, 22, 79, 177, 42, 180, 0, 35, 28, 4, 96, 42, 4, 16, 30, 182, 1, 22, 79, 177, 177]
abbrev dktX6_slotParts_3 : List UInt8 := dkwX6_slotParts_3 ++ []
def dkwX6_slotParts_2 : List UInt8 := [42, 180, 0, 35, 28, 4, 96, 42, 182, 1, 28, 79, 177, 42, 180, 0, 35, 28, 4, 96, 42, 4, 16, 99]
abbrev dktX6_slotParts_2 : List UInt8 := dkwX6_slotParts_2 ++ dktX6_slotParts_3
def dkwX6_slotParts_1 : List UInt8 := [170, 0, 0, 0, 0, 75, 0, 0, 0, 0, 0, 0, 0, 3, 0, 0, 0, 30, 0, 0, 0, 75, 0, 0, 0, 43, 0, 0, 0, 59]
abbrev dktX6_slotParts_1 : List UInt8 := dkwX6_slotParts_1 ++ dktX6_slotParts_2
def dkwX6_slotParts_0 : List UInt8 := [42, 180, 0, 35, 28, 42, 3, 16, 39, 182, 1, 22, 79, 27]
abbrev dktX6_slotParts_0 : List UInt8 := dkwX6_slotParts_0 ++ dktX6_slotParts_1
theorem dksX6_slotParts_0 : cX6_slotParts.data.toList.drop 0 = dktX6_slotParts_0 := by decide +kernel
theorem dksX6_slotParts_1 : cX6_slotParts.data.toList.drop 14 = dktX6_slotParts_1 := dk_seg dksX6_slotParts_0 14 rfl rfl
theorem dksX6_slotParts_2 : cX6_slotParts.data.toList.drop 44 = dktX6_slotParts_2 := dk_seg dksX6_slotParts_1 30 rfl rfl
theorem dksX6_slotParts_3 : cX6_slotParts.data.toList.drop 68 = dktX6_slotParts_3 := dk_seg dksX6_slotParts_2 24 rfl rfl
theorem dX6_slotParts_0 : decode cX6_slotParts 0 = .ok (.aload_n 0, 1) := dk_42 (dk_at dksX6_slotParts_0 0 rfl rfl)
theorem dX6_slotParts_1 : decode cX6_slotParts 1 = .ok (.getfield 35, 3) := dk_180 0 35 (dk_at dksX6_slotParts_0 1 rfl rfl)
theorem dX6_slotParts_4 : decode cX6_slotParts 4 = .ok (.iload_n 2, 1) := dk_28 (dk_at dksX6_slotParts_0 4 rfl rfl)
theorem dX6_slotParts_5 : decode cX6_slotParts 5 = .ok (.aload_n 0, 1) := dk_42 (dk_at dksX6_slotParts_0 5 rfl rfl)
theorem dX6_slotParts_6 : decode cX6_slotParts 6 = .ok (.iconst 0, 1) := dk_3 (dk_at dksX6_slotParts_0 6 rfl rfl)
theorem dX6_slotParts_7 : decode cX6_slotParts 7 = .ok (.bipush 39, 2) := dk_16 39 (dk_at dksX6_slotParts_0 7 rfl rfl)
theorem dX6_slotParts_9 : decode cX6_slotParts 9 = .ok (.invokevirtual 278, 3) := dk_182 1 22 (dk_at dksX6_slotParts_0 9 rfl rfl)
theorem dX6_slotParts_12 : decode cX6_slotParts 12 = .ok (.iastore, 1) := dk_79 (dk_at dksX6_slotParts_0 12 rfl rfl)
theorem dX6_slotParts_13 : decode cX6_slotParts 13 = .ok (.iload_n 1, 1) := dk_27 (dk_at dksX6_slotParts_0 13 rfl rfl)
theorem dX6_slotParts_14 : decode cX6_slotParts 14 = .ok (.tableswitch 75 0 3 #[30, 75, 43, 59], 30) := by decide +kernel
theorem dX6_slotParts_44 : decode cX6_slotParts 44 = .ok (.aload_n 0, 1) := dk_42 (dk_at dksX6_slotParts_2 0 rfl rfl)
theorem dX6_slotParts_45 : decode cX6_slotParts 45 = .ok (.getfield 35, 3) := dk_180 0 35 (dk_at dksX6_slotParts_2 1 rfl rfl)
theorem dX6_slotParts_48 : decode cX6_slotParts 48 = .ok (.iload_n 2, 1) := dk_28 (dk_at dksX6_slotParts_2 4 rfl rfl)
theorem dX6_slotParts_49 : decode cX6_slotParts 49 = .ok (.iconst 1, 1) := dk_4 (dk_at dksX6_slotParts_2 5 rfl rfl)
theorem dX6_slotParts_50 : decode cX6_slotParts 50 = .ok (.iadd, 1) := dk_96 (dk_at dksX6_slotParts_2 6 rfl rfl)
theorem dX6_slotParts_51 : decode cX6_slotParts 51 = .ok (.aload_n 0, 1) := dk_42 (dk_at dksX6_slotParts_2 7 rfl rfl)
theorem dX6_slotParts_52 : decode cX6_slotParts 52 = .ok (.invokevirtual 284, 3) := dk_182 1 28 (dk_at dksX6_slotParts_2 8 rfl rfl)
theorem dX6_slotParts_55 : decode cX6_slotParts 55 = .ok (.iastore, 1) := dk_79 (dk_at dksX6_slotParts_2 11 rfl rfl)
theorem dX6_slotParts_56 : decode cX6_slotParts 56 = .ok (.return_, 1) := dk_177 (dk_at dksX6_slotParts_2 12 rfl rfl)
theorem dX6_slotParts_57 : decode cX6_slotParts 57 = .ok (.aload_n 0, 1) := dk_42 (dk_at dksX6_slotParts_2 13 rfl rfl)
theorem dX6_slotParts_58 : decode cX6_slotParts 58 = .ok (.getfield 35, 3) := dk_180 0 35 (dk_at dksX6_slotParts_2 14 rfl rfl)
theorem dX6_slotParts_61 : decode cX6_slotParts 61 = .ok (.iload_n 2, 1) := dk_28 (dk_at dksX6_slotParts_2 17 rfl rfl)
theorem dX6_slotParts_62 : decode cX6_slotParts 62 = .ok (.iconst 1, 1) := dk_4 (dk_at dksX6_slotParts_2 18 rfl rfl)
theorem dX6_slotParts_63 : decode cX6_slotParts 63 = .ok (.iadd, 1) := dk_96 (dk_at dksX6_slotParts_2 19 rfl rfl)
theorem dX6_slotParts_64 : decode cX6_slotParts 64 = .ok (.aload_n 0, 1) := dk_42 (dk_at dksX6_slotParts_2 20 rfl rfl)
theorem dX6_slotParts_65 : decode cX6_slotParts 65 = .ok (.iconst 1, 1) := dk_4 (dk_at dksX6_slotParts_2 21 rfl rfl)
theorem dX6_slotParts_66 : decode cX6_slotParts 66 = .ok (.bipush 99, 2) := dk_16 99 (dk_at dksX6_slotParts_2 22 rfl rfl)
theorem dX6_slotParts_68 : decode cX6_slotParts 68 = .ok (.invokevirtual 278, 3) := dk_182 1 22 (dk_at dksX6_slotParts_3 0 rfl rfl)
theorem dX6_slotParts_71 : decode cX6_slotParts 71 = .ok (.iastore, 1) := dk_79 (dk_at dksX6_slotParts_3 3 rfl rfl)
theorem dX6_slotParts_72 : decode cX6_slotParts 72 = .ok (.return_, 1) := dk_177 (dk_at dksX6_slotParts_3 4 rfl rfl)
theorem dX6_slotParts_73 : decode cX6_slotParts 73 = .ok (.aload_n 0, 1) := dk_42 (dk_at dksX6_slotParts_3 5 rfl rfl)
theorem dX6_slotParts_74 : decode cX6_slotParts 74 = .ok (.getfield 35, 3) := dk_180 0 35 (dk_at dksX6_slotParts_3 6 rfl rfl)
theorem dX6_slotParts_77 : decode cX6_slotParts 77 = .ok (.iload_n 2, 1) := dk_28 (dk_at dksX6_slotParts_3 9 rfl rfl)
theorem dX6_slotParts_78 : decode cX6_slotParts 78 = .ok (.iconst 1, 1) := dk_4 (dk_at dksX6_slotParts_3 10 rfl rfl)
theorem dX6_slotParts_79 : decode cX6_slotParts 79 = .ok (.iadd, 1) := dk_96 (dk_at dksX6_slotParts_3 11 rfl rfl)
theorem dX6_slotParts_80 : decode cX6_slotParts 80 = .ok (.aload_n 0, 1) := dk_42 (dk_at dksX6_slotParts_3 12 rfl rfl)
theorem dX6_slotParts_81 : decode cX6_slotParts 81 = .ok (.iconst 1, 1) := dk_4 (dk_at dksX6_slotParts_3 13 rfl rfl)
theorem dX6_slotParts_82 : decode cX6_slotParts 82 = .ok (.bipush 30, 2) := dk_16 30 (dk_at dksX6_slotParts_3 14 rfl rfl)
theorem dX6_slotParts_84 : decode cX6_slotParts 84 = .ok (.invokevirtual 278, 3) := dk_182 1 22 (dk_at dksX6_slotParts_3 16 rfl rfl)
theorem dX6_slotParts_87 : decode cX6_slotParts 87 = .ok (.iastore, 1) := dk_79 (dk_at dksX6_slotParts_3 19 rfl rfl)
theorem dX6_slotParts_88 : decode cX6_slotParts 88 = .ok (.return_, 1) := dk_177 (dk_at dksX6_slotParts_3 20 rfl rfl)
theorem dX6_slotParts_89 : decode cX6_slotParts 89 = .ok (.return_, 1) := dk_177 (dk_at dksX6_slotParts_3 21 rfl rfl)
abbrev cX6_keeps : ByteArray := prog_14_method_96_code
def yX6_keeps : MethodName := ⟨RX6, "keeps", "([I)V"⟩
def dkwX6_keeps_3 : List UInt8 := [180, 1, 65, 4, 96, 181, 1, 65, 177]
abbrev dktX6_keeps_3 : List UInt8 := dkwX6_keeps_3 ++ []
def dkwX6_keeps_2 : List UInt8 := [181, 1, 65, 43, 3, 42, 180, 0, 22, 17, 2, 248, 42, 180, 1, 65, 104, 184, 0, 61, 42, 89]
abbrev dktX6_keeps_2 : List UInt8 := dkwX6_keeps_2 ++ dktX6_keeps_3
def dkwX6_keeps_1 : List UInt8 := [180, 0, 22, 28, 17, 2, 248, 96, 46, 79, 132, 2, 1, 167, 255, 230, 42, 89, 180, 1, 65, 4, 100]
abbrev dktX6_keeps_1 : List UInt8 := dkwX6_keeps_1 ++ dktX6_keeps_2
def dkwX6_keeps_0 : List UInt8 := [42, 180, 1, 65, 16, 8, 160, 0, 44, 3, 61, 28, 17, 20, 200, 162, 0, 25, 42, 180, 0, 22, 28, 42]
abbrev dktX6_keeps_0 : List UInt8 := dkwX6_keeps_0 ++ dktX6_keeps_1
theorem dksX6_keeps_0 : cX6_keeps.data.toList.drop 0 = dktX6_keeps_0 := by decide +kernel
theorem dksX6_keeps_1 : cX6_keeps.data.toList.drop 24 = dktX6_keeps_1 := dk_seg dksX6_keeps_0 24 rfl rfl
theorem dksX6_keeps_2 : cX6_keeps.data.toList.drop 47 = dktX6_keeps_2 := dk_seg dksX6_keeps_1 23 rfl rfl
theorem dksX6_keeps_3 : cX6_keeps.data.toList.drop 69 = dktX6_keeps_3 := dk_seg dksX6_keeps_2 22 rfl rfl
theorem dX6_keeps_0 : decode cX6_keeps 0 = .ok (.aload_n 0, 1) := dk_42 (dk_at dksX6_keeps_0 0 rfl rfl)
theorem dX6_keeps_1 : decode cX6_keeps 1 = .ok (.getfield 321, 3) := dk_180 1 65 (dk_at dksX6_keeps_0 1 rfl rfl)
theorem dX6_keeps_4 : decode cX6_keeps 4 = .ok (.bipush 8, 2) := dk_16 8 (dk_at dksX6_keeps_0 4 rfl rfl)
theorem dX6_keeps_6 : decode cX6_keeps 6 = .ok (.if_icmp .ne 44, 3) := dk_160 0 44 (dk_at dksX6_keeps_0 6 rfl rfl)
theorem dX6_keeps_9 : decode cX6_keeps 9 = .ok (.iconst 0, 1) := dk_3 (dk_at dksX6_keeps_0 9 rfl rfl)
theorem dX6_keeps_10 : decode cX6_keeps 10 = .ok (.istore_n 2, 1) := dk_61 (dk_at dksX6_keeps_0 10 rfl rfl)
theorem dX6_keeps_11 : decode cX6_keeps 11 = .ok (.iload_n 2, 1) := dk_28 (dk_at dksX6_keeps_0 11 rfl rfl)
theorem dX6_keeps_12 : decode cX6_keeps 12 = .ok (.sipush 5320, 3) := dk_17 20 200 (dk_at dksX6_keeps_0 12 rfl rfl)
theorem dX6_keeps_15 : decode cX6_keeps 15 = .ok (.if_icmp .ge 25, 3) := dk_162 0 25 (dk_at dksX6_keeps_0 15 rfl rfl)
theorem dX6_keeps_18 : decode cX6_keeps 18 = .ok (.aload_n 0, 1) := dk_42 (dk_at dksX6_keeps_0 18 rfl rfl)
theorem dX6_keeps_19 : decode cX6_keeps 19 = .ok (.getfield 22, 3) := dk_180 0 22 (dk_at dksX6_keeps_0 19 rfl rfl)
theorem dX6_keeps_22 : decode cX6_keeps 22 = .ok (.iload_n 2, 1) := dk_28 (dk_at dksX6_keeps_0 22 rfl rfl)
theorem dX6_keeps_23 : decode cX6_keeps 23 = .ok (.aload_n 0, 1) := dk_42 (dk_at dksX6_keeps_0 23 rfl rfl)
theorem dX6_keeps_24 : decode cX6_keeps 24 = .ok (.getfield 22, 3) := dk_180 0 22 (dk_at dksX6_keeps_1 0 rfl rfl)
theorem dX6_keeps_27 : decode cX6_keeps 27 = .ok (.iload_n 2, 1) := dk_28 (dk_at dksX6_keeps_1 3 rfl rfl)
theorem dX6_keeps_28 : decode cX6_keeps 28 = .ok (.sipush 760, 3) := dk_17 2 248 (dk_at dksX6_keeps_1 4 rfl rfl)
theorem dX6_keeps_31 : decode cX6_keeps 31 = .ok (.iadd, 1) := dk_96 (dk_at dksX6_keeps_1 7 rfl rfl)
theorem dX6_keeps_32 : decode cX6_keeps 32 = .ok (.iaload, 1) := dk_46 (dk_at dksX6_keeps_1 8 rfl rfl)
theorem dX6_keeps_33 : decode cX6_keeps 33 = .ok (.iastore, 1) := dk_79 (dk_at dksX6_keeps_1 9 rfl rfl)
theorem dX6_keeps_34 : decode cX6_keeps 34 = .ok (.iinc 2 1, 3) := dk_132 2 1 (dk_at dksX6_keeps_1 10 rfl rfl)
theorem dX6_keeps_37 : decode cX6_keeps 37 = .ok (.goto (-26), 3) := dk_167 255 230 (dk_at dksX6_keeps_1 13 rfl rfl)
theorem dX6_keeps_40 : decode cX6_keeps 40 = .ok (.aload_n 0, 1) := dk_42 (dk_at dksX6_keeps_1 16 rfl rfl)
theorem dX6_keeps_41 : decode cX6_keeps 41 = .ok (.dup, 1) := dk_89 (dk_at dksX6_keeps_1 17 rfl rfl)
theorem dX6_keeps_42 : decode cX6_keeps 42 = .ok (.getfield 321, 3) := dk_180 1 65 (dk_at dksX6_keeps_1 18 rfl rfl)
theorem dX6_keeps_45 : decode cX6_keeps 45 = .ok (.iconst 1, 1) := dk_4 (dk_at dksX6_keeps_1 21 rfl rfl)
theorem dX6_keeps_46 : decode cX6_keeps 46 = .ok (.isub, 1) := dk_100 (dk_at dksX6_keeps_1 22 rfl rfl)
theorem dX6_keeps_47 : decode cX6_keeps 47 = .ok (.putfield 321, 3) := dk_181 1 65 (dk_at dksX6_keeps_2 0 rfl rfl)
theorem dX6_keeps_50 : decode cX6_keeps 50 = .ok (.aload_n 1, 1) := dk_43 (dk_at dksX6_keeps_2 3 rfl rfl)
theorem dX6_keeps_51 : decode cX6_keeps 51 = .ok (.iconst 0, 1) := dk_3 (dk_at dksX6_keeps_2 4 rfl rfl)
theorem dX6_keeps_52 : decode cX6_keeps 52 = .ok (.aload_n 0, 1) := dk_42 (dk_at dksX6_keeps_2 5 rfl rfl)
theorem dX6_keeps_53 : decode cX6_keeps 53 = .ok (.getfield 22, 3) := dk_180 0 22 (dk_at dksX6_keeps_2 6 rfl rfl)
theorem dX6_keeps_56 : decode cX6_keeps 56 = .ok (.sipush 760, 3) := dk_17 2 248 (dk_at dksX6_keeps_2 9 rfl rfl)
theorem dX6_keeps_59 : decode cX6_keeps 59 = .ok (.aload_n 0, 1) := dk_42 (dk_at dksX6_keeps_2 12 rfl rfl)
theorem dX6_keeps_60 : decode cX6_keeps 60 = .ok (.getfield 321, 3) := dk_180 1 65 (dk_at dksX6_keeps_2 13 rfl rfl)
theorem dX6_keeps_63 : decode cX6_keeps 63 = .ok (.imul, 1) := dk_104 (dk_at dksX6_keeps_2 16 rfl rfl)
theorem dX6_keeps_64 : decode cX6_keeps 64 = .ok (.invokestatic 61, 3) := dk_184 0 61 (dk_at dksX6_keeps_2 17 rfl rfl)
theorem dX6_keeps_67 : decode cX6_keeps 67 = .ok (.aload_n 0, 1) := dk_42 (dk_at dksX6_keeps_2 20 rfl rfl)
theorem dX6_keeps_68 : decode cX6_keeps 68 = .ok (.dup, 1) := dk_89 (dk_at dksX6_keeps_2 21 rfl rfl)
theorem dX6_keeps_69 : decode cX6_keeps 69 = .ok (.getfield 321, 3) := dk_180 1 65 (dk_at dksX6_keeps_3 0 rfl rfl)
theorem dX6_keeps_72 : decode cX6_keeps 72 = .ok (.iconst 1, 1) := dk_4 (dk_at dksX6_keeps_3 3 rfl rfl)
theorem dX6_keeps_73 : decode cX6_keeps 73 = .ok (.iadd, 1) := dk_96 (dk_at dksX6_keeps_3 4 rfl rfl)
theorem dX6_keeps_74 : decode cX6_keeps 74 = .ok (.putfield 321, 3) := dk_181 1 65 (dk_at dksX6_keeps_3 5 rfl rfl)
theorem dX6_keeps_77 : decode cX6_keeps 77 = .ok (.return_, 1) := dk_177 (dk_at dksX6_keeps_3 8 rfl rfl)
abbrev cX6_doesOne : ByteArray := prog_14_method_95_code
def yX6_doesOne : MethodName := ⟨RX6, "doesOne", "(I)Z"⟩
def dkwX6_doesOne_6 : List UInt8 := [28, 182, 1, 116, 172]
abbrev dktX6_doesOne_6 : List UInt8 := dkwX6_doesOne_6 ++ []
def dkwX6_doesOne_5 : List UInt8 := [182, 1, 107, 172, 42, 28, 182, 1, 34, 172, 42, 28, 29, 182, 1, 110, 172, 42, 28, 182, 1, 113, 172, 42]
abbrev dktX6_doesOne_5 : List UInt8 := dkwX6_doesOne_5 ++ dktX6_doesOne_6
def dkwX6_doesOne_4 : List UInt8 := [42, 28, 29, 182, 1, 98, 172, 42, 28, 182, 1, 101, 172, 42, 28, 29, 182, 1, 104, 172, 42, 28, 29]
abbrev dktX6_doesOne_4 : List UInt8 := dkwX6_doesOne_4 ++ dktX6_doesOne_5
def dkwX6_doesOne_3 : List UInt8 := [170, 0, 0, 0, 0, 88, 0, 0, 0, 0, 0, 0, 0, 6, 0, 0, 0, 42, 0, 0, 0, 49, 0, 0, 0, 55, 0, 0, 0, 62, 0, 0, 0, 69, 0, 0, 0, 75, 0, 0, 0, 82]
abbrev dktX6_doesOne_3 : List UInt8 := dkwX6_doesOne_3 ++ dktX6_doesOne_4
def dkwX6_doesOne_2 : List UInt8 := [132, 4, 1, 167, 255, 228, 42, 180, 0, 35, 27, 46]
abbrev dktX6_doesOne_2 : List UInt8 := dkwX6_doesOne_2 ++ dktX6_doesOne_3
def dkwX6_doesOne_1 : List UInt8 := [16, 13, 162, 0, 27, 42, 180, 0, 25, 21, 4, 42, 180, 0, 35, 27, 6, 96, 21, 4, 96, 46, 79]
abbrev dktX6_doesOne_1 : List UInt8 := dkwX6_doesOne_1 ++ dktX6_doesOne_2
def dkwX6_doesOne_0 : List UInt8 := [42, 180, 0, 35, 27, 4, 96, 46, 61, 42, 180, 0, 35, 27, 5, 96, 46, 62, 3, 54, 4, 21, 4]
abbrev dktX6_doesOne_0 : List UInt8 := dkwX6_doesOne_0 ++ dktX6_doesOne_1
theorem dksX6_doesOne_0 : cX6_doesOne.data.toList.drop 0 = dktX6_doesOne_0 := by decide +kernel
theorem dksX6_doesOne_1 : cX6_doesOne.data.toList.drop 23 = dktX6_doesOne_1 := dk_seg dksX6_doesOne_0 23 rfl rfl
theorem dksX6_doesOne_2 : cX6_doesOne.data.toList.drop 46 = dktX6_doesOne_2 := dk_seg dksX6_doesOne_1 23 rfl rfl
theorem dksX6_doesOne_3 : cX6_doesOne.data.toList.drop 58 = dktX6_doesOne_3 := dk_seg dksX6_doesOne_2 12 rfl rfl
theorem dksX6_doesOne_4 : cX6_doesOne.data.toList.drop 100 = dktX6_doesOne_4 := dk_seg dksX6_doesOne_3 42 rfl rfl
theorem dksX6_doesOne_5 : cX6_doesOne.data.toList.drop 123 = dktX6_doesOne_5 := dk_seg dksX6_doesOne_4 23 rfl rfl
theorem dksX6_doesOne_6 : cX6_doesOne.data.toList.drop 147 = dktX6_doesOne_6 := dk_seg dksX6_doesOne_5 24 rfl rfl
theorem dX6_doesOne_0 : decode cX6_doesOne 0 = .ok (.aload_n 0, 1) := dk_42 (dk_at dksX6_doesOne_0 0 rfl rfl)
theorem dX6_doesOne_1 : decode cX6_doesOne 1 = .ok (.getfield 35, 3) := dk_180 0 35 (dk_at dksX6_doesOne_0 1 rfl rfl)
theorem dX6_doesOne_4 : decode cX6_doesOne 4 = .ok (.iload_n 1, 1) := dk_27 (dk_at dksX6_doesOne_0 4 rfl rfl)
theorem dX6_doesOne_5 : decode cX6_doesOne 5 = .ok (.iconst 1, 1) := dk_4 (dk_at dksX6_doesOne_0 5 rfl rfl)
theorem dX6_doesOne_6 : decode cX6_doesOne 6 = .ok (.iadd, 1) := dk_96 (dk_at dksX6_doesOne_0 6 rfl rfl)
theorem dX6_doesOne_7 : decode cX6_doesOne 7 = .ok (.iaload, 1) := dk_46 (dk_at dksX6_doesOne_0 7 rfl rfl)
theorem dX6_doesOne_8 : decode cX6_doesOne 8 = .ok (.istore_n 2, 1) := dk_61 (dk_at dksX6_doesOne_0 8 rfl rfl)
theorem dX6_doesOne_9 : decode cX6_doesOne 9 = .ok (.aload_n 0, 1) := dk_42 (dk_at dksX6_doesOne_0 9 rfl rfl)
theorem dX6_doesOne_10 : decode cX6_doesOne 10 = .ok (.getfield 35, 3) := dk_180 0 35 (dk_at dksX6_doesOne_0 10 rfl rfl)
theorem dX6_doesOne_13 : decode cX6_doesOne 13 = .ok (.iload_n 1, 1) := dk_27 (dk_at dksX6_doesOne_0 13 rfl rfl)
theorem dX6_doesOne_14 : decode cX6_doesOne 14 = .ok (.iconst 2, 1) := dk_5 (dk_at dksX6_doesOne_0 14 rfl rfl)
theorem dX6_doesOne_15 : decode cX6_doesOne 15 = .ok (.iadd, 1) := dk_96 (dk_at dksX6_doesOne_0 15 rfl rfl)
theorem dX6_doesOne_16 : decode cX6_doesOne 16 = .ok (.iaload, 1) := dk_46 (dk_at dksX6_doesOne_0 16 rfl rfl)
theorem dX6_doesOne_17 : decode cX6_doesOne 17 = .ok (.istore_n 3, 1) := dk_62 (dk_at dksX6_doesOne_0 17 rfl rfl)
theorem dX6_doesOne_18 : decode cX6_doesOne 18 = .ok (.iconst 0, 1) := dk_3 (dk_at dksX6_doesOne_0 18 rfl rfl)
theorem dX6_doesOne_19 : decode cX6_doesOne 19 = .ok (.istore 4, 2) := dk_54 4 (dk_at dksX6_doesOne_0 19 rfl rfl)
theorem dX6_doesOne_21 : decode cX6_doesOne 21 = .ok (.iload 4, 2) := dk_21 4 (dk_at dksX6_doesOne_0 21 rfl rfl)
theorem dX6_doesOne_23 : decode cX6_doesOne 23 = .ok (.bipush 13, 2) := dk_16 13 (dk_at dksX6_doesOne_1 0 rfl rfl)
theorem dX6_doesOne_25 : decode cX6_doesOne 25 = .ok (.if_icmp .ge 27, 3) := dk_162 0 27 (dk_at dksX6_doesOne_1 2 rfl rfl)
theorem dX6_doesOne_28 : decode cX6_doesOne 28 = .ok (.aload_n 0, 1) := dk_42 (dk_at dksX6_doesOne_1 5 rfl rfl)
theorem dX6_doesOne_29 : decode cX6_doesOne 29 = .ok (.getfield 25, 3) := dk_180 0 25 (dk_at dksX6_doesOne_1 6 rfl rfl)
theorem dX6_doesOne_32 : decode cX6_doesOne 32 = .ok (.iload 4, 2) := dk_21 4 (dk_at dksX6_doesOne_1 9 rfl rfl)
theorem dX6_doesOne_34 : decode cX6_doesOne 34 = .ok (.aload_n 0, 1) := dk_42 (dk_at dksX6_doesOne_1 11 rfl rfl)
theorem dX6_doesOne_35 : decode cX6_doesOne 35 = .ok (.getfield 35, 3) := dk_180 0 35 (dk_at dksX6_doesOne_1 12 rfl rfl)
theorem dX6_doesOne_38 : decode cX6_doesOne 38 = .ok (.iload_n 1, 1) := dk_27 (dk_at dksX6_doesOne_1 15 rfl rfl)
theorem dX6_doesOne_39 : decode cX6_doesOne 39 = .ok (.iconst 3, 1) := dk_6 (dk_at dksX6_doesOne_1 16 rfl rfl)
theorem dX6_doesOne_40 : decode cX6_doesOne 40 = .ok (.iadd, 1) := dk_96 (dk_at dksX6_doesOne_1 17 rfl rfl)
theorem dX6_doesOne_41 : decode cX6_doesOne 41 = .ok (.iload 4, 2) := dk_21 4 (dk_at dksX6_doesOne_1 18 rfl rfl)
theorem dX6_doesOne_43 : decode cX6_doesOne 43 = .ok (.iadd, 1) := dk_96 (dk_at dksX6_doesOne_1 20 rfl rfl)
theorem dX6_doesOne_44 : decode cX6_doesOne 44 = .ok (.iaload, 1) := dk_46 (dk_at dksX6_doesOne_1 21 rfl rfl)
theorem dX6_doesOne_45 : decode cX6_doesOne 45 = .ok (.iastore, 1) := dk_79 (dk_at dksX6_doesOne_1 22 rfl rfl)
theorem dX6_doesOne_46 : decode cX6_doesOne 46 = .ok (.iinc 4 1, 3) := dk_132 4 1 (dk_at dksX6_doesOne_2 0 rfl rfl)
theorem dX6_doesOne_49 : decode cX6_doesOne 49 = .ok (.goto (-28), 3) := dk_167 255 228 (dk_at dksX6_doesOne_2 3 rfl rfl)
theorem dX6_doesOne_52 : decode cX6_doesOne 52 = .ok (.aload_n 0, 1) := dk_42 (dk_at dksX6_doesOne_2 6 rfl rfl)
theorem dX6_doesOne_53 : decode cX6_doesOne 53 = .ok (.getfield 35, 3) := dk_180 0 35 (dk_at dksX6_doesOne_2 7 rfl rfl)
theorem dX6_doesOne_56 : decode cX6_doesOne 56 = .ok (.iload_n 1, 1) := dk_27 (dk_at dksX6_doesOne_2 10 rfl rfl)
theorem dX6_doesOne_57 : decode cX6_doesOne 57 = .ok (.iaload, 1) := dk_46 (dk_at dksX6_doesOne_2 11 rfl rfl)
theorem dX6_doesOne_58 : decode cX6_doesOne 58 = .ok (.tableswitch 88 0 6 #[42, 49, 55, 62, 69, 75, 82], 42) := by decide +kernel
theorem dX6_doesOne_100 : decode cX6_doesOne 100 = .ok (.aload_n 0, 1) := dk_42 (dk_at dksX6_doesOne_4 0 rfl rfl)
theorem dX6_doesOne_101 : decode cX6_doesOne 101 = .ok (.iload_n 2, 1) := dk_28 (dk_at dksX6_doesOne_4 1 rfl rfl)
theorem dX6_doesOne_102 : decode cX6_doesOne 102 = .ok (.iload_n 3, 1) := dk_29 (dk_at dksX6_doesOne_4 2 rfl rfl)
theorem dX6_doesOne_103 : decode cX6_doesOne 103 = .ok (.invokevirtual 354, 3) := dk_182 1 98 (dk_at dksX6_doesOne_4 3 rfl rfl)
theorem dX6_doesOne_106 : decode cX6_doesOne 106 = .ok (.ireturn, 1) := dk_172 (dk_at dksX6_doesOne_4 6 rfl rfl)
theorem dX6_doesOne_107 : decode cX6_doesOne 107 = .ok (.aload_n 0, 1) := dk_42 (dk_at dksX6_doesOne_4 7 rfl rfl)
theorem dX6_doesOne_108 : decode cX6_doesOne 108 = .ok (.iload_n 2, 1) := dk_28 (dk_at dksX6_doesOne_4 8 rfl rfl)
theorem dX6_doesOne_109 : decode cX6_doesOne 109 = .ok (.invokevirtual 357, 3) := dk_182 1 101 (dk_at dksX6_doesOne_4 9 rfl rfl)
theorem dX6_doesOne_112 : decode cX6_doesOne 112 = .ok (.ireturn, 1) := dk_172 (dk_at dksX6_doesOne_4 12 rfl rfl)
theorem dX6_doesOne_113 : decode cX6_doesOne 113 = .ok (.aload_n 0, 1) := dk_42 (dk_at dksX6_doesOne_4 13 rfl rfl)
theorem dX6_doesOne_114 : decode cX6_doesOne 114 = .ok (.iload_n 2, 1) := dk_28 (dk_at dksX6_doesOne_4 14 rfl rfl)
theorem dX6_doesOne_115 : decode cX6_doesOne 115 = .ok (.iload_n 3, 1) := dk_29 (dk_at dksX6_doesOne_4 15 rfl rfl)
theorem dX6_doesOne_116 : decode cX6_doesOne 116 = .ok (.invokevirtual 360, 3) := dk_182 1 104 (dk_at dksX6_doesOne_4 16 rfl rfl)
theorem dX6_doesOne_119 : decode cX6_doesOne 119 = .ok (.ireturn, 1) := dk_172 (dk_at dksX6_doesOne_4 19 rfl rfl)
theorem dX6_doesOne_120 : decode cX6_doesOne 120 = .ok (.aload_n 0, 1) := dk_42 (dk_at dksX6_doesOne_4 20 rfl rfl)
theorem dX6_doesOne_121 : decode cX6_doesOne 121 = .ok (.iload_n 2, 1) := dk_28 (dk_at dksX6_doesOne_4 21 rfl rfl)
theorem dX6_doesOne_122 : decode cX6_doesOne 122 = .ok (.iload_n 3, 1) := dk_29 (dk_at dksX6_doesOne_4 22 rfl rfl)
theorem dX6_doesOne_123 : decode cX6_doesOne 123 = .ok (.invokevirtual 363, 3) := dk_182 1 107 (dk_at dksX6_doesOne_5 0 rfl rfl)
theorem dX6_doesOne_126 : decode cX6_doesOne 126 = .ok (.ireturn, 1) := dk_172 (dk_at dksX6_doesOne_5 3 rfl rfl)
theorem dX6_doesOne_127 : decode cX6_doesOne 127 = .ok (.aload_n 0, 1) := dk_42 (dk_at dksX6_doesOne_5 4 rfl rfl)
theorem dX6_doesOne_128 : decode cX6_doesOne 128 = .ok (.iload_n 2, 1) := dk_28 (dk_at dksX6_doesOne_5 5 rfl rfl)
theorem dX6_doesOne_129 : decode cX6_doesOne 129 = .ok (.invokevirtual 290, 3) := dk_182 1 34 (dk_at dksX6_doesOne_5 6 rfl rfl)
theorem dX6_doesOne_132 : decode cX6_doesOne 132 = .ok (.ireturn, 1) := dk_172 (dk_at dksX6_doesOne_5 9 rfl rfl)
theorem dX6_doesOne_133 : decode cX6_doesOne 133 = .ok (.aload_n 0, 1) := dk_42 (dk_at dksX6_doesOne_5 10 rfl rfl)
theorem dX6_doesOne_134 : decode cX6_doesOne 134 = .ok (.iload_n 2, 1) := dk_28 (dk_at dksX6_doesOne_5 11 rfl rfl)
theorem dX6_doesOne_135 : decode cX6_doesOne 135 = .ok (.iload_n 3, 1) := dk_29 (dk_at dksX6_doesOne_5 12 rfl rfl)
theorem dX6_doesOne_136 : decode cX6_doesOne 136 = .ok (.invokevirtual 366, 3) := dk_182 1 110 (dk_at dksX6_doesOne_5 13 rfl rfl)
theorem dX6_doesOne_139 : decode cX6_doesOne 139 = .ok (.ireturn, 1) := dk_172 (dk_at dksX6_doesOne_5 16 rfl rfl)
theorem dX6_doesOne_140 : decode cX6_doesOne 140 = .ok (.aload_n 0, 1) := dk_42 (dk_at dksX6_doesOne_5 17 rfl rfl)
theorem dX6_doesOne_141 : decode cX6_doesOne 141 = .ok (.iload_n 2, 1) := dk_28 (dk_at dksX6_doesOne_5 18 rfl rfl)
theorem dX6_doesOne_142 : decode cX6_doesOne 142 = .ok (.invokevirtual 369, 3) := dk_182 1 113 (dk_at dksX6_doesOne_5 19 rfl rfl)
theorem dX6_doesOne_145 : decode cX6_doesOne 145 = .ok (.ireturn, 1) := dk_172 (dk_at dksX6_doesOne_5 22 rfl rfl)
theorem dX6_doesOne_146 : decode cX6_doesOne 146 = .ok (.aload_n 0, 1) := dk_42 (dk_at dksX6_doesOne_5 23 rfl rfl)
theorem dX6_doesOne_147 : decode cX6_doesOne 147 = .ok (.iload_n 2, 1) := dk_28 (dk_at dksX6_doesOne_6 0 rfl rfl)
theorem dX6_doesOne_148 : decode cX6_doesOne 148 = .ok (.invokevirtual 372, 3) := dk_182 1 116 (dk_at dksX6_doesOne_6 1 rfl rfl)
theorem dX6_doesOne_151 : decode cX6_doesOne 151 = .ok (.ireturn, 1) := dk_172 (dk_at dksX6_doesOne_6 4 rfl rfl)
abbrev cX6_plantNow : ByteArray := prog_14_method_56_code
def yX6_plantNow : MethodName := ⟨RX6, "plantNow", "(II)Z"⟩
def dkwX6_plantNow_2 : List UInt8 := [181, 0, 200, 4, 172]
abbrev dktX6_plantNow_2 : List UInt8 := dkwX6_plantNow_2 ++ []
def dkwX6_plantNow_1 : List UInt8 := [182, 0, 173, 4, 3, 182, 0, 143, 42, 180, 0, 7, 16, 7, 92, 46, 4, 100, 79, 42, 42, 182, 0, 197]
abbrev dktX6_plantNow_1 : List UInt8 := dkwX6_plantNow_1 ++ dktX6_plantNow_2
def dkwX6_plantNow_0 : List UInt8 := [42, 27, 182, 0, 73, 153, 0, 11, 42, 27, 182, 0, 194, 153, 0, 5, 3, 172, 42, 27, 28, 42]
abbrev dktX6_plantNow_0 : List UInt8 := dkwX6_plantNow_0 ++ dktX6_plantNow_1
theorem dksX6_plantNow_0 : cX6_plantNow.data.toList.drop 0 = dktX6_plantNow_0 := by decide +kernel
theorem dksX6_plantNow_1 : cX6_plantNow.data.toList.drop 22 = dktX6_plantNow_1 := dk_seg dksX6_plantNow_0 22 rfl rfl
theorem dksX6_plantNow_2 : cX6_plantNow.data.toList.drop 46 = dktX6_plantNow_2 := dk_seg dksX6_plantNow_1 24 rfl rfl
theorem dX6_plantNow_0 : decode cX6_plantNow 0 = .ok (.aload_n 0, 1) := dk_42 (dk_at dksX6_plantNow_0 0 rfl rfl)
theorem dX6_plantNow_1 : decode cX6_plantNow 1 = .ok (.iload_n 1, 1) := dk_27 (dk_at dksX6_plantNow_0 1 rfl rfl)
theorem dX6_plantNow_2 : decode cX6_plantNow 2 = .ok (.invokevirtual 73, 3) := dk_182 0 73 (dk_at dksX6_plantNow_0 2 rfl rfl)
theorem dX6_plantNow_5 : decode cX6_plantNow 5 = .ok (.ifCond .eq 11, 3) := dk_153 0 11 (dk_at dksX6_plantNow_0 5 rfl rfl)
theorem dX6_plantNow_8 : decode cX6_plantNow 8 = .ok (.aload_n 0, 1) := dk_42 (dk_at dksX6_plantNow_0 8 rfl rfl)
theorem dX6_plantNow_9 : decode cX6_plantNow 9 = .ok (.iload_n 1, 1) := dk_27 (dk_at dksX6_plantNow_0 9 rfl rfl)
theorem dX6_plantNow_10 : decode cX6_plantNow 10 = .ok (.invokevirtual 194, 3) := dk_182 0 194 (dk_at dksX6_plantNow_0 10 rfl rfl)
theorem dX6_plantNow_13 : decode cX6_plantNow 13 = .ok (.ifCond .eq 5, 3) := dk_153 0 5 (dk_at dksX6_plantNow_0 13 rfl rfl)
theorem dX6_plantNow_16 : decode cX6_plantNow 16 = .ok (.iconst 0, 1) := dk_3 (dk_at dksX6_plantNow_0 16 rfl rfl)
theorem dX6_plantNow_17 : decode cX6_plantNow 17 = .ok (.ireturn, 1) := dk_172 (dk_at dksX6_plantNow_0 17 rfl rfl)
theorem dX6_plantNow_18 : decode cX6_plantNow 18 = .ok (.aload_n 0, 1) := dk_42 (dk_at dksX6_plantNow_0 18 rfl rfl)
theorem dX6_plantNow_19 : decode cX6_plantNow 19 = .ok (.iload_n 1, 1) := dk_27 (dk_at dksX6_plantNow_0 19 rfl rfl)
theorem dX6_plantNow_20 : decode cX6_plantNow 20 = .ok (.iload_n 2, 1) := dk_28 (dk_at dksX6_plantNow_0 20 rfl rfl)
theorem dX6_plantNow_21 : decode cX6_plantNow 21 = .ok (.aload_n 0, 1) := dk_42 (dk_at dksX6_plantNow_0 21 rfl rfl)
theorem dX6_plantNow_22 : decode cX6_plantNow 22 = .ok (.invokevirtual 173, 3) := dk_182 0 173 (dk_at dksX6_plantNow_1 0 rfl rfl)
theorem dX6_plantNow_25 : decode cX6_plantNow 25 = .ok (.iconst 1, 1) := dk_4 (dk_at dksX6_plantNow_1 3 rfl rfl)
theorem dX6_plantNow_26 : decode cX6_plantNow 26 = .ok (.iconst 0, 1) := dk_3 (dk_at dksX6_plantNow_1 4 rfl rfl)
theorem dX6_plantNow_27 : decode cX6_plantNow 27 = .ok (.invokevirtual 143, 3) := dk_182 0 143 (dk_at dksX6_plantNow_1 5 rfl rfl)
theorem dX6_plantNow_30 : decode cX6_plantNow 30 = .ok (.aload_n 0, 1) := dk_42 (dk_at dksX6_plantNow_1 8 rfl rfl)
theorem dX6_plantNow_31 : decode cX6_plantNow 31 = .ok (.getfield 7, 3) := dk_180 0 7 (dk_at dksX6_plantNow_1 9 rfl rfl)
theorem dX6_plantNow_34 : decode cX6_plantNow 34 = .ok (.bipush 7, 2) := dk_16 7 (dk_at dksX6_plantNow_1 12 rfl rfl)
theorem dX6_plantNow_36 : decode cX6_plantNow 36 = .ok (.dup2, 1) := dk_92 (dk_at dksX6_plantNow_1 14 rfl rfl)
theorem dX6_plantNow_37 : decode cX6_plantNow 37 = .ok (.iaload, 1) := dk_46 (dk_at dksX6_plantNow_1 15 rfl rfl)
theorem dX6_plantNow_38 : decode cX6_plantNow 38 = .ok (.iconst 1, 1) := dk_4 (dk_at dksX6_plantNow_1 16 rfl rfl)
theorem dX6_plantNow_39 : decode cX6_plantNow 39 = .ok (.isub, 1) := dk_100 (dk_at dksX6_plantNow_1 17 rfl rfl)
theorem dX6_plantNow_40 : decode cX6_plantNow 40 = .ok (.iastore, 1) := dk_79 (dk_at dksX6_plantNow_1 18 rfl rfl)
theorem dX6_plantNow_41 : decode cX6_plantNow 41 = .ok (.aload_n 0, 1) := dk_42 (dk_at dksX6_plantNow_1 19 rfl rfl)
theorem dX6_plantNow_42 : decode cX6_plantNow 42 = .ok (.aload_n 0, 1) := dk_42 (dk_at dksX6_plantNow_1 20 rfl rfl)
theorem dX6_plantNow_43 : decode cX6_plantNow 43 = .ok (.invokevirtual 197, 3) := dk_182 0 197 (dk_at dksX6_plantNow_1 21 rfl rfl)
theorem dX6_plantNow_46 : decode cX6_plantNow 46 = .ok (.putfield 200, 3) := dk_181 0 200 (dk_at dksX6_plantNow_2 0 rfl rfl)
theorem dX6_plantNow_49 : decode cX6_plantNow 49 = .ok (.iconst 1, 1) := dk_4 (dk_at dksX6_plantNow_2 3 rfl rfl)
theorem dX6_plantNow_50 : decode cX6_plantNow 50 = .ok (.ireturn, 1) := dk_172 (dk_at dksX6_plantNow_2 4 rfl rfl)
abbrev cX6_whyNotPlant : ByteArray := prog_14_method_50_code
def yX6_whyNotPlant : MethodName := ⟨RX6, "whyNotPlant", "(I)I"⟩
def dkwX6_whyNotPlant_1 : List UInt8 := [182, 0, 102, 153, 0, 5, 6, 172, 42, 27, 182, 0, 77, 153, 0, 7, 7, 167, 0, 4, 3, 172]
abbrev dktX6_whyNotPlant_1 : List UInt8 := dkwX6_whyNotPlant_1 ++ []
def dkwX6_whyNotPlant_0 : List UInt8 := [42, 180, 0, 7, 16, 7, 46, 154, 0, 5, 4, 172, 42, 27, 182, 0, 84, 153, 0, 5, 5, 172, 42, 27]
abbrev dktX6_whyNotPlant_0 : List UInt8 := dkwX6_whyNotPlant_0 ++ dktX6_whyNotPlant_1
theorem dksX6_whyNotPlant_0 : cX6_whyNotPlant.data.toList.drop 0 = dktX6_whyNotPlant_0 := by decide +kernel
theorem dksX6_whyNotPlant_1 : cX6_whyNotPlant.data.toList.drop 24 = dktX6_whyNotPlant_1 := dk_seg dksX6_whyNotPlant_0 24 rfl rfl
theorem dX6_whyNotPlant_0 : decode cX6_whyNotPlant 0 = .ok (.aload_n 0, 1) := dk_42 (dk_at dksX6_whyNotPlant_0 0 rfl rfl)
theorem dX6_whyNotPlant_1 : decode cX6_whyNotPlant 1 = .ok (.getfield 7, 3) := dk_180 0 7 (dk_at dksX6_whyNotPlant_0 1 rfl rfl)
theorem dX6_whyNotPlant_4 : decode cX6_whyNotPlant 4 = .ok (.bipush 7, 2) := dk_16 7 (dk_at dksX6_whyNotPlant_0 4 rfl rfl)
theorem dX6_whyNotPlant_6 : decode cX6_whyNotPlant 6 = .ok (.iaload, 1) := dk_46 (dk_at dksX6_whyNotPlant_0 6 rfl rfl)
theorem dX6_whyNotPlant_7 : decode cX6_whyNotPlant 7 = .ok (.ifCond .ne 5, 3) := dk_154 0 5 (dk_at dksX6_whyNotPlant_0 7 rfl rfl)
theorem dX6_whyNotPlant_10 : decode cX6_whyNotPlant 10 = .ok (.iconst 1, 1) := dk_4 (dk_at dksX6_whyNotPlant_0 10 rfl rfl)
theorem dX6_whyNotPlant_11 : decode cX6_whyNotPlant 11 = .ok (.ireturn, 1) := dk_172 (dk_at dksX6_whyNotPlant_0 11 rfl rfl)
theorem dX6_whyNotPlant_12 : decode cX6_whyNotPlant 12 = .ok (.aload_n 0, 1) := dk_42 (dk_at dksX6_whyNotPlant_0 12 rfl rfl)
theorem dX6_whyNotPlant_13 : decode cX6_whyNotPlant 13 = .ok (.iload_n 1, 1) := dk_27 (dk_at dksX6_whyNotPlant_0 13 rfl rfl)
theorem dX6_whyNotPlant_14 : decode cX6_whyNotPlant 14 = .ok (.invokevirtual 84, 3) := dk_182 0 84 (dk_at dksX6_whyNotPlant_0 14 rfl rfl)
theorem dX6_whyNotPlant_17 : decode cX6_whyNotPlant 17 = .ok (.ifCond .eq 5, 3) := dk_153 0 5 (dk_at dksX6_whyNotPlant_0 17 rfl rfl)
theorem dX6_whyNotPlant_20 : decode cX6_whyNotPlant 20 = .ok (.iconst 2, 1) := dk_5 (dk_at dksX6_whyNotPlant_0 20 rfl rfl)
theorem dX6_whyNotPlant_21 : decode cX6_whyNotPlant 21 = .ok (.ireturn, 1) := dk_172 (dk_at dksX6_whyNotPlant_0 21 rfl rfl)
theorem dX6_whyNotPlant_22 : decode cX6_whyNotPlant 22 = .ok (.aload_n 0, 1) := dk_42 (dk_at dksX6_whyNotPlant_0 22 rfl rfl)
theorem dX6_whyNotPlant_23 : decode cX6_whyNotPlant 23 = .ok (.iload_n 1, 1) := dk_27 (dk_at dksX6_whyNotPlant_0 23 rfl rfl)
theorem dX6_whyNotPlant_24 : decode cX6_whyNotPlant 24 = .ok (.invokevirtual 102, 3) := dk_182 0 102 (dk_at dksX6_whyNotPlant_1 0 rfl rfl)
theorem dX6_whyNotPlant_27 : decode cX6_whyNotPlant 27 = .ok (.ifCond .eq 5, 3) := dk_153 0 5 (dk_at dksX6_whyNotPlant_1 3 rfl rfl)
theorem dX6_whyNotPlant_30 : decode cX6_whyNotPlant 30 = .ok (.iconst 3, 1) := dk_6 (dk_at dksX6_whyNotPlant_1 6 rfl rfl)
theorem dX6_whyNotPlant_31 : decode cX6_whyNotPlant 31 = .ok (.ireturn, 1) := dk_172 (dk_at dksX6_whyNotPlant_1 7 rfl rfl)
theorem dX6_whyNotPlant_32 : decode cX6_whyNotPlant 32 = .ok (.aload_n 0, 1) := dk_42 (dk_at dksX6_whyNotPlant_1 8 rfl rfl)
theorem dX6_whyNotPlant_33 : decode cX6_whyNotPlant 33 = .ok (.iload_n 1, 1) := dk_27 (dk_at dksX6_whyNotPlant_1 9 rfl rfl)
theorem dX6_whyNotPlant_34 : decode cX6_whyNotPlant 34 = .ok (.invokevirtual 77, 3) := dk_182 0 77 (dk_at dksX6_whyNotPlant_1 10 rfl rfl)
theorem dX6_whyNotPlant_37 : decode cX6_whyNotPlant 37 = .ok (.ifCond .eq 7, 3) := dk_153 0 7 (dk_at dksX6_whyNotPlant_1 13 rfl rfl)
theorem dX6_whyNotPlant_40 : decode cX6_whyNotPlant 40 = .ok (.iconst 4, 1) := dk_7 (dk_at dksX6_whyNotPlant_1 16 rfl rfl)
theorem dX6_whyNotPlant_41 : decode cX6_whyNotPlant 41 = .ok (.goto 4, 3) := dk_167 0 4 (dk_at dksX6_whyNotPlant_1 17 rfl rfl)
theorem dX6_whyNotPlant_44 : decode cX6_whyNotPlant 44 = .ok (.iconst 0, 1) := dk_3 (dk_at dksX6_whyNotPlant_1 20 rfl rfl)
theorem dX6_whyNotPlant_45 : decode cX6_whyNotPlant 45 = .ok (.ireturn, 1) := dk_172 (dk_at dksX6_whyNotPlant_1 21 rfl rfl)
abbrev cX6_isReservedAt : ByteArray := prog_14_method_28_code
def yX6_isReservedAt : MethodName := ⟨RX6, "isReservedAt", "(I)Z"⟩
def dkwX6_isReservedAt_2 : List UInt8 := [4, 184, 0, 91, 27, 182, 0, 98, 153, 0, 7, 4, 167, 0, 4, 3, 172]
abbrev dktX6_isReservedAt_2 : List UInt8 := dkwX6_isReservedAt_2 ++ []
def dkwX6_isReservedAt_1 : List UInt8 := [153, 0, 5, 4, 172, 132, 2, 1, 167, 255, 228, 42, 3, 184, 0, 91, 27, 182, 0, 98, 154, 0, 15, 42]
abbrev dktX6_isReservedAt_1 : List UInt8 := dkwX6_isReservedAt_1 ++ dktX6_isReservedAt_2
def dkwX6_isReservedAt_0 : List UInt8 := [3, 61, 28, 42, 180, 0, 7, 16, 11, 46, 162, 0, 23, 42, 28, 184, 0, 95, 27, 182, 0, 98]
abbrev dktX6_isReservedAt_0 : List UInt8 := dkwX6_isReservedAt_0 ++ dktX6_isReservedAt_1
theorem dksX6_isReservedAt_0 : cX6_isReservedAt.data.toList.drop 0 = dktX6_isReservedAt_0 := by decide +kernel
theorem dksX6_isReservedAt_1 : cX6_isReservedAt.data.toList.drop 22 = dktX6_isReservedAt_1 := dk_seg dksX6_isReservedAt_0 22 rfl rfl
theorem dksX6_isReservedAt_2 : cX6_isReservedAt.data.toList.drop 46 = dktX6_isReservedAt_2 := dk_seg dksX6_isReservedAt_1 24 rfl rfl
theorem dX6_isReservedAt_0 : decode cX6_isReservedAt 0 = .ok (.iconst 0, 1) := dk_3 (dk_at dksX6_isReservedAt_0 0 rfl rfl)
theorem dX6_isReservedAt_1 : decode cX6_isReservedAt 1 = .ok (.istore_n 2, 1) := dk_61 (dk_at dksX6_isReservedAt_0 1 rfl rfl)
theorem dX6_isReservedAt_2 : decode cX6_isReservedAt 2 = .ok (.iload_n 2, 1) := dk_28 (dk_at dksX6_isReservedAt_0 2 rfl rfl)
theorem dX6_isReservedAt_3 : decode cX6_isReservedAt 3 = .ok (.aload_n 0, 1) := dk_42 (dk_at dksX6_isReservedAt_0 3 rfl rfl)
theorem dX6_isReservedAt_4 : decode cX6_isReservedAt 4 = .ok (.getfield 7, 3) := dk_180 0 7 (dk_at dksX6_isReservedAt_0 4 rfl rfl)
theorem dX6_isReservedAt_7 : decode cX6_isReservedAt 7 = .ok (.bipush 11, 2) := dk_16 11 (dk_at dksX6_isReservedAt_0 7 rfl rfl)
theorem dX6_isReservedAt_9 : decode cX6_isReservedAt 9 = .ok (.iaload, 1) := dk_46 (dk_at dksX6_isReservedAt_0 9 rfl rfl)
theorem dX6_isReservedAt_10 : decode cX6_isReservedAt 10 = .ok (.if_icmp .ge 23, 3) := dk_162 0 23 (dk_at dksX6_isReservedAt_0 10 rfl rfl)
theorem dX6_isReservedAt_13 : decode cX6_isReservedAt 13 = .ok (.aload_n 0, 1) := dk_42 (dk_at dksX6_isReservedAt_0 13 rfl rfl)
theorem dX6_isReservedAt_14 : decode cX6_isReservedAt 14 = .ok (.iload_n 2, 1) := dk_28 (dk_at dksX6_isReservedAt_0 14 rfl rfl)
theorem dX6_isReservedAt_15 : decode cX6_isReservedAt 15 = .ok (.invokestatic 95, 3) := dk_184 0 95 (dk_at dksX6_isReservedAt_0 15 rfl rfl)
theorem dX6_isReservedAt_18 : decode cX6_isReservedAt 18 = .ok (.iload_n 1, 1) := dk_27 (dk_at dksX6_isReservedAt_0 18 rfl rfl)
theorem dX6_isReservedAt_19 : decode cX6_isReservedAt 19 = .ok (.invokevirtual 98, 3) := dk_182 0 98 (dk_at dksX6_isReservedAt_0 19 rfl rfl)
theorem dX6_isReservedAt_22 : decode cX6_isReservedAt 22 = .ok (.ifCond .eq 5, 3) := dk_153 0 5 (dk_at dksX6_isReservedAt_1 0 rfl rfl)
theorem dX6_isReservedAt_25 : decode cX6_isReservedAt 25 = .ok (.iconst 1, 1) := dk_4 (dk_at dksX6_isReservedAt_1 3 rfl rfl)
theorem dX6_isReservedAt_26 : decode cX6_isReservedAt 26 = .ok (.ireturn, 1) := dk_172 (dk_at dksX6_isReservedAt_1 4 rfl rfl)
theorem dX6_isReservedAt_27 : decode cX6_isReservedAt 27 = .ok (.iinc 2 1, 3) := dk_132 2 1 (dk_at dksX6_isReservedAt_1 5 rfl rfl)
theorem dX6_isReservedAt_30 : decode cX6_isReservedAt 30 = .ok (.goto (-28), 3) := dk_167 255 228 (dk_at dksX6_isReservedAt_1 8 rfl rfl)
theorem dX6_isReservedAt_33 : decode cX6_isReservedAt 33 = .ok (.aload_n 0, 1) := dk_42 (dk_at dksX6_isReservedAt_1 11 rfl rfl)
theorem dX6_isReservedAt_34 : decode cX6_isReservedAt 34 = .ok (.iconst 0, 1) := dk_3 (dk_at dksX6_isReservedAt_1 12 rfl rfl)
theorem dX6_isReservedAt_35 : decode cX6_isReservedAt 35 = .ok (.invokestatic 91, 3) := dk_184 0 91 (dk_at dksX6_isReservedAt_1 13 rfl rfl)
theorem dX6_isReservedAt_38 : decode cX6_isReservedAt 38 = .ok (.iload_n 1, 1) := dk_27 (dk_at dksX6_isReservedAt_1 16 rfl rfl)
theorem dX6_isReservedAt_39 : decode cX6_isReservedAt 39 = .ok (.invokevirtual 98, 3) := dk_182 0 98 (dk_at dksX6_isReservedAt_1 17 rfl rfl)
theorem dX6_isReservedAt_42 : decode cX6_isReservedAt 42 = .ok (.ifCond .ne 15, 3) := dk_154 0 15 (dk_at dksX6_isReservedAt_1 20 rfl rfl)
theorem dX6_isReservedAt_45 : decode cX6_isReservedAt 45 = .ok (.aload_n 0, 1) := dk_42 (dk_at dksX6_isReservedAt_1 23 rfl rfl)
theorem dX6_isReservedAt_46 : decode cX6_isReservedAt 46 = .ok (.iconst 1, 1) := dk_4 (dk_at dksX6_isReservedAt_2 0 rfl rfl)
theorem dX6_isReservedAt_47 : decode cX6_isReservedAt 47 = .ok (.invokestatic 91, 3) := dk_184 0 91 (dk_at dksX6_isReservedAt_2 1 rfl rfl)
theorem dX6_isReservedAt_50 : decode cX6_isReservedAt 50 = .ok (.iload_n 1, 1) := dk_27 (dk_at dksX6_isReservedAt_2 4 rfl rfl)
theorem dX6_isReservedAt_51 : decode cX6_isReservedAt 51 = .ok (.invokevirtual 98, 3) := dk_182 0 98 (dk_at dksX6_isReservedAt_2 5 rfl rfl)
theorem dX6_isReservedAt_54 : decode cX6_isReservedAt 54 = .ok (.ifCond .eq 7, 3) := dk_153 0 7 (dk_at dksX6_isReservedAt_2 8 rfl rfl)
theorem dX6_isReservedAt_57 : decode cX6_isReservedAt 57 = .ok (.iconst 1, 1) := dk_4 (dk_at dksX6_isReservedAt_2 11 rfl rfl)
theorem dX6_isReservedAt_58 : decode cX6_isReservedAt 58 = .ok (.goto 4, 3) := dk_167 0 4 (dk_at dksX6_isReservedAt_2 12 rfl rfl)
theorem dX6_isReservedAt_61 : decode cX6_isReservedAt 61 = .ok (.iconst 0, 1) := dk_3 (dk_at dksX6_isReservedAt_2 15 rfl rfl)
theorem dX6_isReservedAt_62 : decode cX6_isReservedAt 62 = .ok (.ireturn, 1) := dk_172 (dk_at dksX6_isReservedAt_2 16 rfl rfl)
abbrev cX6_postAt : ByteArray := prog_14_method_24_code
def yX6_postAt : MethodName := ⟨RX6, "postAt", "(I)I"⟩
def dkwX6_postAt_0 : List UInt8 := [17, 1, 204, 16, 15, 26, 104, 96, 172]
abbrev dktX6_postAt_0 : List UInt8 := dkwX6_postAt_0 ++ []
theorem dksX6_postAt_0 : cX6_postAt.data.toList.drop 0 = dktX6_postAt_0 := by decide +kernel
theorem dX6_postAt_0 : decode cX6_postAt 0 = .ok (.sipush 460, 3) := dk_17 1 204 (dk_at dksX6_postAt_0 0 rfl rfl)
theorem dX6_postAt_3 : decode cX6_postAt 3 = .ok (.bipush 15, 2) := dk_16 15 (dk_at dksX6_postAt_0 3 rfl rfl)
theorem dX6_postAt_5 : decode cX6_postAt 5 = .ok (.iload_n 0, 1) := dk_26 (dk_at dksX6_postAt_0 5 rfl rfl)
theorem dX6_postAt_6 : decode cX6_postAt 6 = .ok (.imul, 1) := dk_104 (dk_at dksX6_postAt_0 6 rfl rfl)
theorem dX6_postAt_7 : decode cX6_postAt 7 = .ok (.iadd, 1) := dk_96 (dk_at dksX6_postAt_0 7 rfl rfl)
theorem dX6_postAt_8 : decode cX6_postAt 8 = .ok (.ireturn, 1) := dk_172 (dk_at dksX6_postAt_0 8 rfl rfl)
abbrev cX6_reserves : ByteArray := prog_14_method_27_code
def yX6_reserves : MethodName := ⟨RX6, "reserves", "(II)Z"⟩
def dkwX6_reserves_2 : List UInt8 := [4, 167, 0, 4, 3, 172]
abbrev dktX6_reserves_2 : List UInt8 := dkwX6_reserves_2 ++ []
def dkwX6_reserves_1 : List UInt8 := [180, 0, 7, 27, 16, 13, 96, 46, 42, 180, 0, 7, 27, 46, 96, 4, 100, 133, 184, 0, 65, 153, 0, 7]
abbrev dktX6_reserves_1 : List UInt8 := dkwX6_reserves_1 ++ dktX6_reserves_2
def dkwX6_reserves_0 : List UInt8 := [42, 180, 0, 7, 27, 46, 158, 0, 44, 28, 133, 42, 180, 0, 7, 27, 16, 13, 96, 46, 133, 42]
abbrev dktX6_reserves_0 : List UInt8 := dkwX6_reserves_0 ++ dktX6_reserves_1
theorem dksX6_reserves_0 : cX6_reserves.data.toList.drop 0 = dktX6_reserves_0 := by decide +kernel
theorem dksX6_reserves_1 : cX6_reserves.data.toList.drop 22 = dktX6_reserves_1 := dk_seg dksX6_reserves_0 22 rfl rfl
theorem dksX6_reserves_2 : cX6_reserves.data.toList.drop 46 = dktX6_reserves_2 := dk_seg dksX6_reserves_1 24 rfl rfl
theorem dX6_reserves_0 : decode cX6_reserves 0 = .ok (.aload_n 0, 1) := dk_42 (dk_at dksX6_reserves_0 0 rfl rfl)
theorem dX6_reserves_1 : decode cX6_reserves 1 = .ok (.getfield 7, 3) := dk_180 0 7 (dk_at dksX6_reserves_0 1 rfl rfl)
theorem dX6_reserves_4 : decode cX6_reserves 4 = .ok (.iload_n 1, 1) := dk_27 (dk_at dksX6_reserves_0 4 rfl rfl)
theorem dX6_reserves_5 : decode cX6_reserves 5 = .ok (.iaload, 1) := dk_46 (dk_at dksX6_reserves_0 5 rfl rfl)
theorem dX6_reserves_6 : decode cX6_reserves 6 = .ok (.ifCond .le 44, 3) := dk_158 0 44 (dk_at dksX6_reserves_0 6 rfl rfl)
theorem dX6_reserves_9 : decode cX6_reserves 9 = .ok (.iload_n 2, 1) := dk_28 (dk_at dksX6_reserves_0 9 rfl rfl)
theorem dX6_reserves_10 : decode cX6_reserves 10 = .ok (.i2l, 1) := dk_133 (dk_at dksX6_reserves_0 10 rfl rfl)
theorem dX6_reserves_11 : decode cX6_reserves 11 = .ok (.aload_n 0, 1) := dk_42 (dk_at dksX6_reserves_0 11 rfl rfl)
theorem dX6_reserves_12 : decode cX6_reserves 12 = .ok (.getfield 7, 3) := dk_180 0 7 (dk_at dksX6_reserves_0 12 rfl rfl)
theorem dX6_reserves_15 : decode cX6_reserves 15 = .ok (.iload_n 1, 1) := dk_27 (dk_at dksX6_reserves_0 15 rfl rfl)
theorem dX6_reserves_16 : decode cX6_reserves 16 = .ok (.bipush 13, 2) := dk_16 13 (dk_at dksX6_reserves_0 16 rfl rfl)
theorem dX6_reserves_18 : decode cX6_reserves 18 = .ok (.iadd, 1) := dk_96 (dk_at dksX6_reserves_0 18 rfl rfl)
theorem dX6_reserves_19 : decode cX6_reserves 19 = .ok (.iaload, 1) := dk_46 (dk_at dksX6_reserves_0 19 rfl rfl)
theorem dX6_reserves_20 : decode cX6_reserves 20 = .ok (.i2l, 1) := dk_133 (dk_at dksX6_reserves_0 20 rfl rfl)
theorem dX6_reserves_21 : decode cX6_reserves 21 = .ok (.aload_n 0, 1) := dk_42 (dk_at dksX6_reserves_0 21 rfl rfl)
theorem dX6_reserves_22 : decode cX6_reserves 22 = .ok (.getfield 7, 3) := dk_180 0 7 (dk_at dksX6_reserves_1 0 rfl rfl)
theorem dX6_reserves_25 : decode cX6_reserves 25 = .ok (.iload_n 1, 1) := dk_27 (dk_at dksX6_reserves_1 3 rfl rfl)
theorem dX6_reserves_26 : decode cX6_reserves 26 = .ok (.bipush 13, 2) := dk_16 13 (dk_at dksX6_reserves_1 4 rfl rfl)
theorem dX6_reserves_28 : decode cX6_reserves 28 = .ok (.iadd, 1) := dk_96 (dk_at dksX6_reserves_1 6 rfl rfl)
theorem dX6_reserves_29 : decode cX6_reserves 29 = .ok (.iaload, 1) := dk_46 (dk_at dksX6_reserves_1 7 rfl rfl)
theorem dX6_reserves_30 : decode cX6_reserves 30 = .ok (.aload_n 0, 1) := dk_42 (dk_at dksX6_reserves_1 8 rfl rfl)
theorem dX6_reserves_31 : decode cX6_reserves 31 = .ok (.getfield 7, 3) := dk_180 0 7 (dk_at dksX6_reserves_1 9 rfl rfl)
theorem dX6_reserves_34 : decode cX6_reserves 34 = .ok (.iload_n 1, 1) := dk_27 (dk_at dksX6_reserves_1 12 rfl rfl)
theorem dX6_reserves_35 : decode cX6_reserves 35 = .ok (.iaload, 1) := dk_46 (dk_at dksX6_reserves_1 13 rfl rfl)
theorem dX6_reserves_36 : decode cX6_reserves 36 = .ok (.iadd, 1) := dk_96 (dk_at dksX6_reserves_1 14 rfl rfl)
theorem dX6_reserves_37 : decode cX6_reserves 37 = .ok (.iconst 1, 1) := dk_4 (dk_at dksX6_reserves_1 15 rfl rfl)
theorem dX6_reserves_38 : decode cX6_reserves 38 = .ok (.isub, 1) := dk_100 (dk_at dksX6_reserves_1 16 rfl rfl)
theorem dX6_reserves_39 : decode cX6_reserves 39 = .ok (.i2l, 1) := dk_133 (dk_at dksX6_reserves_1 17 rfl rfl)
theorem dX6_reserves_40 : decode cX6_reserves 40 = .ok (.invokestatic 65, 3) := dk_184 0 65 (dk_at dksX6_reserves_1 18 rfl rfl)
theorem dX6_reserves_43 : decode cX6_reserves 43 = .ok (.ifCond .eq 7, 3) := dk_153 0 7 (dk_at dksX6_reserves_1 21 rfl rfl)
theorem dX6_reserves_46 : decode cX6_reserves 46 = .ok (.iconst 1, 1) := dk_4 (dk_at dksX6_reserves_2 0 rfl rfl)
theorem dX6_reserves_47 : decode cX6_reserves 47 = .ok (.goto 4, 3) := dk_167 0 4 (dk_at dksX6_reserves_2 1 rfl rfl)
theorem dX6_reserves_50 : decode cX6_reserves 50 = .ok (.iconst 0, 1) := dk_3 (dk_at dksX6_reserves_2 4 rfl rfl)
theorem dX6_reserves_51 : decode cX6_reserves 51 = .ok (.ireturn, 1) := dk_172 (dk_at dksX6_reserves_2 5 rfl rfl)
abbrev cX6_progressOf : ByteArray := prog_14_method_23_code
def yX6_progressOf : MethodName := ⟨RX6, "progressOf", "(I)I"⟩
def dkwX6_progressOf_0 : List UInt8 := [17, 1, 174, 16, 15, 26, 104, 96, 172]
abbrev dktX6_progressOf_0 : List UInt8 := dkwX6_progressOf_0 ++ []
theorem dksX6_progressOf_0 : cX6_progressOf.data.toList.drop 0 = dktX6_progressOf_0 := by decide +kernel
theorem dX6_progressOf_0 : decode cX6_progressOf 0 = .ok (.sipush 430, 3) := dk_17 1 174 (dk_at dksX6_progressOf_0 0 rfl rfl)
theorem dX6_progressOf_3 : decode cX6_progressOf 3 = .ok (.bipush 15, 2) := dk_16 15 (dk_at dksX6_progressOf_0 3 rfl rfl)
theorem dX6_progressOf_5 : decode cX6_progressOf 5 = .ok (.iload_n 0, 1) := dk_26 (dk_at dksX6_progressOf_0 5 rfl rfl)
theorem dX6_progressOf_6 : decode cX6_progressOf 6 = .ok (.imul, 1) := dk_104 (dk_at dksX6_progressOf_0 6 rfl rfl)
theorem dX6_progressOf_7 : decode cX6_progressOf 7 = .ok (.iadd, 1) := dk_96 (dk_at dksX6_progressOf_0 7 rfl rfl)
theorem dX6_progressOf_8 : decode cX6_progressOf 8 = .ok (.ireturn, 1) := dk_172 (dk_at dksX6_progressOf_0 8 rfl rfl)
abbrev cX6_activeNow : ByteArray := prog_14_method_22_code
def yX6_activeNow : MethodName := ⟨RX6, "activeNow", "()I"⟩
def dkwX6_activeNow_0 : List UInt8 := [42, 180, 0, 7, 16, 6, 46, 5, 112, 172]
abbrev dktX6_activeNow_0 : List UInt8 := dkwX6_activeNow_0 ++ []
theorem dksX6_activeNow_0 : cX6_activeNow.data.toList.drop 0 = dktX6_activeNow_0 := by decide +kernel
theorem dX6_activeNow_0 : decode cX6_activeNow 0 = .ok (.aload_n 0, 1) := dk_42 (dk_at dksX6_activeNow_0 0 rfl rfl)
theorem dX6_activeNow_1 : decode cX6_activeNow 1 = .ok (.getfield 7, 3) := dk_180 0 7 (dk_at dksX6_activeNow_0 1 rfl rfl)
theorem dX6_activeNow_4 : decode cX6_activeNow 4 = .ok (.bipush 6, 2) := dk_16 6 (dk_at dksX6_activeNow_0 4 rfl rfl)
theorem dX6_activeNow_6 : decode cX6_activeNow 6 = .ok (.iaload, 1) := dk_46 (dk_at dksX6_activeNow_0 6 rfl rfl)
theorem dX6_activeNow_7 : decode cX6_activeNow 7 = .ok (.iconst 2, 1) := dk_5 (dk_at dksX6_activeNow_0 7 rfl rfl)
theorem dX6_activeNow_8 : decode cX6_activeNow 8 = .ok (.irem, 1) := dk_112 (dk_at dksX6_activeNow_0 8 rfl rfl)
theorem dX6_activeNow_9 : decode cX6_activeNow 9 = .ok (.ireturn, 1) := dk_172 (dk_at dksX6_activeNow_0 9 rfl rfl)
abbrev cX6_twigs : ByteArray := prog_14_method_19_code
def yX6_twigs : MethodName := ⟨RX6, "twigs", "()I"⟩
def dkwX6_twigs_1 : List UInt8 := [60, 132, 2, 1, 167, 255, 232, 27, 172]
abbrev dktX6_twigs_1 : List UInt8 := dkwX6_twigs_1 ++ []
def dkwX6_twigs_0 : List UInt8 := [3, 60, 3, 61, 28, 42, 180, 0, 7, 3, 46, 162, 0, 20, 27, 42, 28, 182, 0, 84, 184, 0, 80, 96]
abbrev dktX6_twigs_0 : List UInt8 := dkwX6_twigs_0 ++ dktX6_twigs_1
theorem dksX6_twigs_0 : cX6_twigs.data.toList.drop 0 = dktX6_twigs_0 := by decide +kernel
theorem dksX6_twigs_1 : cX6_twigs.data.toList.drop 24 = dktX6_twigs_1 := dk_seg dksX6_twigs_0 24 rfl rfl
theorem dX6_twigs_0 : decode cX6_twigs 0 = .ok (.iconst 0, 1) := dk_3 (dk_at dksX6_twigs_0 0 rfl rfl)
theorem dX6_twigs_1 : decode cX6_twigs 1 = .ok (.istore_n 1, 1) := dk_60 (dk_at dksX6_twigs_0 1 rfl rfl)
theorem dX6_twigs_2 : decode cX6_twigs 2 = .ok (.iconst 0, 1) := dk_3 (dk_at dksX6_twigs_0 2 rfl rfl)
theorem dX6_twigs_3 : decode cX6_twigs 3 = .ok (.istore_n 2, 1) := dk_61 (dk_at dksX6_twigs_0 3 rfl rfl)
theorem dX6_twigs_4 : decode cX6_twigs 4 = .ok (.iload_n 2, 1) := dk_28 (dk_at dksX6_twigs_0 4 rfl rfl)
theorem dX6_twigs_5 : decode cX6_twigs 5 = .ok (.aload_n 0, 1) := dk_42 (dk_at dksX6_twigs_0 5 rfl rfl)
theorem dX6_twigs_6 : decode cX6_twigs 6 = .ok (.getfield 7, 3) := dk_180 0 7 (dk_at dksX6_twigs_0 6 rfl rfl)
theorem dX6_twigs_9 : decode cX6_twigs 9 = .ok (.iconst 0, 1) := dk_3 (dk_at dksX6_twigs_0 9 rfl rfl)
theorem dX6_twigs_10 : decode cX6_twigs 10 = .ok (.iaload, 1) := dk_46 (dk_at dksX6_twigs_0 10 rfl rfl)
theorem dX6_twigs_11 : decode cX6_twigs 11 = .ok (.if_icmp .ge 20, 3) := dk_162 0 20 (dk_at dksX6_twigs_0 11 rfl rfl)
theorem dX6_twigs_14 : decode cX6_twigs 14 = .ok (.iload_n 1, 1) := dk_27 (dk_at dksX6_twigs_0 14 rfl rfl)
theorem dX6_twigs_15 : decode cX6_twigs 15 = .ok (.aload_n 0, 1) := dk_42 (dk_at dksX6_twigs_0 15 rfl rfl)
theorem dX6_twigs_16 : decode cX6_twigs 16 = .ok (.iload_n 2, 1) := dk_28 (dk_at dksX6_twigs_0 16 rfl rfl)
theorem dX6_twigs_17 : decode cX6_twigs 17 = .ok (.invokevirtual 84, 3) := dk_182 0 84 (dk_at dksX6_twigs_0 17 rfl rfl)
theorem dX6_twigs_20 : decode cX6_twigs 20 = .ok (.invokestatic 80, 3) := dk_184 0 80 (dk_at dksX6_twigs_0 20 rfl rfl)
theorem dX6_twigs_23 : decode cX6_twigs 23 = .ok (.iadd, 1) := dk_96 (dk_at dksX6_twigs_0 23 rfl rfl)
theorem dX6_twigs_24 : decode cX6_twigs 24 = .ok (.istore_n 1, 1) := dk_60 (dk_at dksX6_twigs_1 0 rfl rfl)
theorem dX6_twigs_25 : decode cX6_twigs 25 = .ok (.iinc 2 1, 3) := dk_132 2 1 (dk_at dksX6_twigs_1 1 rfl rfl)
theorem dX6_twigs_28 : decode cX6_twigs 28 = .ok (.goto (-24), 3) := dk_167 255 232 (dk_at dksX6_twigs_1 4 rfl rfl)
theorem dX6_twigs_31 : decode cX6_twigs 31 = .ok (.iload_n 1, 1) := dk_27 (dk_at dksX6_twigs_1 7 rfl rfl)
theorem dX6_twigs_32 : decode cX6_twigs 32 = .ok (.ireturn, 1) := dk_172 (dk_at dksX6_twigs_1 8 rfl rfl)
abbrev cX6_removeNow : ByteArray := prog_14_method_57_code
def yX6_removeNow : MethodName := ⟨RX6, "removeNow", "(I)Z"⟩
def dkwX6_removeNow_2 : List UInt8 := [180, 0, 7, 16, 7, 92, 46, 4, 100, 79, 4, 172]
abbrev dktX6_removeNow_2 : List UInt8 := dkwX6_removeNow_2 ++ []
def dkwX6_removeNow_1 : List UInt8 := [182, 0, 69, 181, 0, 200, 42, 27, 182, 0, 124, 42, 180, 0, 7, 16, 10, 92, 46, 4, 96, 79, 42]
abbrev dktX6_removeNow_1 : List UInt8 := dkwX6_removeNow_1 ++ dktX6_removeNow_2
def dkwX6_removeNow_0 : List UInt8 := [42, 27, 182, 0, 73, 153, 0, 11, 42, 27, 182, 0, 203, 153, 0, 5, 3, 172, 42, 42, 27, 3]
abbrev dktX6_removeNow_0 : List UInt8 := dkwX6_removeNow_0 ++ dktX6_removeNow_1
theorem dksX6_removeNow_0 : cX6_removeNow.data.toList.drop 0 = dktX6_removeNow_0 := by decide +kernel
theorem dksX6_removeNow_1 : cX6_removeNow.data.toList.drop 22 = dktX6_removeNow_1 := dk_seg dksX6_removeNow_0 22 rfl rfl
theorem dksX6_removeNow_2 : cX6_removeNow.data.toList.drop 45 = dktX6_removeNow_2 := dk_seg dksX6_removeNow_1 23 rfl rfl
theorem dX6_removeNow_0 : decode cX6_removeNow 0 = .ok (.aload_n 0, 1) := dk_42 (dk_at dksX6_removeNow_0 0 rfl rfl)
theorem dX6_removeNow_1 : decode cX6_removeNow 1 = .ok (.iload_n 1, 1) := dk_27 (dk_at dksX6_removeNow_0 1 rfl rfl)
theorem dX6_removeNow_2 : decode cX6_removeNow 2 = .ok (.invokevirtual 73, 3) := dk_182 0 73 (dk_at dksX6_removeNow_0 2 rfl rfl)
theorem dX6_removeNow_5 : decode cX6_removeNow 5 = .ok (.ifCond .eq 11, 3) := dk_153 0 11 (dk_at dksX6_removeNow_0 5 rfl rfl)
theorem dX6_removeNow_8 : decode cX6_removeNow 8 = .ok (.aload_n 0, 1) := dk_42 (dk_at dksX6_removeNow_0 8 rfl rfl)
theorem dX6_removeNow_9 : decode cX6_removeNow 9 = .ok (.iload_n 1, 1) := dk_27 (dk_at dksX6_removeNow_0 9 rfl rfl)
theorem dX6_removeNow_10 : decode cX6_removeNow 10 = .ok (.invokevirtual 203, 3) := dk_182 0 203 (dk_at dksX6_removeNow_0 10 rfl rfl)
theorem dX6_removeNow_13 : decode cX6_removeNow 13 = .ok (.ifCond .eq 5, 3) := dk_153 0 5 (dk_at dksX6_removeNow_0 13 rfl rfl)
theorem dX6_removeNow_16 : decode cX6_removeNow 16 = .ok (.iconst 0, 1) := dk_3 (dk_at dksX6_removeNow_0 16 rfl rfl)
theorem dX6_removeNow_17 : decode cX6_removeNow 17 = .ok (.ireturn, 1) := dk_172 (dk_at dksX6_removeNow_0 17 rfl rfl)
theorem dX6_removeNow_18 : decode cX6_removeNow 18 = .ok (.aload_n 0, 1) := dk_42 (dk_at dksX6_removeNow_0 18 rfl rfl)
theorem dX6_removeNow_19 : decode cX6_removeNow 19 = .ok (.aload_n 0, 1) := dk_42 (dk_at dksX6_removeNow_0 19 rfl rfl)
theorem dX6_removeNow_20 : decode cX6_removeNow 20 = .ok (.iload_n 1, 1) := dk_27 (dk_at dksX6_removeNow_0 20 rfl rfl)
theorem dX6_removeNow_21 : decode cX6_removeNow 21 = .ok (.iconst 0, 1) := dk_3 (dk_at dksX6_removeNow_0 21 rfl rfl)
theorem dX6_removeNow_22 : decode cX6_removeNow 22 = .ok (.invokevirtual 69, 3) := dk_182 0 69 (dk_at dksX6_removeNow_1 0 rfl rfl)
theorem dX6_removeNow_25 : decode cX6_removeNow 25 = .ok (.putfield 200, 3) := dk_181 0 200 (dk_at dksX6_removeNow_1 3 rfl rfl)
theorem dX6_removeNow_28 : decode cX6_removeNow 28 = .ok (.aload_n 0, 1) := dk_42 (dk_at dksX6_removeNow_1 6 rfl rfl)
theorem dX6_removeNow_29 : decode cX6_removeNow 29 = .ok (.iload_n 1, 1) := dk_27 (dk_at dksX6_removeNow_1 7 rfl rfl)
theorem dX6_removeNow_30 : decode cX6_removeNow 30 = .ok (.invokevirtual 124, 3) := dk_182 0 124 (dk_at dksX6_removeNow_1 8 rfl rfl)
theorem dX6_removeNow_33 : decode cX6_removeNow 33 = .ok (.aload_n 0, 1) := dk_42 (dk_at dksX6_removeNow_1 11 rfl rfl)
theorem dX6_removeNow_34 : decode cX6_removeNow 34 = .ok (.getfield 7, 3) := dk_180 0 7 (dk_at dksX6_removeNow_1 12 rfl rfl)
theorem dX6_removeNow_37 : decode cX6_removeNow 37 = .ok (.bipush 10, 2) := dk_16 10 (dk_at dksX6_removeNow_1 15 rfl rfl)
theorem dX6_removeNow_39 : decode cX6_removeNow 39 = .ok (.dup2, 1) := dk_92 (dk_at dksX6_removeNow_1 17 rfl rfl)
theorem dX6_removeNow_40 : decode cX6_removeNow 40 = .ok (.iaload, 1) := dk_46 (dk_at dksX6_removeNow_1 18 rfl rfl)
theorem dX6_removeNow_41 : decode cX6_removeNow 41 = .ok (.iconst 1, 1) := dk_4 (dk_at dksX6_removeNow_1 19 rfl rfl)
theorem dX6_removeNow_42 : decode cX6_removeNow 42 = .ok (.iadd, 1) := dk_96 (dk_at dksX6_removeNow_1 20 rfl rfl)
theorem dX6_removeNow_43 : decode cX6_removeNow 43 = .ok (.iastore, 1) := dk_79 (dk_at dksX6_removeNow_1 21 rfl rfl)
theorem dX6_removeNow_44 : decode cX6_removeNow 44 = .ok (.aload_n 0, 1) := dk_42 (dk_at dksX6_removeNow_1 22 rfl rfl)
theorem dX6_removeNow_45 : decode cX6_removeNow 45 = .ok (.getfield 7, 3) := dk_180 0 7 (dk_at dksX6_removeNow_2 0 rfl rfl)
theorem dX6_removeNow_48 : decode cX6_removeNow 48 = .ok (.bipush 7, 2) := dk_16 7 (dk_at dksX6_removeNow_2 3 rfl rfl)
theorem dX6_removeNow_50 : decode cX6_removeNow 50 = .ok (.dup2, 1) := dk_92 (dk_at dksX6_removeNow_2 5 rfl rfl)
theorem dX6_removeNow_51 : decode cX6_removeNow 51 = .ok (.iaload, 1) := dk_46 (dk_at dksX6_removeNow_2 6 rfl rfl)
theorem dX6_removeNow_52 : decode cX6_removeNow 52 = .ok (.iconst 1, 1) := dk_4 (dk_at dksX6_removeNow_2 7 rfl rfl)
theorem dX6_removeNow_53 : decode cX6_removeNow 53 = .ok (.isub, 1) := dk_100 (dk_at dksX6_removeNow_2 8 rfl rfl)
theorem dX6_removeNow_54 : decode cX6_removeNow 54 = .ok (.iastore, 1) := dk_79 (dk_at dksX6_removeNow_2 9 rfl rfl)
theorem dX6_removeNow_55 : decode cX6_removeNow 55 = .ok (.iconst 1, 1) := dk_4 (dk_at dksX6_removeNow_2 10 rfl rfl)
theorem dX6_removeNow_56 : decode cX6_removeNow 56 = .ok (.ireturn, 1) := dk_172 (dk_at dksX6_removeNow_2 11 rfl rfl)
abbrev cX6_whyNotRemove : ByteArray := prog_14_method_52_code
def yX6_whyNotRemove : MethodName := ⟨RX6, "whyNotRemove", "(I)I"⟩
def dkwX6_whyNotRemove_1 : List UInt8 := [172, 42, 27, 182, 0, 158, 153, 0, 8, 16, 8, 167, 0, 4, 3, 172]
abbrev dktX6_whyNotRemove_1 : List UInt8 := dkwX6_whyNotRemove_1 ++ []
def dkwX6_whyNotRemove_0 : List UInt8 := [42, 27, 182, 0, 191, 61, 28, 153, 0, 5, 28, 172, 42, 27, 6, 182, 0, 69, 4, 160, 0, 6, 16, 7]
abbrev dktX6_whyNotRemove_0 : List UInt8 := dkwX6_whyNotRemove_0 ++ dktX6_whyNotRemove_1
theorem dksX6_whyNotRemove_0 : cX6_whyNotRemove.data.toList.drop 0 = dktX6_whyNotRemove_0 := by decide +kernel
theorem dksX6_whyNotRemove_1 : cX6_whyNotRemove.data.toList.drop 24 = dktX6_whyNotRemove_1 := dk_seg dksX6_whyNotRemove_0 24 rfl rfl
theorem dX6_whyNotRemove_0 : decode cX6_whyNotRemove 0 = .ok (.aload_n 0, 1) := dk_42 (dk_at dksX6_whyNotRemove_0 0 rfl rfl)
theorem dX6_whyNotRemove_1 : decode cX6_whyNotRemove 1 = .ok (.iload_n 1, 1) := dk_27 (dk_at dksX6_whyNotRemove_0 1 rfl rfl)
theorem dX6_whyNotRemove_2 : decode cX6_whyNotRemove 2 = .ok (.invokevirtual 191, 3) := dk_182 0 191 (dk_at dksX6_whyNotRemove_0 2 rfl rfl)
theorem dX6_whyNotRemove_5 : decode cX6_whyNotRemove 5 = .ok (.istore_n 2, 1) := dk_61 (dk_at dksX6_whyNotRemove_0 5 rfl rfl)
theorem dX6_whyNotRemove_6 : decode cX6_whyNotRemove 6 = .ok (.iload_n 2, 1) := dk_28 (dk_at dksX6_whyNotRemove_0 6 rfl rfl)
theorem dX6_whyNotRemove_7 : decode cX6_whyNotRemove 7 = .ok (.ifCond .eq 5, 3) := dk_153 0 5 (dk_at dksX6_whyNotRemove_0 7 rfl rfl)
theorem dX6_whyNotRemove_10 : decode cX6_whyNotRemove 10 = .ok (.iload_n 2, 1) := dk_28 (dk_at dksX6_whyNotRemove_0 10 rfl rfl)
theorem dX6_whyNotRemove_11 : decode cX6_whyNotRemove 11 = .ok (.ireturn, 1) := dk_172 (dk_at dksX6_whyNotRemove_0 11 rfl rfl)
theorem dX6_whyNotRemove_12 : decode cX6_whyNotRemove 12 = .ok (.aload_n 0, 1) := dk_42 (dk_at dksX6_whyNotRemove_0 12 rfl rfl)
theorem dX6_whyNotRemove_13 : decode cX6_whyNotRemove 13 = .ok (.iload_n 1, 1) := dk_27 (dk_at dksX6_whyNotRemove_0 13 rfl rfl)
theorem dX6_whyNotRemove_14 : decode cX6_whyNotRemove 14 = .ok (.iconst 3, 1) := dk_6 (dk_at dksX6_whyNotRemove_0 14 rfl rfl)
theorem dX6_whyNotRemove_15 : decode cX6_whyNotRemove 15 = .ok (.invokevirtual 69, 3) := dk_182 0 69 (dk_at dksX6_whyNotRemove_0 15 rfl rfl)
theorem dX6_whyNotRemove_18 : decode cX6_whyNotRemove 18 = .ok (.iconst 1, 1) := dk_4 (dk_at dksX6_whyNotRemove_0 18 rfl rfl)
theorem dX6_whyNotRemove_19 : decode cX6_whyNotRemove 19 = .ok (.if_icmp .ne 6, 3) := dk_160 0 6 (dk_at dksX6_whyNotRemove_0 19 rfl rfl)
theorem dX6_whyNotRemove_22 : decode cX6_whyNotRemove 22 = .ok (.bipush 7, 2) := dk_16 7 (dk_at dksX6_whyNotRemove_0 22 rfl rfl)
theorem dX6_whyNotRemove_24 : decode cX6_whyNotRemove 24 = .ok (.ireturn, 1) := dk_172 (dk_at dksX6_whyNotRemove_1 0 rfl rfl)
theorem dX6_whyNotRemove_25 : decode cX6_whyNotRemove 25 = .ok (.aload_n 0, 1) := dk_42 (dk_at dksX6_whyNotRemove_1 1 rfl rfl)
theorem dX6_whyNotRemove_26 : decode cX6_whyNotRemove 26 = .ok (.iload_n 1, 1) := dk_27 (dk_at dksX6_whyNotRemove_1 2 rfl rfl)
theorem dX6_whyNotRemove_27 : decode cX6_whyNotRemove 27 = .ok (.invokevirtual 158, 3) := dk_182 0 158 (dk_at dksX6_whyNotRemove_1 3 rfl rfl)
theorem dX6_whyNotRemove_30 : decode cX6_whyNotRemove 30 = .ok (.ifCond .eq 8, 3) := dk_153 0 8 (dk_at dksX6_whyNotRemove_1 6 rfl rfl)
theorem dX6_whyNotRemove_33 : decode cX6_whyNotRemove 33 = .ok (.bipush 8, 2) := dk_16 8 (dk_at dksX6_whyNotRemove_1 9 rfl rfl)
theorem dX6_whyNotRemove_35 : decode cX6_whyNotRemove 35 = .ok (.goto 4, 3) := dk_167 0 4 (dk_at dksX6_whyNotRemove_1 11 rfl rfl)
theorem dX6_whyNotRemove_38 : decode cX6_whyNotRemove 38 = .ok (.iconst 0, 1) := dk_3 (dk_at dksX6_whyNotRemove_1 14 rfl rfl)
theorem dX6_whyNotRemove_39 : decode cX6_whyNotRemove 39 = .ok (.ireturn, 1) := dk_172 (dk_at dksX6_whyNotRemove_1 15 rfl rfl)
abbrev cX6_whyNotTouch : ByteArray := prog_14_method_51_code
def yX6_whyNotTouch : MethodName := ⟨RX6, "whyNotTouch", "(I)I"⟩
def dkwX6_whyNotTouch_1 : List UInt8 := [4, 182, 0, 69, 42, 182, 0, 173, 159, 0, 8, 16, 6, 167, 0, 4, 3, 172]
abbrev dktX6_whyNotTouch_1 : List UInt8 := dkwX6_whyNotTouch_1 ++ []
def dkwX6_whyNotTouch_0 : List UInt8 := [42, 180, 0, 7, 16, 7, 46, 154, 0, 5, 4, 172, 42, 27, 182, 0, 84, 154, 0, 5, 8, 172, 42, 27]
abbrev dktX6_whyNotTouch_0 : List UInt8 := dkwX6_whyNotTouch_0 ++ dktX6_whyNotTouch_1
theorem dksX6_whyNotTouch_0 : cX6_whyNotTouch.data.toList.drop 0 = dktX6_whyNotTouch_0 := by decide +kernel
theorem dksX6_whyNotTouch_1 : cX6_whyNotTouch.data.toList.drop 24 = dktX6_whyNotTouch_1 := dk_seg dksX6_whyNotTouch_0 24 rfl rfl
theorem dX6_whyNotTouch_0 : decode cX6_whyNotTouch 0 = .ok (.aload_n 0, 1) := dk_42 (dk_at dksX6_whyNotTouch_0 0 rfl rfl)
theorem dX6_whyNotTouch_1 : decode cX6_whyNotTouch 1 = .ok (.getfield 7, 3) := dk_180 0 7 (dk_at dksX6_whyNotTouch_0 1 rfl rfl)
theorem dX6_whyNotTouch_4 : decode cX6_whyNotTouch 4 = .ok (.bipush 7, 2) := dk_16 7 (dk_at dksX6_whyNotTouch_0 4 rfl rfl)
theorem dX6_whyNotTouch_6 : decode cX6_whyNotTouch 6 = .ok (.iaload, 1) := dk_46 (dk_at dksX6_whyNotTouch_0 6 rfl rfl)
theorem dX6_whyNotTouch_7 : decode cX6_whyNotTouch 7 = .ok (.ifCond .ne 5, 3) := dk_154 0 5 (dk_at dksX6_whyNotTouch_0 7 rfl rfl)
theorem dX6_whyNotTouch_10 : decode cX6_whyNotTouch 10 = .ok (.iconst 1, 1) := dk_4 (dk_at dksX6_whyNotTouch_0 10 rfl rfl)
theorem dX6_whyNotTouch_11 : decode cX6_whyNotTouch 11 = .ok (.ireturn, 1) := dk_172 (dk_at dksX6_whyNotTouch_0 11 rfl rfl)
theorem dX6_whyNotTouch_12 : decode cX6_whyNotTouch 12 = .ok (.aload_n 0, 1) := dk_42 (dk_at dksX6_whyNotTouch_0 12 rfl rfl)
theorem dX6_whyNotTouch_13 : decode cX6_whyNotTouch 13 = .ok (.iload_n 1, 1) := dk_27 (dk_at dksX6_whyNotTouch_0 13 rfl rfl)
theorem dX6_whyNotTouch_14 : decode cX6_whyNotTouch 14 = .ok (.invokevirtual 84, 3) := dk_182 0 84 (dk_at dksX6_whyNotTouch_0 14 rfl rfl)
theorem dX6_whyNotTouch_17 : decode cX6_whyNotTouch 17 = .ok (.ifCond .ne 5, 3) := dk_154 0 5 (dk_at dksX6_whyNotTouch_0 17 rfl rfl)
theorem dX6_whyNotTouch_20 : decode cX6_whyNotTouch 20 = .ok (.iconst 5, 1) := dk_8 (dk_at dksX6_whyNotTouch_0 20 rfl rfl)
theorem dX6_whyNotTouch_21 : decode cX6_whyNotTouch 21 = .ok (.ireturn, 1) := dk_172 (dk_at dksX6_whyNotTouch_0 21 rfl rfl)
theorem dX6_whyNotTouch_22 : decode cX6_whyNotTouch 22 = .ok (.aload_n 0, 1) := dk_42 (dk_at dksX6_whyNotTouch_0 22 rfl rfl)
theorem dX6_whyNotTouch_23 : decode cX6_whyNotTouch 23 = .ok (.iload_n 1, 1) := dk_27 (dk_at dksX6_whyNotTouch_0 23 rfl rfl)
theorem dX6_whyNotTouch_24 : decode cX6_whyNotTouch 24 = .ok (.iconst 1, 1) := dk_4 (dk_at dksX6_whyNotTouch_1 0 rfl rfl)
theorem dX6_whyNotTouch_25 : decode cX6_whyNotTouch 25 = .ok (.invokevirtual 69, 3) := dk_182 0 69 (dk_at dksX6_whyNotTouch_1 1 rfl rfl)
theorem dX6_whyNotTouch_28 : decode cX6_whyNotTouch 28 = .ok (.aload_n 0, 1) := dk_42 (dk_at dksX6_whyNotTouch_1 4 rfl rfl)
theorem dX6_whyNotTouch_29 : decode cX6_whyNotTouch 29 = .ok (.invokevirtual 173, 3) := dk_182 0 173 (dk_at dksX6_whyNotTouch_1 5 rfl rfl)
theorem dX6_whyNotTouch_32 : decode cX6_whyNotTouch 32 = .ok (.if_icmp .eq 8, 3) := dk_159 0 8 (dk_at dksX6_whyNotTouch_1 8 rfl rfl)
theorem dX6_whyNotTouch_35 : decode cX6_whyNotTouch 35 = .ok (.bipush 6, 2) := dk_16 6 (dk_at dksX6_whyNotTouch_1 11 rfl rfl)
theorem dX6_whyNotTouch_37 : decode cX6_whyNotTouch 37 = .ok (.goto 4, 3) := dk_167 0 4 (dk_at dksX6_whyNotTouch_1 13 rfl rfl)
theorem dX6_whyNotTouch_40 : decode cX6_whyNotTouch 40 = .ok (.iconst 0, 1) := dk_3 (dk_at dksX6_whyNotTouch_1 16 rfl rfl)
theorem dX6_whyNotTouch_41 : decode cX6_whyNotTouch 41 = .ok (.ireturn, 1) := dk_172 (dk_at dksX6_whyNotTouch_1 17 rfl rfl)
abbrev cX6_isSafe : ByteArray := prog_14_method_17_code
def yX6_isSafe : MethodName := ⟨RX6, "isSafe", "(I)Z"⟩
def dkwX6_isSafe_1 : List UInt8 := [182, 0, 77, 153, 0, 7, 4, 167, 0, 4, 3, 172]
abbrev dktX6_isSafe_1 : List UInt8 := dkwX6_isSafe_1 ++ []
def dkwX6_isSafe_0 : List UInt8 := [42, 27, 182, 0, 77, 154, 0, 23, 42, 27, 4, 100, 182, 0, 77, 154, 0, 13, 42, 27, 4, 96]
abbrev dktX6_isSafe_0 : List UInt8 := dkwX6_isSafe_0 ++ dktX6_isSafe_1
theorem dksX6_isSafe_0 : cX6_isSafe.data.toList.drop 0 = dktX6_isSafe_0 := by decide +kernel
theorem dksX6_isSafe_1 : cX6_isSafe.data.toList.drop 22 = dktX6_isSafe_1 := dk_seg dksX6_isSafe_0 22 rfl rfl
theorem dX6_isSafe_0 : decode cX6_isSafe 0 = .ok (.aload_n 0, 1) := dk_42 (dk_at dksX6_isSafe_0 0 rfl rfl)
theorem dX6_isSafe_1 : decode cX6_isSafe 1 = .ok (.iload_n 1, 1) := dk_27 (dk_at dksX6_isSafe_0 1 rfl rfl)
theorem dX6_isSafe_2 : decode cX6_isSafe 2 = .ok (.invokevirtual 77, 3) := dk_182 0 77 (dk_at dksX6_isSafe_0 2 rfl rfl)
theorem dX6_isSafe_5 : decode cX6_isSafe 5 = .ok (.ifCond .ne 23, 3) := dk_154 0 23 (dk_at dksX6_isSafe_0 5 rfl rfl)
theorem dX6_isSafe_8 : decode cX6_isSafe 8 = .ok (.aload_n 0, 1) := dk_42 (dk_at dksX6_isSafe_0 8 rfl rfl)
theorem dX6_isSafe_9 : decode cX6_isSafe 9 = .ok (.iload_n 1, 1) := dk_27 (dk_at dksX6_isSafe_0 9 rfl rfl)
theorem dX6_isSafe_10 : decode cX6_isSafe 10 = .ok (.iconst 1, 1) := dk_4 (dk_at dksX6_isSafe_0 10 rfl rfl)
theorem dX6_isSafe_11 : decode cX6_isSafe 11 = .ok (.isub, 1) := dk_100 (dk_at dksX6_isSafe_0 11 rfl rfl)
theorem dX6_isSafe_12 : decode cX6_isSafe 12 = .ok (.invokevirtual 77, 3) := dk_182 0 77 (dk_at dksX6_isSafe_0 12 rfl rfl)
theorem dX6_isSafe_15 : decode cX6_isSafe 15 = .ok (.ifCond .ne 13, 3) := dk_154 0 13 (dk_at dksX6_isSafe_0 15 rfl rfl)
theorem dX6_isSafe_18 : decode cX6_isSafe 18 = .ok (.aload_n 0, 1) := dk_42 (dk_at dksX6_isSafe_0 18 rfl rfl)
theorem dX6_isSafe_19 : decode cX6_isSafe 19 = .ok (.iload_n 1, 1) := dk_27 (dk_at dksX6_isSafe_0 19 rfl rfl)
theorem dX6_isSafe_20 : decode cX6_isSafe 20 = .ok (.iconst 1, 1) := dk_4 (dk_at dksX6_isSafe_0 20 rfl rfl)
theorem dX6_isSafe_21 : decode cX6_isSafe 21 = .ok (.iadd, 1) := dk_96 (dk_at dksX6_isSafe_0 21 rfl rfl)
theorem dX6_isSafe_22 : decode cX6_isSafe 22 = .ok (.invokevirtual 77, 3) := dk_182 0 77 (dk_at dksX6_isSafe_1 0 rfl rfl)
theorem dX6_isSafe_25 : decode cX6_isSafe 25 = .ok (.ifCond .eq 7, 3) := dk_153 0 7 (dk_at dksX6_isSafe_1 3 rfl rfl)
theorem dX6_isSafe_28 : decode cX6_isSafe 28 = .ok (.iconst 1, 1) := dk_4 (dk_at dksX6_isSafe_1 6 rfl rfl)
theorem dX6_isSafe_29 : decode cX6_isSafe 29 = .ok (.goto 4, 3) := dk_167 0 4 (dk_at dksX6_isSafe_1 7 rfl rfl)
theorem dX6_isSafe_32 : decode cX6_isSafe 32 = .ok (.iconst 0, 1) := dk_3 (dk_at dksX6_isSafe_1 10 rfl rfl)
theorem dX6_isSafe_33 : decode cX6_isSafe 33 = .ok (.ireturn, 1) := dk_172 (dk_at dksX6_isSafe_1 11 rfl rfl)
abbrev cX6_twigGoes : ByteArray := prog_14_method_21_code
def yX6_twigGoes : MethodName := ⟨RX6, "twigGoes", "(I)V"⟩
def dkwX6_twigGoes_0 : List UInt8 := [3, 61, 28, 7, 162, 0, 16, 42, 27, 28, 3, 182, 0, 87, 132, 2, 1, 167, 255, 241, 177]
abbrev dktX6_twigGoes_0 : List UInt8 := dkwX6_twigGoes_0 ++ []
theorem dksX6_twigGoes_0 : cX6_twigGoes.data.toList.drop 0 = dktX6_twigGoes_0 := by decide +kernel
theorem dX6_twigGoes_0 : decode cX6_twigGoes 0 = .ok (.iconst 0, 1) := dk_3 (dk_at dksX6_twigGoes_0 0 rfl rfl)
theorem dX6_twigGoes_1 : decode cX6_twigGoes 1 = .ok (.istore_n 2, 1) := dk_61 (dk_at dksX6_twigGoes_0 1 rfl rfl)
theorem dX6_twigGoes_2 : decode cX6_twigGoes 2 = .ok (.iload_n 2, 1) := dk_28 (dk_at dksX6_twigGoes_0 2 rfl rfl)
theorem dX6_twigGoes_3 : decode cX6_twigGoes 3 = .ok (.iconst 4, 1) := dk_7 (dk_at dksX6_twigGoes_0 3 rfl rfl)
theorem dX6_twigGoes_4 : decode cX6_twigGoes 4 = .ok (.if_icmp .ge 16, 3) := dk_162 0 16 (dk_at dksX6_twigGoes_0 4 rfl rfl)
theorem dX6_twigGoes_7 : decode cX6_twigGoes 7 = .ok (.aload_n 0, 1) := dk_42 (dk_at dksX6_twigGoes_0 7 rfl rfl)
theorem dX6_twigGoes_8 : decode cX6_twigGoes 8 = .ok (.iload_n 1, 1) := dk_27 (dk_at dksX6_twigGoes_0 8 rfl rfl)
theorem dX6_twigGoes_9 : decode cX6_twigGoes 9 = .ok (.iload_n 2, 1) := dk_28 (dk_at dksX6_twigGoes_0 9 rfl rfl)
theorem dX6_twigGoes_10 : decode cX6_twigGoes 10 = .ok (.iconst 0, 1) := dk_3 (dk_at dksX6_twigGoes_0 10 rfl rfl)
theorem dX6_twigGoes_11 : decode cX6_twigGoes 11 = .ok (.invokevirtual 87, 3) := dk_182 0 87 (dk_at dksX6_twigGoes_0 11 rfl rfl)
theorem dX6_twigGoes_14 : decode cX6_twigGoes 14 = .ok (.iinc 2 1, 3) := dk_132 2 1 (dk_at dksX6_twigGoes_0 14 rfl rfl)
theorem dX6_twigGoes_17 : decode cX6_twigGoes 17 = .ok (.goto (-15), 3) := dk_167 255 241 (dk_at dksX6_twigGoes_0 17 rfl rfl)
theorem dX6_twigGoes_20 : decode cX6_twigGoes 20 = .ok (.return_, 1) := dk_177 (dk_at dksX6_twigGoes_0 20 rfl rfl)
abbrev cX6_trimNow : ByteArray := prog_14_method_58_code
def yX6_trimNow : MethodName := ⟨RX6, "trimNow", "(II)Z"⟩
def dkwX6_trimNow_2 : List UInt8 := [42, 27, 5, 182, 0, 69, 181, 0, 200, 4, 172]
abbrev dktX6_trimNow_2 : List UInt8 := dkwX6_trimNow_2 ++ []
def dkwX6_trimNow_1 : List UInt8 := [5, 182, 0, 69, 28, 100, 184, 0, 153, 182, 0, 87, 42, 180, 0, 7, 16, 7, 92, 46, 4, 100, 79, 42]
abbrev dktX6_trimNow_1 : List UInt8 := dkwX6_trimNow_1 ++ dktX6_trimNow_2
def dkwX6_trimNow_0 : List UInt8 := [42, 27, 182, 0, 73, 153, 0, 11, 42, 27, 182, 0, 206, 153, 0, 5, 3, 172, 42, 27, 5, 4, 42, 27]
abbrev dktX6_trimNow_0 : List UInt8 := dkwX6_trimNow_0 ++ dktX6_trimNow_1
theorem dksX6_trimNow_0 : cX6_trimNow.data.toList.drop 0 = dktX6_trimNow_0 := by decide +kernel
theorem dksX6_trimNow_1 : cX6_trimNow.data.toList.drop 24 = dktX6_trimNow_1 := dk_seg dksX6_trimNow_0 24 rfl rfl
theorem dksX6_trimNow_2 : cX6_trimNow.data.toList.drop 48 = dktX6_trimNow_2 := dk_seg dksX6_trimNow_1 24 rfl rfl
theorem dX6_trimNow_0 : decode cX6_trimNow 0 = .ok (.aload_n 0, 1) := dk_42 (dk_at dksX6_trimNow_0 0 rfl rfl)
theorem dX6_trimNow_1 : decode cX6_trimNow 1 = .ok (.iload_n 1, 1) := dk_27 (dk_at dksX6_trimNow_0 1 rfl rfl)
theorem dX6_trimNow_2 : decode cX6_trimNow 2 = .ok (.invokevirtual 73, 3) := dk_182 0 73 (dk_at dksX6_trimNow_0 2 rfl rfl)
theorem dX6_trimNow_5 : decode cX6_trimNow 5 = .ok (.ifCond .eq 11, 3) := dk_153 0 11 (dk_at dksX6_trimNow_0 5 rfl rfl)
theorem dX6_trimNow_8 : decode cX6_trimNow 8 = .ok (.aload_n 0, 1) := dk_42 (dk_at dksX6_trimNow_0 8 rfl rfl)
theorem dX6_trimNow_9 : decode cX6_trimNow 9 = .ok (.iload_n 1, 1) := dk_27 (dk_at dksX6_trimNow_0 9 rfl rfl)
theorem dX6_trimNow_10 : decode cX6_trimNow 10 = .ok (.invokevirtual 206, 3) := dk_182 0 206 (dk_at dksX6_trimNow_0 10 rfl rfl)
theorem dX6_trimNow_13 : decode cX6_trimNow 13 = .ok (.ifCond .eq 5, 3) := dk_153 0 5 (dk_at dksX6_trimNow_0 13 rfl rfl)
theorem dX6_trimNow_16 : decode cX6_trimNow 16 = .ok (.iconst 0, 1) := dk_3 (dk_at dksX6_trimNow_0 16 rfl rfl)
theorem dX6_trimNow_17 : decode cX6_trimNow 17 = .ok (.ireturn, 1) := dk_172 (dk_at dksX6_trimNow_0 17 rfl rfl)
theorem dX6_trimNow_18 : decode cX6_trimNow 18 = .ok (.aload_n 0, 1) := dk_42 (dk_at dksX6_trimNow_0 18 rfl rfl)
theorem dX6_trimNow_19 : decode cX6_trimNow 19 = .ok (.iload_n 1, 1) := dk_27 (dk_at dksX6_trimNow_0 19 rfl rfl)
theorem dX6_trimNow_20 : decode cX6_trimNow 20 = .ok (.iconst 2, 1) := dk_5 (dk_at dksX6_trimNow_0 20 rfl rfl)
theorem dX6_trimNow_21 : decode cX6_trimNow 21 = .ok (.iconst 1, 1) := dk_4 (dk_at dksX6_trimNow_0 21 rfl rfl)
theorem dX6_trimNow_22 : decode cX6_trimNow 22 = .ok (.aload_n 0, 1) := dk_42 (dk_at dksX6_trimNow_0 22 rfl rfl)
theorem dX6_trimNow_23 : decode cX6_trimNow 23 = .ok (.iload_n 1, 1) := dk_27 (dk_at dksX6_trimNow_0 23 rfl rfl)
theorem dX6_trimNow_24 : decode cX6_trimNow 24 = .ok (.iconst 2, 1) := dk_5 (dk_at dksX6_trimNow_1 0 rfl rfl)
theorem dX6_trimNow_25 : decode cX6_trimNow 25 = .ok (.invokevirtual 69, 3) := dk_182 0 69 (dk_at dksX6_trimNow_1 1 rfl rfl)
theorem dX6_trimNow_28 : decode cX6_trimNow 28 = .ok (.iload_n 2, 1) := dk_28 (dk_at dksX6_trimNow_1 4 rfl rfl)
theorem dX6_trimNow_29 : decode cX6_trimNow 29 = .ok (.isub, 1) := dk_100 (dk_at dksX6_trimNow_1 5 rfl rfl)
theorem dX6_trimNow_30 : decode cX6_trimNow 30 = .ok (.invokestatic 153, 3) := dk_184 0 153 (dk_at dksX6_trimNow_1 6 rfl rfl)
theorem dX6_trimNow_33 : decode cX6_trimNow 33 = .ok (.invokevirtual 87, 3) := dk_182 0 87 (dk_at dksX6_trimNow_1 9 rfl rfl)
theorem dX6_trimNow_36 : decode cX6_trimNow 36 = .ok (.aload_n 0, 1) := dk_42 (dk_at dksX6_trimNow_1 12 rfl rfl)
theorem dX6_trimNow_37 : decode cX6_trimNow 37 = .ok (.getfield 7, 3) := dk_180 0 7 (dk_at dksX6_trimNow_1 13 rfl rfl)
theorem dX6_trimNow_40 : decode cX6_trimNow 40 = .ok (.bipush 7, 2) := dk_16 7 (dk_at dksX6_trimNow_1 16 rfl rfl)
theorem dX6_trimNow_42 : decode cX6_trimNow 42 = .ok (.dup2, 1) := dk_92 (dk_at dksX6_trimNow_1 18 rfl rfl)
theorem dX6_trimNow_43 : decode cX6_trimNow 43 = .ok (.iaload, 1) := dk_46 (dk_at dksX6_trimNow_1 19 rfl rfl)
theorem dX6_trimNow_44 : decode cX6_trimNow 44 = .ok (.iconst 1, 1) := dk_4 (dk_at dksX6_trimNow_1 20 rfl rfl)
theorem dX6_trimNow_45 : decode cX6_trimNow 45 = .ok (.isub, 1) := dk_100 (dk_at dksX6_trimNow_1 21 rfl rfl)
theorem dX6_trimNow_46 : decode cX6_trimNow 46 = .ok (.iastore, 1) := dk_79 (dk_at dksX6_trimNow_1 22 rfl rfl)
theorem dX6_trimNow_47 : decode cX6_trimNow 47 = .ok (.aload_n 0, 1) := dk_42 (dk_at dksX6_trimNow_1 23 rfl rfl)
theorem dX6_trimNow_48 : decode cX6_trimNow 48 = .ok (.aload_n 0, 1) := dk_42 (dk_at dksX6_trimNow_2 0 rfl rfl)
theorem dX6_trimNow_49 : decode cX6_trimNow 49 = .ok (.iload_n 1, 1) := dk_27 (dk_at dksX6_trimNow_2 1 rfl rfl)
theorem dX6_trimNow_50 : decode cX6_trimNow 50 = .ok (.iconst 2, 1) := dk_5 (dk_at dksX6_trimNow_2 2 rfl rfl)
theorem dX6_trimNow_51 : decode cX6_trimNow 51 = .ok (.invokevirtual 69, 3) := dk_182 0 69 (dk_at dksX6_trimNow_2 3 rfl rfl)
theorem dX6_trimNow_54 : decode cX6_trimNow 54 = .ok (.putfield 200, 3) := dk_181 0 200 (dk_at dksX6_trimNow_2 6 rfl rfl)
theorem dX6_trimNow_57 : decode cX6_trimNow 57 = .ok (.iconst 1, 1) := dk_4 (dk_at dksX6_trimNow_2 9 rfl rfl)
theorem dX6_trimNow_58 : decode cX6_trimNow 58 = .ok (.ireturn, 1) := dk_172 (dk_at dksX6_trimNow_2 10 rfl rfl)
abbrev cX6_whyNotTrim : ByteArray := prog_14_method_53_code
def yX6_whyNotTrim : MethodName := ⟨RX6, "whyNotTrim", "(I)I"⟩
def dkwX6_whyNotTrim_1 : List UInt8 := [167, 0, 4, 3, 172]
abbrev dktX6_whyNotTrim_1 : List UInt8 := dkwX6_whyNotTrim_1 ++ []
def dkwX6_whyNotTrim_0 : List UInt8 := [42, 27, 182, 0, 191, 61, 28, 153, 0, 5, 28, 172, 42, 27, 182, 0, 158, 153, 0, 8, 16, 8]
abbrev dktX6_whyNotTrim_0 : List UInt8 := dkwX6_whyNotTrim_0 ++ dktX6_whyNotTrim_1
theorem dksX6_whyNotTrim_0 : cX6_whyNotTrim.data.toList.drop 0 = dktX6_whyNotTrim_0 := by decide +kernel
theorem dksX6_whyNotTrim_1 : cX6_whyNotTrim.data.toList.drop 22 = dktX6_whyNotTrim_1 := dk_seg dksX6_whyNotTrim_0 22 rfl rfl
theorem dX6_whyNotTrim_0 : decode cX6_whyNotTrim 0 = .ok (.aload_n 0, 1) := dk_42 (dk_at dksX6_whyNotTrim_0 0 rfl rfl)
theorem dX6_whyNotTrim_1 : decode cX6_whyNotTrim 1 = .ok (.iload_n 1, 1) := dk_27 (dk_at dksX6_whyNotTrim_0 1 rfl rfl)
theorem dX6_whyNotTrim_2 : decode cX6_whyNotTrim 2 = .ok (.invokevirtual 191, 3) := dk_182 0 191 (dk_at dksX6_whyNotTrim_0 2 rfl rfl)
theorem dX6_whyNotTrim_5 : decode cX6_whyNotTrim 5 = .ok (.istore_n 2, 1) := dk_61 (dk_at dksX6_whyNotTrim_0 5 rfl rfl)
theorem dX6_whyNotTrim_6 : decode cX6_whyNotTrim 6 = .ok (.iload_n 2, 1) := dk_28 (dk_at dksX6_whyNotTrim_0 6 rfl rfl)
theorem dX6_whyNotTrim_7 : decode cX6_whyNotTrim 7 = .ok (.ifCond .eq 5, 3) := dk_153 0 5 (dk_at dksX6_whyNotTrim_0 7 rfl rfl)
theorem dX6_whyNotTrim_10 : decode cX6_whyNotTrim 10 = .ok (.iload_n 2, 1) := dk_28 (dk_at dksX6_whyNotTrim_0 10 rfl rfl)
theorem dX6_whyNotTrim_11 : decode cX6_whyNotTrim 11 = .ok (.ireturn, 1) := dk_172 (dk_at dksX6_whyNotTrim_0 11 rfl rfl)
theorem dX6_whyNotTrim_12 : decode cX6_whyNotTrim 12 = .ok (.aload_n 0, 1) := dk_42 (dk_at dksX6_whyNotTrim_0 12 rfl rfl)
theorem dX6_whyNotTrim_13 : decode cX6_whyNotTrim 13 = .ok (.iload_n 1, 1) := dk_27 (dk_at dksX6_whyNotTrim_0 13 rfl rfl)
theorem dX6_whyNotTrim_14 : decode cX6_whyNotTrim 14 = .ok (.invokevirtual 158, 3) := dk_182 0 158 (dk_at dksX6_whyNotTrim_0 14 rfl rfl)
theorem dX6_whyNotTrim_17 : decode cX6_whyNotTrim 17 = .ok (.ifCond .eq 8, 3) := dk_153 0 8 (dk_at dksX6_whyNotTrim_0 17 rfl rfl)
theorem dX6_whyNotTrim_20 : decode cX6_whyNotTrim 20 = .ok (.bipush 8, 2) := dk_16 8 (dk_at dksX6_whyNotTrim_0 20 rfl rfl)
theorem dX6_whyNotTrim_22 : decode cX6_whyNotTrim 22 = .ok (.goto 4, 3) := dk_167 0 4 (dk_at dksX6_whyNotTrim_1 0 rfl rfl)
theorem dX6_whyNotTrim_25 : decode cX6_whyNotTrim 25 = .ok (.iconst 0, 1) := dk_3 (dk_at dksX6_whyNotTrim_1 3 rfl rfl)
theorem dX6_whyNotTrim_26 : decode cX6_whyNotTrim 26 = .ok (.ireturn, 1) := dk_172 (dk_at dksX6_whyNotTrim_1 4 rfl rfl)
abbrev cX6_nestNow : ByteArray := prog_14_method_60_code
def yX6_nestNow : MethodName := ⟨RX6, "nestNow", "(II)Z"⟩
def dkwX6_nestNow_1 : List UInt8 := [182, 0, 87, 42, 42, 182, 0, 209, 181, 0, 200, 4, 172]
abbrev dktX6_nestNow_1 : List UInt8 := dkwX6_nestNow_1 ++ []
def dkwX6_nestNow_0 : List UInt8 := [42, 27, 182, 0, 73, 153, 0, 11, 42, 27, 182, 0, 212, 154, 0, 5, 3, 172, 42, 27, 7, 28]
abbrev dktX6_nestNow_0 : List UInt8 := dkwX6_nestNow_0 ++ dktX6_nestNow_1
theorem dksX6_nestNow_0 : cX6_nestNow.data.toList.drop 0 = dktX6_nestNow_0 := by decide +kernel
theorem dksX6_nestNow_1 : cX6_nestNow.data.toList.drop 22 = dktX6_nestNow_1 := dk_seg dksX6_nestNow_0 22 rfl rfl
theorem dX6_nestNow_0 : decode cX6_nestNow 0 = .ok (.aload_n 0, 1) := dk_42 (dk_at dksX6_nestNow_0 0 rfl rfl)
theorem dX6_nestNow_1 : decode cX6_nestNow 1 = .ok (.iload_n 1, 1) := dk_27 (dk_at dksX6_nestNow_0 1 rfl rfl)
theorem dX6_nestNow_2 : decode cX6_nestNow 2 = .ok (.invokevirtual 73, 3) := dk_182 0 73 (dk_at dksX6_nestNow_0 2 rfl rfl)
theorem dX6_nestNow_5 : decode cX6_nestNow 5 = .ok (.ifCond .eq 11, 3) := dk_153 0 11 (dk_at dksX6_nestNow_0 5 rfl rfl)
theorem dX6_nestNow_8 : decode cX6_nestNow 8 = .ok (.aload_n 0, 1) := dk_42 (dk_at dksX6_nestNow_0 8 rfl rfl)
theorem dX6_nestNow_9 : decode cX6_nestNow 9 = .ok (.iload_n 1, 1) := dk_27 (dk_at dksX6_nestNow_0 9 rfl rfl)
theorem dX6_nestNow_10 : decode cX6_nestNow 10 = .ok (.invokevirtual 212, 3) := dk_182 0 212 (dk_at dksX6_nestNow_0 10 rfl rfl)
theorem dX6_nestNow_13 : decode cX6_nestNow 13 = .ok (.ifCond .ne 5, 3) := dk_154 0 5 (dk_at dksX6_nestNow_0 13 rfl rfl)
theorem dX6_nestNow_16 : decode cX6_nestNow 16 = .ok (.iconst 0, 1) := dk_3 (dk_at dksX6_nestNow_0 16 rfl rfl)
theorem dX6_nestNow_17 : decode cX6_nestNow 17 = .ok (.ireturn, 1) := dk_172 (dk_at dksX6_nestNow_0 17 rfl rfl)
theorem dX6_nestNow_18 : decode cX6_nestNow 18 = .ok (.aload_n 0, 1) := dk_42 (dk_at dksX6_nestNow_0 18 rfl rfl)
theorem dX6_nestNow_19 : decode cX6_nestNow 19 = .ok (.iload_n 1, 1) := dk_27 (dk_at dksX6_nestNow_0 19 rfl rfl)
theorem dX6_nestNow_20 : decode cX6_nestNow 20 = .ok (.iconst 4, 1) := dk_7 (dk_at dksX6_nestNow_0 20 rfl rfl)
theorem dX6_nestNow_21 : decode cX6_nestNow 21 = .ok (.iload_n 2, 1) := dk_28 (dk_at dksX6_nestNow_0 21 rfl rfl)
theorem dX6_nestNow_22 : decode cX6_nestNow 22 = .ok (.invokevirtual 87, 3) := dk_182 0 87 (dk_at dksX6_nestNow_1 0 rfl rfl)
theorem dX6_nestNow_25 : decode cX6_nestNow 25 = .ok (.aload_n 0, 1) := dk_42 (dk_at dksX6_nestNow_1 3 rfl rfl)
theorem dX6_nestNow_26 : decode cX6_nestNow 26 = .ok (.aload_n 0, 1) := dk_42 (dk_at dksX6_nestNow_1 4 rfl rfl)
theorem dX6_nestNow_27 : decode cX6_nestNow 27 = .ok (.invokevirtual 209, 3) := dk_182 0 209 (dk_at dksX6_nestNow_1 5 rfl rfl)
theorem dX6_nestNow_30 : decode cX6_nestNow 30 = .ok (.putfield 200, 3) := dk_181 0 200 (dk_at dksX6_nestNow_1 8 rfl rfl)
theorem dX6_nestNow_33 : decode cX6_nestNow 33 = .ok (.iconst 1, 1) := dk_4 (dk_at dksX6_nestNow_1 11 rfl rfl)
theorem dX6_nestNow_34 : decode cX6_nestNow 34 = .ok (.ireturn, 1) := dk_172 (dk_at dksX6_nestNow_1 12 rfl rfl)
abbrev cX6_canNest : ByteArray := prog_14_method_59_code
def yX6_canNest : MethodName := ⟨RX6, "canNest", "(I)Z"⟩
def dkwX6_canNest_0 : List UInt8 := [42, 182, 0, 209, 16, 6, 162, 0, 15, 42, 27, 182, 0, 77, 154, 0, 7, 4, 167, 0, 4, 3, 172]
abbrev dktX6_canNest_0 : List UInt8 := dkwX6_canNest_0 ++ []
theorem dksX6_canNest_0 : cX6_canNest.data.toList.drop 0 = dktX6_canNest_0 := by decide +kernel
theorem dX6_canNest_0 : decode cX6_canNest 0 = .ok (.aload_n 0, 1) := dk_42 (dk_at dksX6_canNest_0 0 rfl rfl)
theorem dX6_canNest_1 : decode cX6_canNest 1 = .ok (.invokevirtual 209, 3) := dk_182 0 209 (dk_at dksX6_canNest_0 1 rfl rfl)
theorem dX6_canNest_4 : decode cX6_canNest 4 = .ok (.bipush 6, 2) := dk_16 6 (dk_at dksX6_canNest_0 4 rfl rfl)
theorem dX6_canNest_6 : decode cX6_canNest 6 = .ok (.if_icmp .ge 15, 3) := dk_162 0 15 (dk_at dksX6_canNest_0 6 rfl rfl)
theorem dX6_canNest_9 : decode cX6_canNest 9 = .ok (.aload_n 0, 1) := dk_42 (dk_at dksX6_canNest_0 9 rfl rfl)
theorem dX6_canNest_10 : decode cX6_canNest 10 = .ok (.iload_n 1, 1) := dk_27 (dk_at dksX6_canNest_0 10 rfl rfl)
theorem dX6_canNest_11 : decode cX6_canNest 11 = .ok (.invokevirtual 77, 3) := dk_182 0 77 (dk_at dksX6_canNest_0 11 rfl rfl)
theorem dX6_canNest_14 : decode cX6_canNest 14 = .ok (.ifCond .ne 7, 3) := dk_154 0 7 (dk_at dksX6_canNest_0 14 rfl rfl)
theorem dX6_canNest_17 : decode cX6_canNest 17 = .ok (.iconst 1, 1) := dk_4 (dk_at dksX6_canNest_0 17 rfl rfl)
theorem dX6_canNest_18 : decode cX6_canNest 18 = .ok (.goto 4, 3) := dk_167 0 4 (dk_at dksX6_canNest_0 18 rfl rfl)
theorem dX6_canNest_21 : decode cX6_canNest 21 = .ok (.iconst 0, 1) := dk_3 (dk_at dksX6_canNest_0 21 rfl rfl)
theorem dX6_canNest_22 : decode cX6_canNest 22 = .ok (.ireturn, 1) := dk_172 (dk_at dksX6_canNest_0 22 rfl rfl)
abbrev cX6_cancelNow : ByteArray := prog_14_method_62_code
def yX6_cancelNow : MethodName := ⟨RX6, "cancelNow", "(II)Z"⟩
def dkwX6_cancelNow_2 : List UInt8 := [16, 20, 27, 96, 92, 46, 4, 96, 79, 4, 172]
abbrev dktX6_cancelNow_2 : List UInt8 := dkwX6_cancelNow_2 ++ []
def dkwX6_cancelNow_1 : List UInt8 := [42, 180, 0, 7, 27, 28, 184, 0, 114, 46, 181, 0, 200, 42, 27, 28, 182, 0, 120, 42, 180, 0, 7]
abbrev dktX6_cancelNow_1 : List UInt8 := dkwX6_cancelNow_1 ++ dktX6_cancelNow_2
def dkwX6_cancelNow_0 : List UInt8 := [28, 133, 9, 42, 180, 0, 7, 16, 12, 27, 96, 46, 4, 100, 133, 184, 0, 65, 154, 0, 5, 3, 172, 42]
abbrev dktX6_cancelNow_0 : List UInt8 := dkwX6_cancelNow_0 ++ dktX6_cancelNow_1
theorem dksX6_cancelNow_0 : cX6_cancelNow.data.toList.drop 0 = dktX6_cancelNow_0 := by decide +kernel
theorem dksX6_cancelNow_1 : cX6_cancelNow.data.toList.drop 24 = dktX6_cancelNow_1 := dk_seg dksX6_cancelNow_0 24 rfl rfl
theorem dksX6_cancelNow_2 : cX6_cancelNow.data.toList.drop 47 = dktX6_cancelNow_2 := dk_seg dksX6_cancelNow_1 23 rfl rfl
theorem dX6_cancelNow_0 : decode cX6_cancelNow 0 = .ok (.iload_n 2, 1) := dk_28 (dk_at dksX6_cancelNow_0 0 rfl rfl)
theorem dX6_cancelNow_1 : decode cX6_cancelNow 1 = .ok (.i2l, 1) := dk_133 (dk_at dksX6_cancelNow_0 1 rfl rfl)
theorem dX6_cancelNow_2 : decode cX6_cancelNow 2 = .ok (.lconst 0, 1) := dk_9 (dk_at dksX6_cancelNow_0 2 rfl rfl)
theorem dX6_cancelNow_3 : decode cX6_cancelNow 3 = .ok (.aload_n 0, 1) := dk_42 (dk_at dksX6_cancelNow_0 3 rfl rfl)
theorem dX6_cancelNow_4 : decode cX6_cancelNow 4 = .ok (.getfield 7, 3) := dk_180 0 7 (dk_at dksX6_cancelNow_0 4 rfl rfl)
theorem dX6_cancelNow_7 : decode cX6_cancelNow 7 = .ok (.bipush 12, 2) := dk_16 12 (dk_at dksX6_cancelNow_0 7 rfl rfl)
theorem dX6_cancelNow_9 : decode cX6_cancelNow 9 = .ok (.iload_n 1, 1) := dk_27 (dk_at dksX6_cancelNow_0 9 rfl rfl)
theorem dX6_cancelNow_10 : decode cX6_cancelNow 10 = .ok (.iadd, 1) := dk_96 (dk_at dksX6_cancelNow_0 10 rfl rfl)
theorem dX6_cancelNow_11 : decode cX6_cancelNow 11 = .ok (.iaload, 1) := dk_46 (dk_at dksX6_cancelNow_0 11 rfl rfl)
theorem dX6_cancelNow_12 : decode cX6_cancelNow 12 = .ok (.iconst 1, 1) := dk_4 (dk_at dksX6_cancelNow_0 12 rfl rfl)
theorem dX6_cancelNow_13 : decode cX6_cancelNow 13 = .ok (.isub, 1) := dk_100 (dk_at dksX6_cancelNow_0 13 rfl rfl)
theorem dX6_cancelNow_14 : decode cX6_cancelNow 14 = .ok (.i2l, 1) := dk_133 (dk_at dksX6_cancelNow_0 14 rfl rfl)
theorem dX6_cancelNow_15 : decode cX6_cancelNow 15 = .ok (.invokestatic 65, 3) := dk_184 0 65 (dk_at dksX6_cancelNow_0 15 rfl rfl)
theorem dX6_cancelNow_18 : decode cX6_cancelNow 18 = .ok (.ifCond .ne 5, 3) := dk_154 0 5 (dk_at dksX6_cancelNow_0 18 rfl rfl)
theorem dX6_cancelNow_21 : decode cX6_cancelNow 21 = .ok (.iconst 0, 1) := dk_3 (dk_at dksX6_cancelNow_0 21 rfl rfl)
theorem dX6_cancelNow_22 : decode cX6_cancelNow 22 = .ok (.ireturn, 1) := dk_172 (dk_at dksX6_cancelNow_0 22 rfl rfl)
theorem dX6_cancelNow_23 : decode cX6_cancelNow 23 = .ok (.aload_n 0, 1) := dk_42 (dk_at dksX6_cancelNow_0 23 rfl rfl)
theorem dX6_cancelNow_24 : decode cX6_cancelNow 24 = .ok (.aload_n 0, 1) := dk_42 (dk_at dksX6_cancelNow_1 0 rfl rfl)
theorem dX6_cancelNow_25 : decode cX6_cancelNow 25 = .ok (.getfield 7, 3) := dk_180 0 7 (dk_at dksX6_cancelNow_1 1 rfl rfl)
theorem dX6_cancelNow_28 : decode cX6_cancelNow 28 = .ok (.iload_n 1, 1) := dk_27 (dk_at dksX6_cancelNow_1 4 rfl rfl)
theorem dX6_cancelNow_29 : decode cX6_cancelNow 29 = .ok (.iload_n 2, 1) := dk_28 (dk_at dksX6_cancelNow_1 5 rfl rfl)
theorem dX6_cancelNow_30 : decode cX6_cancelNow 30 = .ok (.invokestatic 114, 3) := dk_184 0 114 (dk_at dksX6_cancelNow_1 6 rfl rfl)
theorem dX6_cancelNow_33 : decode cX6_cancelNow 33 = .ok (.iaload, 1) := dk_46 (dk_at dksX6_cancelNow_1 9 rfl rfl)
theorem dX6_cancelNow_34 : decode cX6_cancelNow 34 = .ok (.putfield 200, 3) := dk_181 0 200 (dk_at dksX6_cancelNow_1 10 rfl rfl)
theorem dX6_cancelNow_37 : decode cX6_cancelNow 37 = .ok (.aload_n 0, 1) := dk_42 (dk_at dksX6_cancelNow_1 13 rfl rfl)
theorem dX6_cancelNow_38 : decode cX6_cancelNow 38 = .ok (.iload_n 1, 1) := dk_27 (dk_at dksX6_cancelNow_1 14 rfl rfl)
theorem dX6_cancelNow_39 : decode cX6_cancelNow 39 = .ok (.iload_n 2, 1) := dk_28 (dk_at dksX6_cancelNow_1 15 rfl rfl)
theorem dX6_cancelNow_40 : decode cX6_cancelNow 40 = .ok (.invokevirtual 120, 3) := dk_182 0 120 (dk_at dksX6_cancelNow_1 16 rfl rfl)
theorem dX6_cancelNow_43 : decode cX6_cancelNow 43 = .ok (.aload_n 0, 1) := dk_42 (dk_at dksX6_cancelNow_1 19 rfl rfl)
theorem dX6_cancelNow_44 : decode cX6_cancelNow 44 = .ok (.getfield 7, 3) := dk_180 0 7 (dk_at dksX6_cancelNow_1 20 rfl rfl)
theorem dX6_cancelNow_47 : decode cX6_cancelNow 47 = .ok (.bipush 20, 2) := dk_16 20 (dk_at dksX6_cancelNow_2 0 rfl rfl)
theorem dX6_cancelNow_49 : decode cX6_cancelNow 49 = .ok (.iload_n 1, 1) := dk_27 (dk_at dksX6_cancelNow_2 2 rfl rfl)
theorem dX6_cancelNow_50 : decode cX6_cancelNow 50 = .ok (.iadd, 1) := dk_96 (dk_at dksX6_cancelNow_2 3 rfl rfl)
theorem dX6_cancelNow_51 : decode cX6_cancelNow 51 = .ok (.dup2, 1) := dk_92 (dk_at dksX6_cancelNow_2 4 rfl rfl)
theorem dX6_cancelNow_52 : decode cX6_cancelNow 52 = .ok (.iaload, 1) := dk_46 (dk_at dksX6_cancelNow_2 5 rfl rfl)
theorem dX6_cancelNow_53 : decode cX6_cancelNow 53 = .ok (.iconst 1, 1) := dk_4 (dk_at dksX6_cancelNow_2 6 rfl rfl)
theorem dX6_cancelNow_54 : decode cX6_cancelNow 54 = .ok (.iadd, 1) := dk_96 (dk_at dksX6_cancelNow_2 7 rfl rfl)
theorem dX6_cancelNow_55 : decode cX6_cancelNow 55 = .ok (.iastore, 1) := dk_79 (dk_at dksX6_cancelNow_2 8 rfl rfl)
theorem dX6_cancelNow_56 : decode cX6_cancelNow 56 = .ok (.iconst 1, 1) := dk_4 (dk_at dksX6_cancelNow_2 9 rfl rfl)
theorem dX6_cancelNow_57 : decode cX6_cancelNow 57 = .ok (.ireturn, 1) := dk_172 (dk_at dksX6_cancelNow_2 10 rfl rfl)
abbrev cX6_waitsNoMore : ByteArray := prog_14_method_35_code
def yX6_waitsNoMore : MethodName := ⟨RX6, "waitsNoMore", "(II)V"⟩
def dkwX6_waitsNoMore_2 : List UInt8 := [180, 0, 7, 21, 4, 16, 13, 96, 46, 79, 132, 4, 1, 167, 255, 230, 177]
abbrev dktX6_waitsNoMore_2 : List UInt8 := dkwX6_waitsNoMore_2 ++ []
def dkwX6_waitsNoMore_1 : List UInt8 := [184, 0, 114, 62, 27, 28, 184, 0, 114, 54, 4, 21, 4, 29, 162, 0, 26, 42, 180, 0, 7, 21, 4, 42]
abbrev dktX6_waitsNoMore_1 : List UInt8 := dkwX6_waitsNoMore_1 ++ dktX6_waitsNoMore_2
def dkwX6_waitsNoMore_0 : List UInt8 := [42, 180, 0, 7, 16, 12, 27, 96, 92, 46, 4, 100, 79, 27, 42, 180, 0, 7, 16, 12, 27, 96, 46]
abbrev dktX6_waitsNoMore_0 : List UInt8 := dkwX6_waitsNoMore_0 ++ dktX6_waitsNoMore_1
theorem dksX6_waitsNoMore_0 : cX6_waitsNoMore.data.toList.drop 0 = dktX6_waitsNoMore_0 := by decide +kernel
theorem dksX6_waitsNoMore_1 : cX6_waitsNoMore.data.toList.drop 23 = dktX6_waitsNoMore_1 := dk_seg dksX6_waitsNoMore_0 23 rfl rfl
theorem dksX6_waitsNoMore_2 : cX6_waitsNoMore.data.toList.drop 47 = dktX6_waitsNoMore_2 := dk_seg dksX6_waitsNoMore_1 24 rfl rfl
theorem dX6_waitsNoMore_0 : decode cX6_waitsNoMore 0 = .ok (.aload_n 0, 1) := dk_42 (dk_at dksX6_waitsNoMore_0 0 rfl rfl)
theorem dX6_waitsNoMore_1 : decode cX6_waitsNoMore 1 = .ok (.getfield 7, 3) := dk_180 0 7 (dk_at dksX6_waitsNoMore_0 1 rfl rfl)
theorem dX6_waitsNoMore_4 : decode cX6_waitsNoMore 4 = .ok (.bipush 12, 2) := dk_16 12 (dk_at dksX6_waitsNoMore_0 4 rfl rfl)
theorem dX6_waitsNoMore_6 : decode cX6_waitsNoMore 6 = .ok (.iload_n 1, 1) := dk_27 (dk_at dksX6_waitsNoMore_0 6 rfl rfl)
theorem dX6_waitsNoMore_7 : decode cX6_waitsNoMore 7 = .ok (.iadd, 1) := dk_96 (dk_at dksX6_waitsNoMore_0 7 rfl rfl)
theorem dX6_waitsNoMore_8 : decode cX6_waitsNoMore 8 = .ok (.dup2, 1) := dk_92 (dk_at dksX6_waitsNoMore_0 8 rfl rfl)
theorem dX6_waitsNoMore_9 : decode cX6_waitsNoMore 9 = .ok (.iaload, 1) := dk_46 (dk_at dksX6_waitsNoMore_0 9 rfl rfl)
theorem dX6_waitsNoMore_10 : decode cX6_waitsNoMore 10 = .ok (.iconst 1, 1) := dk_4 (dk_at dksX6_waitsNoMore_0 10 rfl rfl)
theorem dX6_waitsNoMore_11 : decode cX6_waitsNoMore 11 = .ok (.isub, 1) := dk_100 (dk_at dksX6_waitsNoMore_0 11 rfl rfl)
theorem dX6_waitsNoMore_12 : decode cX6_waitsNoMore 12 = .ok (.iastore, 1) := dk_79 (dk_at dksX6_waitsNoMore_0 12 rfl rfl)
theorem dX6_waitsNoMore_13 : decode cX6_waitsNoMore 13 = .ok (.iload_n 1, 1) := dk_27 (dk_at dksX6_waitsNoMore_0 13 rfl rfl)
theorem dX6_waitsNoMore_14 : decode cX6_waitsNoMore 14 = .ok (.aload_n 0, 1) := dk_42 (dk_at dksX6_waitsNoMore_0 14 rfl rfl)
theorem dX6_waitsNoMore_15 : decode cX6_waitsNoMore 15 = .ok (.getfield 7, 3) := dk_180 0 7 (dk_at dksX6_waitsNoMore_0 15 rfl rfl)
theorem dX6_waitsNoMore_18 : decode cX6_waitsNoMore 18 = .ok (.bipush 12, 2) := dk_16 12 (dk_at dksX6_waitsNoMore_0 18 rfl rfl)
theorem dX6_waitsNoMore_20 : decode cX6_waitsNoMore 20 = .ok (.iload_n 1, 1) := dk_27 (dk_at dksX6_waitsNoMore_0 20 rfl rfl)
theorem dX6_waitsNoMore_21 : decode cX6_waitsNoMore 21 = .ok (.iadd, 1) := dk_96 (dk_at dksX6_waitsNoMore_0 21 rfl rfl)
theorem dX6_waitsNoMore_22 : decode cX6_waitsNoMore 22 = .ok (.iaload, 1) := dk_46 (dk_at dksX6_waitsNoMore_0 22 rfl rfl)
theorem dX6_waitsNoMore_23 : decode cX6_waitsNoMore 23 = .ok (.invokestatic 114, 3) := dk_184 0 114 (dk_at dksX6_waitsNoMore_1 0 rfl rfl)
theorem dX6_waitsNoMore_26 : decode cX6_waitsNoMore 26 = .ok (.istore_n 3, 1) := dk_62 (dk_at dksX6_waitsNoMore_1 3 rfl rfl)
theorem dX6_waitsNoMore_27 : decode cX6_waitsNoMore 27 = .ok (.iload_n 1, 1) := dk_27 (dk_at dksX6_waitsNoMore_1 4 rfl rfl)
theorem dX6_waitsNoMore_28 : decode cX6_waitsNoMore 28 = .ok (.iload_n 2, 1) := dk_28 (dk_at dksX6_waitsNoMore_1 5 rfl rfl)
theorem dX6_waitsNoMore_29 : decode cX6_waitsNoMore 29 = .ok (.invokestatic 114, 3) := dk_184 0 114 (dk_at dksX6_waitsNoMore_1 6 rfl rfl)
theorem dX6_waitsNoMore_32 : decode cX6_waitsNoMore 32 = .ok (.istore 4, 2) := dk_54 4 (dk_at dksX6_waitsNoMore_1 9 rfl rfl)
theorem dX6_waitsNoMore_34 : decode cX6_waitsNoMore 34 = .ok (.iload 4, 2) := dk_21 4 (dk_at dksX6_waitsNoMore_1 11 rfl rfl)
theorem dX6_waitsNoMore_36 : decode cX6_waitsNoMore 36 = .ok (.iload_n 3, 1) := dk_29 (dk_at dksX6_waitsNoMore_1 13 rfl rfl)
theorem dX6_waitsNoMore_37 : decode cX6_waitsNoMore 37 = .ok (.if_icmp .ge 26, 3) := dk_162 0 26 (dk_at dksX6_waitsNoMore_1 14 rfl rfl)
theorem dX6_waitsNoMore_40 : decode cX6_waitsNoMore 40 = .ok (.aload_n 0, 1) := dk_42 (dk_at dksX6_waitsNoMore_1 17 rfl rfl)
theorem dX6_waitsNoMore_41 : decode cX6_waitsNoMore 41 = .ok (.getfield 7, 3) := dk_180 0 7 (dk_at dksX6_waitsNoMore_1 18 rfl rfl)
theorem dX6_waitsNoMore_44 : decode cX6_waitsNoMore 44 = .ok (.iload 4, 2) := dk_21 4 (dk_at dksX6_waitsNoMore_1 21 rfl rfl)
theorem dX6_waitsNoMore_46 : decode cX6_waitsNoMore 46 = .ok (.aload_n 0, 1) := dk_42 (dk_at dksX6_waitsNoMore_1 23 rfl rfl)
theorem dX6_waitsNoMore_47 : decode cX6_waitsNoMore 47 = .ok (.getfield 7, 3) := dk_180 0 7 (dk_at dksX6_waitsNoMore_2 0 rfl rfl)
theorem dX6_waitsNoMore_50 : decode cX6_waitsNoMore 50 = .ok (.iload 4, 2) := dk_21 4 (dk_at dksX6_waitsNoMore_2 3 rfl rfl)
theorem dX6_waitsNoMore_52 : decode cX6_waitsNoMore 52 = .ok (.bipush 13, 2) := dk_16 13 (dk_at dksX6_waitsNoMore_2 5 rfl rfl)
theorem dX6_waitsNoMore_54 : decode cX6_waitsNoMore 54 = .ok (.iadd, 1) := dk_96 (dk_at dksX6_waitsNoMore_2 7 rfl rfl)
theorem dX6_waitsNoMore_55 : decode cX6_waitsNoMore 55 = .ok (.iaload, 1) := dk_46 (dk_at dksX6_waitsNoMore_2 8 rfl rfl)
theorem dX6_waitsNoMore_56 : decode cX6_waitsNoMore 56 = .ok (.iastore, 1) := dk_79 (dk_at dksX6_waitsNoMore_2 9 rfl rfl)
theorem dX6_waitsNoMore_57 : decode cX6_waitsNoMore 57 = .ok (.iinc 4 1, 3) := dk_132 4 1 (dk_at dksX6_waitsNoMore_2 10 rfl rfl)
theorem dX6_waitsNoMore_60 : decode cX6_waitsNoMore 60 = .ok (.goto (-26), 3) := dk_167 255 230 (dk_at dksX6_waitsNoMore_2 13 rfl rfl)
theorem dX6_waitsNoMore_63 : decode cX6_waitsNoMore 63 = .ok (.return_, 1) := dk_177 (dk_at dksX6_waitsNoMore_2 16 rfl rfl)
abbrev cX6_workNow : ByteArray := prog_14_method_63_code
def yX6_workNow : MethodName := ⟨RX6, "workNow", "(I)Z"⟩
def dkwX6_workNow_0 : List UInt8 := [42, 42, 180, 0, 7, 4, 46, 181, 0, 200, 42, 180, 0, 7, 4, 27, 79, 4, 172]
abbrev dktX6_workNow_0 : List UInt8 := dkwX6_workNow_0 ++ []
theorem dksX6_workNow_0 : cX6_workNow.data.toList.drop 0 = dktX6_workNow_0 := by decide +kernel
theorem dX6_workNow_0 : decode cX6_workNow 0 = .ok (.aload_n 0, 1) := dk_42 (dk_at dksX6_workNow_0 0 rfl rfl)
theorem dX6_workNow_1 : decode cX6_workNow 1 = .ok (.aload_n 0, 1) := dk_42 (dk_at dksX6_workNow_0 1 rfl rfl)
theorem dX6_workNow_2 : decode cX6_workNow 2 = .ok (.getfield 7, 3) := dk_180 0 7 (dk_at dksX6_workNow_0 2 rfl rfl)
theorem dX6_workNow_5 : decode cX6_workNow 5 = .ok (.iconst 1, 1) := dk_4 (dk_at dksX6_workNow_0 5 rfl rfl)
theorem dX6_workNow_6 : decode cX6_workNow 6 = .ok (.iaload, 1) := dk_46 (dk_at dksX6_workNow_0 6 rfl rfl)
theorem dX6_workNow_7 : decode cX6_workNow 7 = .ok (.putfield 200, 3) := dk_181 0 200 (dk_at dksX6_workNow_0 7 rfl rfl)
theorem dX6_workNow_10 : decode cX6_workNow 10 = .ok (.aload_n 0, 1) := dk_42 (dk_at dksX6_workNow_0 10 rfl rfl)
theorem dX6_workNow_11 : decode cX6_workNow 11 = .ok (.getfield 7, 3) := dk_180 0 7 (dk_at dksX6_workNow_0 11 rfl rfl)
theorem dX6_workNow_14 : decode cX6_workNow 14 = .ok (.iconst 1, 1) := dk_4 (dk_at dksX6_workNow_0 14 rfl rfl)
theorem dX6_workNow_15 : decode cX6_workNow 15 = .ok (.iload_n 1, 1) := dk_27 (dk_at dksX6_workNow_0 15 rfl rfl)
theorem dX6_workNow_16 : decode cX6_workNow 16 = .ok (.iastore, 1) := dk_79 (dk_at dksX6_workNow_0 16 rfl rfl)
theorem dX6_workNow_17 : decode cX6_workNow 17 = .ok (.iconst 1, 1) := dk_4 (dk_at dksX6_workNow_0 17 rfl rfl)
theorem dX6_workNow_18 : decode cX6_workNow 18 = .ok (.ireturn, 1) := dk_172 (dk_at dksX6_workNow_0 18 rfl rfl)
abbrev cX6_endNow : ByteArray := prog_14_method_65_code
def yX6_endNow : MethodName := ⟨RX6, "endNow", "(I)Z"⟩
def dkwX6_endNow_0 : List UInt8 := [42, 182, 0, 215, 61, 42, 27, 182, 0, 218, 42, 42, 182, 0, 215, 28, 100, 181, 0, 200, 4, 172]
abbrev dktX6_endNow_0 : List UInt8 := dkwX6_endNow_0 ++ []
theorem dksX6_endNow_0 : cX6_endNow.data.toList.drop 0 = dktX6_endNow_0 := by decide +kernel
theorem dX6_endNow_0 : decode cX6_endNow 0 = .ok (.aload_n 0, 1) := dk_42 (dk_at dksX6_endNow_0 0 rfl rfl)
theorem dX6_endNow_1 : decode cX6_endNow 1 = .ok (.invokevirtual 215, 3) := dk_182 0 215 (dk_at dksX6_endNow_0 1 rfl rfl)
theorem dX6_endNow_4 : decode cX6_endNow 4 = .ok (.istore_n 2, 1) := dk_61 (dk_at dksX6_endNow_0 4 rfl rfl)
theorem dX6_endNow_5 : decode cX6_endNow 5 = .ok (.aload_n 0, 1) := dk_42 (dk_at dksX6_endNow_0 5 rfl rfl)
theorem dX6_endNow_6 : decode cX6_endNow 6 = .ok (.iload_n 1, 1) := dk_27 (dk_at dksX6_endNow_0 6 rfl rfl)
theorem dX6_endNow_7 : decode cX6_endNow 7 = .ok (.invokevirtual 218, 3) := dk_182 0 218 (dk_at dksX6_endNow_0 7 rfl rfl)
theorem dX6_endNow_10 : decode cX6_endNow 10 = .ok (.aload_n 0, 1) := dk_42 (dk_at dksX6_endNow_0 10 rfl rfl)
theorem dX6_endNow_11 : decode cX6_endNow 11 = .ok (.aload_n 0, 1) := dk_42 (dk_at dksX6_endNow_0 11 rfl rfl)
theorem dX6_endNow_12 : decode cX6_endNow 12 = .ok (.invokevirtual 215, 3) := dk_182 0 215 (dk_at dksX6_endNow_0 12 rfl rfl)
theorem dX6_endNow_15 : decode cX6_endNow 15 = .ok (.iload_n 2, 1) := dk_28 (dk_at dksX6_endNow_0 15 rfl rfl)
theorem dX6_endNow_16 : decode cX6_endNow 16 = .ok (.isub, 1) := dk_100 (dk_at dksX6_endNow_0 16 rfl rfl)
theorem dX6_endNow_17 : decode cX6_endNow 17 = .ok (.putfield 200, 3) := dk_181 0 200 (dk_at dksX6_endNow_0 17 rfl rfl)
theorem dX6_endNow_20 : decode cX6_endNow 20 = .ok (.iconst 1, 1) := dk_4 (dk_at dksX6_endNow_0 20 rfl rfl)
theorem dX6_endNow_21 : decode cX6_endNow 21 = .ok (.ireturn, 1) := dk_172 (dk_at dksX6_endNow_0 21 rfl rfl)
abbrev cX6_delivered : ByteArray := prog_14_method_64_code
def yX6_delivered : MethodName := ⟨RX6, "delivered", "()I"⟩
def dkwX6_delivered_0 : List UInt8 := [42, 180, 0, 7, 16, 16, 46, 42, 180, 0, 7, 16, 17, 46, 96, 172]
abbrev dktX6_delivered_0 : List UInt8 := dkwX6_delivered_0 ++ []
theorem dksX6_delivered_0 : cX6_delivered.data.toList.drop 0 = dktX6_delivered_0 := by decide +kernel
theorem dX6_delivered_0 : decode cX6_delivered 0 = .ok (.aload_n 0, 1) := dk_42 (dk_at dksX6_delivered_0 0 rfl rfl)
theorem dX6_delivered_1 : decode cX6_delivered 1 = .ok (.getfield 7, 3) := dk_180 0 7 (dk_at dksX6_delivered_0 1 rfl rfl)
theorem dX6_delivered_4 : decode cX6_delivered 4 = .ok (.bipush 16, 2) := dk_16 16 (dk_at dksX6_delivered_0 4 rfl rfl)
theorem dX6_delivered_6 : decode cX6_delivered 6 = .ok (.iaload, 1) := dk_46 (dk_at dksX6_delivered_0 6 rfl rfl)
theorem dX6_delivered_7 : decode cX6_delivered 7 = .ok (.aload_n 0, 1) := dk_42 (dk_at dksX6_delivered_0 7 rfl rfl)
theorem dX6_delivered_8 : decode cX6_delivered 8 = .ok (.getfield 7, 3) := dk_180 0 7 (dk_at dksX6_delivered_0 8 rfl rfl)
theorem dX6_delivered_11 : decode cX6_delivered 11 = .ok (.bipush 17, 2) := dk_16 17 (dk_at dksX6_delivered_0 11 rfl rfl)
theorem dX6_delivered_13 : decode cX6_delivered 13 = .ok (.iaload, 1) := dk_46 (dk_at dksX6_delivered_0 13 rfl rfl)
theorem dX6_delivered_14 : decode cX6_delivered 14 = .ok (.iadd, 1) := dk_96 (dk_at dksX6_delivered_0 14 rfl rfl)
theorem dX6_delivered_15 : decode cX6_delivered 15 = .ok (.ireturn, 1) := dk_172 (dk_at dksX6_delivered_0 15 rfl rfl)
abbrev cX6_goBy : ByteArray := prog_14_method_49_code
def yX6_goBy : MethodName := ⟨RX6, "goBy", "(I)V"⟩
def dkwX6_goBy_0 : List UInt8 := [3, 61, 28, 27, 162, 0, 13, 42, 182, 0, 188, 132, 2, 1, 167, 255, 244, 177]
abbrev dktX6_goBy_0 : List UInt8 := dkwX6_goBy_0 ++ []
theorem dksX6_goBy_0 : cX6_goBy.data.toList.drop 0 = dktX6_goBy_0 := by decide +kernel
theorem dX6_goBy_0 : decode cX6_goBy 0 = .ok (.iconst 0, 1) := dk_3 (dk_at dksX6_goBy_0 0 rfl rfl)
theorem dX6_goBy_1 : decode cX6_goBy 1 = .ok (.istore_n 2, 1) := dk_61 (dk_at dksX6_goBy_0 1 rfl rfl)
theorem dX6_goBy_2 : decode cX6_goBy 2 = .ok (.iload_n 2, 1) := dk_28 (dk_at dksX6_goBy_0 2 rfl rfl)
theorem dX6_goBy_3 : decode cX6_goBy 3 = .ok (.iload_n 1, 1) := dk_27 (dk_at dksX6_goBy_0 3 rfl rfl)
theorem dX6_goBy_4 : decode cX6_goBy 4 = .ok (.if_icmp .ge 13, 3) := dk_162 0 13 (dk_at dksX6_goBy_0 4 rfl rfl)
theorem dX6_goBy_7 : decode cX6_goBy 7 = .ok (.aload_n 0, 1) := dk_42 (dk_at dksX6_goBy_0 7 rfl rfl)
theorem dX6_goBy_8 : decode cX6_goBy 8 = .ok (.invokevirtual 188, 3) := dk_182 0 188 (dk_at dksX6_goBy_0 8 rfl rfl)
theorem dX6_goBy_11 : decode cX6_goBy 11 = .ok (.iinc 2 1, 3) := dk_132 2 1 (dk_at dksX6_goBy_0 11 rfl rfl)
theorem dX6_goBy_14 : decode cX6_goBy 14 = .ok (.goto (-12), 3) := dk_167 255 244 (dk_at dksX6_goBy_0 14 rfl rfl)
theorem dX6_goBy_17 : decode cX6_goBy 17 = .ok (.return_, 1) := dk_177 (dk_at dksX6_goBy_0 17 rfl rfl)
abbrev cX6_dayOnce : ByteArray := prog_14_method_48_code
def yX6_dayOnce : MethodName := ⟨RX6, "dayOnce", "()V"⟩
def dkwX6_dayOnce_2 : List UInt8 := [180, 0, 7, 16, 6, 46, 42, 180, 0, 7, 7, 46, 112, 154, 0, 7, 42, 182, 0, 185, 177]
abbrev dktX6_dayOnce_2 : List UInt8 := dkwX6_dayOnce_2 ++ []
def dkwX6_dayOnce_1 : List UInt8 := [180, 0, 7, 16, 6, 92, 46, 4, 96, 79, 42, 180, 0, 7, 16, 7, 42, 180, 0, 7, 4, 46, 79, 42]
abbrev dktX6_dayOnce_1 : List UInt8 := dkwX6_dayOnce_1 ++ dktX6_dayOnce_2
def dkwX6_dayOnce_0 : List UInt8 := [42, 182, 0, 173, 60, 42, 4, 27, 100, 182, 0, 176, 42, 27, 182, 0, 179, 42, 182, 0, 182, 42]
abbrev dktX6_dayOnce_0 : List UInt8 := dkwX6_dayOnce_0 ++ dktX6_dayOnce_1
theorem dksX6_dayOnce_0 : cX6_dayOnce.data.toList.drop 0 = dktX6_dayOnce_0 := by decide +kernel
theorem dksX6_dayOnce_1 : cX6_dayOnce.data.toList.drop 22 = dktX6_dayOnce_1 := dk_seg dksX6_dayOnce_0 22 rfl rfl
theorem dksX6_dayOnce_2 : cX6_dayOnce.data.toList.drop 46 = dktX6_dayOnce_2 := dk_seg dksX6_dayOnce_1 24 rfl rfl
theorem dX6_dayOnce_0 : decode cX6_dayOnce 0 = .ok (.aload_n 0, 1) := dk_42 (dk_at dksX6_dayOnce_0 0 rfl rfl)
theorem dX6_dayOnce_1 : decode cX6_dayOnce 1 = .ok (.invokevirtual 173, 3) := dk_182 0 173 (dk_at dksX6_dayOnce_0 1 rfl rfl)
theorem dX6_dayOnce_4 : decode cX6_dayOnce 4 = .ok (.istore_n 1, 1) := dk_60 (dk_at dksX6_dayOnce_0 4 rfl rfl)
theorem dX6_dayOnce_5 : decode cX6_dayOnce 5 = .ok (.aload_n 0, 1) := dk_42 (dk_at dksX6_dayOnce_0 5 rfl rfl)
theorem dX6_dayOnce_6 : decode cX6_dayOnce 6 = .ok (.iconst 1, 1) := dk_4 (dk_at dksX6_dayOnce_0 6 rfl rfl)
theorem dX6_dayOnce_7 : decode cX6_dayOnce 7 = .ok (.iload_n 1, 1) := dk_27 (dk_at dksX6_dayOnce_0 7 rfl rfl)
theorem dX6_dayOnce_8 : decode cX6_dayOnce 8 = .ok (.isub, 1) := dk_100 (dk_at dksX6_dayOnce_0 8 rfl rfl)
theorem dX6_dayOnce_9 : decode cX6_dayOnce 9 = .ok (.invokevirtual 176, 3) := dk_182 0 176 (dk_at dksX6_dayOnce_0 9 rfl rfl)
theorem dX6_dayOnce_12 : decode cX6_dayOnce 12 = .ok (.aload_n 0, 1) := dk_42 (dk_at dksX6_dayOnce_0 12 rfl rfl)
theorem dX6_dayOnce_13 : decode cX6_dayOnce 13 = .ok (.iload_n 1, 1) := dk_27 (dk_at dksX6_dayOnce_0 13 rfl rfl)
theorem dX6_dayOnce_14 : decode cX6_dayOnce 14 = .ok (.invokevirtual 179, 3) := dk_182 0 179 (dk_at dksX6_dayOnce_0 14 rfl rfl)
theorem dX6_dayOnce_17 : decode cX6_dayOnce 17 = .ok (.aload_n 0, 1) := dk_42 (dk_at dksX6_dayOnce_0 17 rfl rfl)
theorem dX6_dayOnce_18 : decode cX6_dayOnce 18 = .ok (.invokevirtual 182, 3) := dk_182 0 182 (dk_at dksX6_dayOnce_0 18 rfl rfl)
theorem dX6_dayOnce_21 : decode cX6_dayOnce 21 = .ok (.aload_n 0, 1) := dk_42 (dk_at dksX6_dayOnce_0 21 rfl rfl)
theorem dX6_dayOnce_22 : decode cX6_dayOnce 22 = .ok (.getfield 7, 3) := dk_180 0 7 (dk_at dksX6_dayOnce_1 0 rfl rfl)
theorem dX6_dayOnce_25 : decode cX6_dayOnce 25 = .ok (.bipush 6, 2) := dk_16 6 (dk_at dksX6_dayOnce_1 3 rfl rfl)
theorem dX6_dayOnce_27 : decode cX6_dayOnce 27 = .ok (.dup2, 1) := dk_92 (dk_at dksX6_dayOnce_1 5 rfl rfl)
theorem dX6_dayOnce_28 : decode cX6_dayOnce 28 = .ok (.iaload, 1) := dk_46 (dk_at dksX6_dayOnce_1 6 rfl rfl)
theorem dX6_dayOnce_29 : decode cX6_dayOnce 29 = .ok (.iconst 1, 1) := dk_4 (dk_at dksX6_dayOnce_1 7 rfl rfl)
theorem dX6_dayOnce_30 : decode cX6_dayOnce 30 = .ok (.iadd, 1) := dk_96 (dk_at dksX6_dayOnce_1 8 rfl rfl)
theorem dX6_dayOnce_31 : decode cX6_dayOnce 31 = .ok (.iastore, 1) := dk_79 (dk_at dksX6_dayOnce_1 9 rfl rfl)
theorem dX6_dayOnce_32 : decode cX6_dayOnce 32 = .ok (.aload_n 0, 1) := dk_42 (dk_at dksX6_dayOnce_1 10 rfl rfl)
theorem dX6_dayOnce_33 : decode cX6_dayOnce 33 = .ok (.getfield 7, 3) := dk_180 0 7 (dk_at dksX6_dayOnce_1 11 rfl rfl)
theorem dX6_dayOnce_36 : decode cX6_dayOnce 36 = .ok (.bipush 7, 2) := dk_16 7 (dk_at dksX6_dayOnce_1 14 rfl rfl)
theorem dX6_dayOnce_38 : decode cX6_dayOnce 38 = .ok (.aload_n 0, 1) := dk_42 (dk_at dksX6_dayOnce_1 16 rfl rfl)
theorem dX6_dayOnce_39 : decode cX6_dayOnce 39 = .ok (.getfield 7, 3) := dk_180 0 7 (dk_at dksX6_dayOnce_1 17 rfl rfl)
theorem dX6_dayOnce_42 : decode cX6_dayOnce 42 = .ok (.iconst 1, 1) := dk_4 (dk_at dksX6_dayOnce_1 20 rfl rfl)
theorem dX6_dayOnce_43 : decode cX6_dayOnce 43 = .ok (.iaload, 1) := dk_46 (dk_at dksX6_dayOnce_1 21 rfl rfl)
theorem dX6_dayOnce_44 : decode cX6_dayOnce 44 = .ok (.iastore, 1) := dk_79 (dk_at dksX6_dayOnce_1 22 rfl rfl)
theorem dX6_dayOnce_45 : decode cX6_dayOnce 45 = .ok (.aload_n 0, 1) := dk_42 (dk_at dksX6_dayOnce_1 23 rfl rfl)
theorem dX6_dayOnce_46 : decode cX6_dayOnce 46 = .ok (.getfield 7, 3) := dk_180 0 7 (dk_at dksX6_dayOnce_2 0 rfl rfl)
theorem dX6_dayOnce_49 : decode cX6_dayOnce 49 = .ok (.bipush 6, 2) := dk_16 6 (dk_at dksX6_dayOnce_2 3 rfl rfl)
theorem dX6_dayOnce_51 : decode cX6_dayOnce 51 = .ok (.iaload, 1) := dk_46 (dk_at dksX6_dayOnce_2 5 rfl rfl)
theorem dX6_dayOnce_52 : decode cX6_dayOnce 52 = .ok (.aload_n 0, 1) := dk_42 (dk_at dksX6_dayOnce_2 6 rfl rfl)
theorem dX6_dayOnce_53 : decode cX6_dayOnce 53 = .ok (.getfield 7, 3) := dk_180 0 7 (dk_at dksX6_dayOnce_2 7 rfl rfl)
theorem dX6_dayOnce_56 : decode cX6_dayOnce 56 = .ok (.iconst 4, 1) := dk_7 (dk_at dksX6_dayOnce_2 10 rfl rfl)
theorem dX6_dayOnce_57 : decode cX6_dayOnce 57 = .ok (.iaload, 1) := dk_46 (dk_at dksX6_dayOnce_2 11 rfl rfl)
theorem dX6_dayOnce_58 : decode cX6_dayOnce 58 = .ok (.irem, 1) := dk_112 (dk_at dksX6_dayOnce_2 12 rfl rfl)
theorem dX6_dayOnce_59 : decode cX6_dayOnce 59 = .ok (.ifCond .ne 7, 3) := dk_154 0 7 (dk_at dksX6_dayOnce_2 13 rfl rfl)
theorem dX6_dayOnce_62 : decode cX6_dayOnce 62 = .ok (.aload_n 0, 1) := dk_42 (dk_at dksX6_dayOnce_2 16 rfl rfl)
theorem dX6_dayOnce_63 : decode cX6_dayOnce 63 = .ok (.invokevirtual 185, 3) := dk_182 0 185 (dk_at dksX6_dayOnce_2 17 rfl rfl)
theorem dX6_dayOnce_66 : decode cX6_dayOnce 66 = .ok (.return_, 1) := dk_177 (dk_at dksX6_dayOnce_2 20 rfl rfl)
abbrev cX6_delivers : ByteArray := prog_14_method_40_code
def yX6_delivers : MethodName := ⟨RX6, "delivers", "(I)V"⟩
def dkwX6_delivers_3 : List UInt8 := [177]
abbrev dktX6_delivers_3 : List UInt8 := dkwX6_delivers_3 ++ []
def dkwX6_delivers_2 : List UInt8 := [182, 0, 128, 42, 28, 182, 0, 131, 42, 180, 0, 7, 16, 16, 27, 96, 92, 46, 4, 96, 79, 167, 255, 192]
abbrev dktX6_delivers_2 : List UInt8 := dkwX6_delivers_2 ++ dktX6_delivers_3
def dkwX6_delivers_1 : List UInt8 := [16, 14, 96, 46, 27, 159, 0, 9, 132, 2, 1, 167, 255, 224, 42, 29, 42, 180, 0, 7, 29, 46]
abbrev dktX6_delivers_1 : List UInt8 := dkwX6_delivers_1 ++ dktX6_delivers_2
def dkwX6_delivers_0 : List UInt8 := [3, 61, 28, 42, 180, 0, 7, 16, 11, 46, 162, 0, 59, 28, 184, 0, 95, 62, 42, 180, 0, 7, 29]
abbrev dktX6_delivers_0 : List UInt8 := dkwX6_delivers_0 ++ dktX6_delivers_1
theorem dksX6_delivers_0 : cX6_delivers.data.toList.drop 0 = dktX6_delivers_0 := by decide +kernel
theorem dksX6_delivers_1 : cX6_delivers.data.toList.drop 23 = dktX6_delivers_1 := dk_seg dksX6_delivers_0 23 rfl rfl
theorem dksX6_delivers_2 : cX6_delivers.data.toList.drop 45 = dktX6_delivers_2 := dk_seg dksX6_delivers_1 22 rfl rfl
theorem dksX6_delivers_3 : cX6_delivers.data.toList.drop 69 = dktX6_delivers_3 := dk_seg dksX6_delivers_2 24 rfl rfl
theorem dX6_delivers_0 : decode cX6_delivers 0 = .ok (.iconst 0, 1) := dk_3 (dk_at dksX6_delivers_0 0 rfl rfl)
theorem dX6_delivers_1 : decode cX6_delivers 1 = .ok (.istore_n 2, 1) := dk_61 (dk_at dksX6_delivers_0 1 rfl rfl)
theorem dX6_delivers_2 : decode cX6_delivers 2 = .ok (.iload_n 2, 1) := dk_28 (dk_at dksX6_delivers_0 2 rfl rfl)
theorem dX6_delivers_3 : decode cX6_delivers 3 = .ok (.aload_n 0, 1) := dk_42 (dk_at dksX6_delivers_0 3 rfl rfl)
theorem dX6_delivers_4 : decode cX6_delivers 4 = .ok (.getfield 7, 3) := dk_180 0 7 (dk_at dksX6_delivers_0 4 rfl rfl)
theorem dX6_delivers_7 : decode cX6_delivers 7 = .ok (.bipush 11, 2) := dk_16 11 (dk_at dksX6_delivers_0 7 rfl rfl)
theorem dX6_delivers_9 : decode cX6_delivers 9 = .ok (.iaload, 1) := dk_46 (dk_at dksX6_delivers_0 9 rfl rfl)
theorem dX6_delivers_10 : decode cX6_delivers 10 = .ok (.if_icmp .ge 59, 3) := dk_162 0 59 (dk_at dksX6_delivers_0 10 rfl rfl)
theorem dX6_delivers_13 : decode cX6_delivers 13 = .ok (.iload_n 2, 1) := dk_28 (dk_at dksX6_delivers_0 13 rfl rfl)
theorem dX6_delivers_14 : decode cX6_delivers 14 = .ok (.invokestatic 95, 3) := dk_184 0 95 (dk_at dksX6_delivers_0 14 rfl rfl)
theorem dX6_delivers_17 : decode cX6_delivers 17 = .ok (.istore_n 3, 1) := dk_62 (dk_at dksX6_delivers_0 17 rfl rfl)
theorem dX6_delivers_18 : decode cX6_delivers 18 = .ok (.aload_n 0, 1) := dk_42 (dk_at dksX6_delivers_0 18 rfl rfl)
theorem dX6_delivers_19 : decode cX6_delivers 19 = .ok (.getfield 7, 3) := dk_180 0 7 (dk_at dksX6_delivers_0 19 rfl rfl)
theorem dX6_delivers_22 : decode cX6_delivers 22 = .ok (.iload_n 3, 1) := dk_29 (dk_at dksX6_delivers_0 22 rfl rfl)
theorem dX6_delivers_23 : decode cX6_delivers 23 = .ok (.bipush 14, 2) := dk_16 14 (dk_at dksX6_delivers_1 0 rfl rfl)
theorem dX6_delivers_25 : decode cX6_delivers 25 = .ok (.iadd, 1) := dk_96 (dk_at dksX6_delivers_1 2 rfl rfl)
theorem dX6_delivers_26 : decode cX6_delivers 26 = .ok (.iaload, 1) := dk_46 (dk_at dksX6_delivers_1 3 rfl rfl)
theorem dX6_delivers_27 : decode cX6_delivers 27 = .ok (.iload_n 1, 1) := dk_27 (dk_at dksX6_delivers_1 4 rfl rfl)
theorem dX6_delivers_28 : decode cX6_delivers 28 = .ok (.if_icmp .eq 9, 3) := dk_159 0 9 (dk_at dksX6_delivers_1 5 rfl rfl)
theorem dX6_delivers_31 : decode cX6_delivers 31 = .ok (.iinc 2 1, 3) := dk_132 2 1 (dk_at dksX6_delivers_1 8 rfl rfl)
theorem dX6_delivers_34 : decode cX6_delivers 34 = .ok (.goto (-32), 3) := dk_167 255 224 (dk_at dksX6_delivers_1 11 rfl rfl)
theorem dX6_delivers_37 : decode cX6_delivers 37 = .ok (.aload_n 0, 1) := dk_42 (dk_at dksX6_delivers_1 14 rfl rfl)
theorem dX6_delivers_38 : decode cX6_delivers 38 = .ok (.iload_n 3, 1) := dk_29 (dk_at dksX6_delivers_1 15 rfl rfl)
theorem dX6_delivers_39 : decode cX6_delivers 39 = .ok (.aload_n 0, 1) := dk_42 (dk_at dksX6_delivers_1 16 rfl rfl)
theorem dX6_delivers_40 : decode cX6_delivers 40 = .ok (.getfield 7, 3) := dk_180 0 7 (dk_at dksX6_delivers_1 17 rfl rfl)
theorem dX6_delivers_43 : decode cX6_delivers 43 = .ok (.iload_n 3, 1) := dk_29 (dk_at dksX6_delivers_1 20 rfl rfl)
theorem dX6_delivers_44 : decode cX6_delivers 44 = .ok (.iaload, 1) := dk_46 (dk_at dksX6_delivers_1 21 rfl rfl)
theorem dX6_delivers_45 : decode cX6_delivers 45 = .ok (.invokevirtual 128, 3) := dk_182 0 128 (dk_at dksX6_delivers_2 0 rfl rfl)
theorem dX6_delivers_48 : decode cX6_delivers 48 = .ok (.aload_n 0, 1) := dk_42 (dk_at dksX6_delivers_2 3 rfl rfl)
theorem dX6_delivers_49 : decode cX6_delivers 49 = .ok (.iload_n 2, 1) := dk_28 (dk_at dksX6_delivers_2 4 rfl rfl)
theorem dX6_delivers_50 : decode cX6_delivers 50 = .ok (.invokevirtual 131, 3) := dk_182 0 131 (dk_at dksX6_delivers_2 5 rfl rfl)
theorem dX6_delivers_53 : decode cX6_delivers 53 = .ok (.aload_n 0, 1) := dk_42 (dk_at dksX6_delivers_2 8 rfl rfl)
theorem dX6_delivers_54 : decode cX6_delivers 54 = .ok (.getfield 7, 3) := dk_180 0 7 (dk_at dksX6_delivers_2 9 rfl rfl)
theorem dX6_delivers_57 : decode cX6_delivers 57 = .ok (.bipush 16, 2) := dk_16 16 (dk_at dksX6_delivers_2 12 rfl rfl)
theorem dX6_delivers_59 : decode cX6_delivers 59 = .ok (.iload_n 1, 1) := dk_27 (dk_at dksX6_delivers_2 14 rfl rfl)
theorem dX6_delivers_60 : decode cX6_delivers 60 = .ok (.iadd, 1) := dk_96 (dk_at dksX6_delivers_2 15 rfl rfl)
theorem dX6_delivers_61 : decode cX6_delivers 61 = .ok (.dup2, 1) := dk_92 (dk_at dksX6_delivers_2 16 rfl rfl)
theorem dX6_delivers_62 : decode cX6_delivers 62 = .ok (.iaload, 1) := dk_46 (dk_at dksX6_delivers_2 17 rfl rfl)
theorem dX6_delivers_63 : decode cX6_delivers 63 = .ok (.iconst 1, 1) := dk_4 (dk_at dksX6_delivers_2 18 rfl rfl)
theorem dX6_delivers_64 : decode cX6_delivers 64 = .ok (.iadd, 1) := dk_96 (dk_at dksX6_delivers_2 19 rfl rfl)
theorem dX6_delivers_65 : decode cX6_delivers 65 = .ok (.iastore, 1) := dk_79 (dk_at dksX6_delivers_2 20 rfl rfl)
theorem dX6_delivers_66 : decode cX6_delivers 66 = .ok (.goto (-64), 3) := dk_167 255 192 (dk_at dksX6_delivers_2 21 rfl rfl)
theorem dX6_delivers_69 : decode cX6_delivers 69 = .ok (.return_, 1) := dk_177 (dk_at dksX6_delivers_3 0 rfl rfl)
abbrev cX6_clearsTwigs : ByteArray := prog_14_method_39_code
def yX6_clearsTwigs : MethodName := ⟨RX6, "clearsTwigs", "(II)V"⟩
def dkwX6_clearsTwigs_2 : List UInt8 := [132, 3, 1, 167, 255, 209, 177]
abbrev dktX6_clearsTwigs_2 : List UInt8 := dkwX6_clearsTwigs_2 ++ []
def dkwX6_clearsTwigs_1 : List UInt8 := [182, 0, 84, 153, 0, 20, 42, 21, 4, 182, 0, 124, 42, 180, 0, 7, 16, 10, 92, 46, 4, 96, 79]
abbrev dktX6_clearsTwigs_1 : List UInt8 := dkwX6_clearsTwigs_1 ++ dktX6_clearsTwigs_2
def dkwX6_clearsTwigs_0 : List UInt8 := [3, 62, 29, 28, 162, 0, 48, 42, 180, 0, 7, 27, 16, 13, 96, 46, 29, 96, 54, 4, 42, 21, 4]
abbrev dktX6_clearsTwigs_0 : List UInt8 := dkwX6_clearsTwigs_0 ++ dktX6_clearsTwigs_1
theorem dksX6_clearsTwigs_0 : cX6_clearsTwigs.data.toList.drop 0 = dktX6_clearsTwigs_0 := by decide +kernel
theorem dksX6_clearsTwigs_1 : cX6_clearsTwigs.data.toList.drop 23 = dktX6_clearsTwigs_1 := dk_seg dksX6_clearsTwigs_0 23 rfl rfl
theorem dksX6_clearsTwigs_2 : cX6_clearsTwigs.data.toList.drop 46 = dktX6_clearsTwigs_2 := dk_seg dksX6_clearsTwigs_1 23 rfl rfl
theorem dX6_clearsTwigs_0 : decode cX6_clearsTwigs 0 = .ok (.iconst 0, 1) := dk_3 (dk_at dksX6_clearsTwigs_0 0 rfl rfl)
theorem dX6_clearsTwigs_1 : decode cX6_clearsTwigs 1 = .ok (.istore_n 3, 1) := dk_62 (dk_at dksX6_clearsTwigs_0 1 rfl rfl)
theorem dX6_clearsTwigs_2 : decode cX6_clearsTwigs 2 = .ok (.iload_n 3, 1) := dk_29 (dk_at dksX6_clearsTwigs_0 2 rfl rfl)
theorem dX6_clearsTwigs_3 : decode cX6_clearsTwigs 3 = .ok (.iload_n 2, 1) := dk_28 (dk_at dksX6_clearsTwigs_0 3 rfl rfl)
theorem dX6_clearsTwigs_4 : decode cX6_clearsTwigs 4 = .ok (.if_icmp .ge 48, 3) := dk_162 0 48 (dk_at dksX6_clearsTwigs_0 4 rfl rfl)
theorem dX6_clearsTwigs_7 : decode cX6_clearsTwigs 7 = .ok (.aload_n 0, 1) := dk_42 (dk_at dksX6_clearsTwigs_0 7 rfl rfl)
theorem dX6_clearsTwigs_8 : decode cX6_clearsTwigs 8 = .ok (.getfield 7, 3) := dk_180 0 7 (dk_at dksX6_clearsTwigs_0 8 rfl rfl)
theorem dX6_clearsTwigs_11 : decode cX6_clearsTwigs 11 = .ok (.iload_n 1, 1) := dk_27 (dk_at dksX6_clearsTwigs_0 11 rfl rfl)
theorem dX6_clearsTwigs_12 : decode cX6_clearsTwigs 12 = .ok (.bipush 13, 2) := dk_16 13 (dk_at dksX6_clearsTwigs_0 12 rfl rfl)
theorem dX6_clearsTwigs_14 : decode cX6_clearsTwigs 14 = .ok (.iadd, 1) := dk_96 (dk_at dksX6_clearsTwigs_0 14 rfl rfl)
theorem dX6_clearsTwigs_15 : decode cX6_clearsTwigs 15 = .ok (.iaload, 1) := dk_46 (dk_at dksX6_clearsTwigs_0 15 rfl rfl)
theorem dX6_clearsTwigs_16 : decode cX6_clearsTwigs 16 = .ok (.iload_n 3, 1) := dk_29 (dk_at dksX6_clearsTwigs_0 16 rfl rfl)
theorem dX6_clearsTwigs_17 : decode cX6_clearsTwigs 17 = .ok (.iadd, 1) := dk_96 (dk_at dksX6_clearsTwigs_0 17 rfl rfl)
theorem dX6_clearsTwigs_18 : decode cX6_clearsTwigs 18 = .ok (.istore 4, 2) := dk_54 4 (dk_at dksX6_clearsTwigs_0 18 rfl rfl)
theorem dX6_clearsTwigs_20 : decode cX6_clearsTwigs 20 = .ok (.aload_n 0, 1) := dk_42 (dk_at dksX6_clearsTwigs_0 20 rfl rfl)
theorem dX6_clearsTwigs_21 : decode cX6_clearsTwigs 21 = .ok (.iload 4, 2) := dk_21 4 (dk_at dksX6_clearsTwigs_0 21 rfl rfl)
theorem dX6_clearsTwigs_23 : decode cX6_clearsTwigs 23 = .ok (.invokevirtual 84, 3) := dk_182 0 84 (dk_at dksX6_clearsTwigs_1 0 rfl rfl)
theorem dX6_clearsTwigs_26 : decode cX6_clearsTwigs 26 = .ok (.ifCond .eq 20, 3) := dk_153 0 20 (dk_at dksX6_clearsTwigs_1 3 rfl rfl)
theorem dX6_clearsTwigs_29 : decode cX6_clearsTwigs 29 = .ok (.aload_n 0, 1) := dk_42 (dk_at dksX6_clearsTwigs_1 6 rfl rfl)
theorem dX6_clearsTwigs_30 : decode cX6_clearsTwigs 30 = .ok (.iload 4, 2) := dk_21 4 (dk_at dksX6_clearsTwigs_1 7 rfl rfl)
theorem dX6_clearsTwigs_32 : decode cX6_clearsTwigs 32 = .ok (.invokevirtual 124, 3) := dk_182 0 124 (dk_at dksX6_clearsTwigs_1 9 rfl rfl)
theorem dX6_clearsTwigs_35 : decode cX6_clearsTwigs 35 = .ok (.aload_n 0, 1) := dk_42 (dk_at dksX6_clearsTwigs_1 12 rfl rfl)
theorem dX6_clearsTwigs_36 : decode cX6_clearsTwigs 36 = .ok (.getfield 7, 3) := dk_180 0 7 (dk_at dksX6_clearsTwigs_1 13 rfl rfl)
theorem dX6_clearsTwigs_39 : decode cX6_clearsTwigs 39 = .ok (.bipush 10, 2) := dk_16 10 (dk_at dksX6_clearsTwigs_1 16 rfl rfl)
theorem dX6_clearsTwigs_41 : decode cX6_clearsTwigs 41 = .ok (.dup2, 1) := dk_92 (dk_at dksX6_clearsTwigs_1 18 rfl rfl)
theorem dX6_clearsTwigs_42 : decode cX6_clearsTwigs 42 = .ok (.iaload, 1) := dk_46 (dk_at dksX6_clearsTwigs_1 19 rfl rfl)
theorem dX6_clearsTwigs_43 : decode cX6_clearsTwigs 43 = .ok (.iconst 1, 1) := dk_4 (dk_at dksX6_clearsTwigs_1 20 rfl rfl)
theorem dX6_clearsTwigs_44 : decode cX6_clearsTwigs 44 = .ok (.iadd, 1) := dk_96 (dk_at dksX6_clearsTwigs_1 21 rfl rfl)
theorem dX6_clearsTwigs_45 : decode cX6_clearsTwigs 45 = .ok (.iastore, 1) := dk_79 (dk_at dksX6_clearsTwigs_1 22 rfl rfl)
theorem dX6_clearsTwigs_46 : decode cX6_clearsTwigs 46 = .ok (.iinc 3 1, 3) := dk_132 3 1 (dk_at dksX6_clearsTwigs_2 0 rfl rfl)
theorem dX6_clearsTwigs_49 : decode cX6_clearsTwigs 49 = .ok (.goto (-47), 3) := dk_167 255 209 (dk_at dksX6_clearsTwigs_2 3 rfl rfl)
theorem dX6_clearsTwigs_52 : decode cX6_clearsTwigs 52 = .ok (.return_, 1) := dk_177 (dk_at dksX6_clearsTwigs_2 6 rfl rfl)
abbrev cX6_postGoes : ByteArray := prog_14_method_38_code
def yX6_postGoes : MethodName := ⟨RX6, "postGoes", "(I)V"⟩
def dkwX6_postGoes_2 : List UInt8 := [167, 255, 224, 177]
abbrev dktX6_postGoes_2 : List UInt8 := dkwX6_postGoes_2 ++ []
def dkwX6_postGoes_1 : List UInt8 := [184, 0, 95, 162, 0, 24, 42, 180, 0, 7, 28, 42, 180, 0, 7, 28, 16, 15, 96, 46, 79, 132, 2, 1]
abbrev dktX6_postGoes_1 : List UInt8 := dkwX6_postGoes_1 ++ dktX6_postGoes_2
def dkwX6_postGoes_0 : List UInt8 := [42, 180, 0, 7, 16, 11, 92, 46, 4, 100, 79, 27, 184, 0, 95, 61, 28, 42, 180, 0, 7, 16, 11, 46]
abbrev dktX6_postGoes_0 : List UInt8 := dkwX6_postGoes_0 ++ dktX6_postGoes_1
theorem dksX6_postGoes_0 : cX6_postGoes.data.toList.drop 0 = dktX6_postGoes_0 := by decide +kernel
theorem dksX6_postGoes_1 : cX6_postGoes.data.toList.drop 24 = dktX6_postGoes_1 := dk_seg dksX6_postGoes_0 24 rfl rfl
theorem dksX6_postGoes_2 : cX6_postGoes.data.toList.drop 48 = dktX6_postGoes_2 := dk_seg dksX6_postGoes_1 24 rfl rfl
theorem dX6_postGoes_0 : decode cX6_postGoes 0 = .ok (.aload_n 0, 1) := dk_42 (dk_at dksX6_postGoes_0 0 rfl rfl)
theorem dX6_postGoes_1 : decode cX6_postGoes 1 = .ok (.getfield 7, 3) := dk_180 0 7 (dk_at dksX6_postGoes_0 1 rfl rfl)
theorem dX6_postGoes_4 : decode cX6_postGoes 4 = .ok (.bipush 11, 2) := dk_16 11 (dk_at dksX6_postGoes_0 4 rfl rfl)
theorem dX6_postGoes_6 : decode cX6_postGoes 6 = .ok (.dup2, 1) := dk_92 (dk_at dksX6_postGoes_0 6 rfl rfl)
theorem dX6_postGoes_7 : decode cX6_postGoes 7 = .ok (.iaload, 1) := dk_46 (dk_at dksX6_postGoes_0 7 rfl rfl)
theorem dX6_postGoes_8 : decode cX6_postGoes 8 = .ok (.iconst 1, 1) := dk_4 (dk_at dksX6_postGoes_0 8 rfl rfl)
theorem dX6_postGoes_9 : decode cX6_postGoes 9 = .ok (.isub, 1) := dk_100 (dk_at dksX6_postGoes_0 9 rfl rfl)
theorem dX6_postGoes_10 : decode cX6_postGoes 10 = .ok (.iastore, 1) := dk_79 (dk_at dksX6_postGoes_0 10 rfl rfl)
theorem dX6_postGoes_11 : decode cX6_postGoes 11 = .ok (.iload_n 1, 1) := dk_27 (dk_at dksX6_postGoes_0 11 rfl rfl)
theorem dX6_postGoes_12 : decode cX6_postGoes 12 = .ok (.invokestatic 95, 3) := dk_184 0 95 (dk_at dksX6_postGoes_0 12 rfl rfl)
theorem dX6_postGoes_15 : decode cX6_postGoes 15 = .ok (.istore_n 2, 1) := dk_61 (dk_at dksX6_postGoes_0 15 rfl rfl)
theorem dX6_postGoes_16 : decode cX6_postGoes 16 = .ok (.iload_n 2, 1) := dk_28 (dk_at dksX6_postGoes_0 16 rfl rfl)
theorem dX6_postGoes_17 : decode cX6_postGoes 17 = .ok (.aload_n 0, 1) := dk_42 (dk_at dksX6_postGoes_0 17 rfl rfl)
theorem dX6_postGoes_18 : decode cX6_postGoes 18 = .ok (.getfield 7, 3) := dk_180 0 7 (dk_at dksX6_postGoes_0 18 rfl rfl)
theorem dX6_postGoes_21 : decode cX6_postGoes 21 = .ok (.bipush 11, 2) := dk_16 11 (dk_at dksX6_postGoes_0 21 rfl rfl)
theorem dX6_postGoes_23 : decode cX6_postGoes 23 = .ok (.iaload, 1) := dk_46 (dk_at dksX6_postGoes_0 23 rfl rfl)
theorem dX6_postGoes_24 : decode cX6_postGoes 24 = .ok (.invokestatic 95, 3) := dk_184 0 95 (dk_at dksX6_postGoes_1 0 rfl rfl)
theorem dX6_postGoes_27 : decode cX6_postGoes 27 = .ok (.if_icmp .ge 24, 3) := dk_162 0 24 (dk_at dksX6_postGoes_1 3 rfl rfl)
theorem dX6_postGoes_30 : decode cX6_postGoes 30 = .ok (.aload_n 0, 1) := dk_42 (dk_at dksX6_postGoes_1 6 rfl rfl)
theorem dX6_postGoes_31 : decode cX6_postGoes 31 = .ok (.getfield 7, 3) := dk_180 0 7 (dk_at dksX6_postGoes_1 7 rfl rfl)
theorem dX6_postGoes_34 : decode cX6_postGoes 34 = .ok (.iload_n 2, 1) := dk_28 (dk_at dksX6_postGoes_1 10 rfl rfl)
theorem dX6_postGoes_35 : decode cX6_postGoes 35 = .ok (.aload_n 0, 1) := dk_42 (dk_at dksX6_postGoes_1 11 rfl rfl)
theorem dX6_postGoes_36 : decode cX6_postGoes 36 = .ok (.getfield 7, 3) := dk_180 0 7 (dk_at dksX6_postGoes_1 12 rfl rfl)
theorem dX6_postGoes_39 : decode cX6_postGoes 39 = .ok (.iload_n 2, 1) := dk_28 (dk_at dksX6_postGoes_1 15 rfl rfl)
theorem dX6_postGoes_40 : decode cX6_postGoes 40 = .ok (.bipush 15, 2) := dk_16 15 (dk_at dksX6_postGoes_1 16 rfl rfl)
theorem dX6_postGoes_42 : decode cX6_postGoes 42 = .ok (.iadd, 1) := dk_96 (dk_at dksX6_postGoes_1 18 rfl rfl)
theorem dX6_postGoes_43 : decode cX6_postGoes 43 = .ok (.iaload, 1) := dk_46 (dk_at dksX6_postGoes_1 19 rfl rfl)
theorem dX6_postGoes_44 : decode cX6_postGoes 44 = .ok (.iastore, 1) := dk_79 (dk_at dksX6_postGoes_1 20 rfl rfl)
theorem dX6_postGoes_45 : decode cX6_postGoes 45 = .ok (.iinc 2 1, 3) := dk_132 2 1 (dk_at dksX6_postGoes_1 21 rfl rfl)
theorem dX6_postGoes_48 : decode cX6_postGoes 48 = .ok (.goto (-32), 3) := dk_167 255 224 (dk_at dksX6_postGoes_2 0 rfl rfl)
theorem dX6_postGoes_51 : decode cX6_postGoes 51 = .ok (.return_, 1) := dk_177 (dk_at dksX6_postGoes_2 3 rfl rfl)
abbrev cX6_writesAll : ByteArray := prog_14_method_42_code
def yX6_writesAll : MethodName := ⟨RX6, "writesAll", "(I)V"⟩
def dkwX6_writesAll_1 : List UInt8 := [92, 46, 4, 100, 79, 167, 255, 227, 177]
abbrev dktX6_writesAll_1 : List UInt8 := dkwX6_writesAll_1 ++ []
def dkwX6_writesAll_0 : List UInt8 := [42, 180, 0, 7, 16, 7, 46, 158, 0, 25, 42, 27, 182, 0, 150, 153, 0, 17, 42, 180, 0, 7, 16, 7]
abbrev dktX6_writesAll_0 : List UInt8 := dkwX6_writesAll_0 ++ dktX6_writesAll_1
theorem dksX6_writesAll_0 : cX6_writesAll.data.toList.drop 0 = dktX6_writesAll_0 := by decide +kernel
theorem dksX6_writesAll_1 : cX6_writesAll.data.toList.drop 24 = dktX6_writesAll_1 := dk_seg dksX6_writesAll_0 24 rfl rfl
theorem dX6_writesAll_0 : decode cX6_writesAll 0 = .ok (.aload_n 0, 1) := dk_42 (dk_at dksX6_writesAll_0 0 rfl rfl)
theorem dX6_writesAll_1 : decode cX6_writesAll 1 = .ok (.getfield 7, 3) := dk_180 0 7 (dk_at dksX6_writesAll_0 1 rfl rfl)
theorem dX6_writesAll_4 : decode cX6_writesAll 4 = .ok (.bipush 7, 2) := dk_16 7 (dk_at dksX6_writesAll_0 4 rfl rfl)
theorem dX6_writesAll_6 : decode cX6_writesAll 6 = .ok (.iaload, 1) := dk_46 (dk_at dksX6_writesAll_0 6 rfl rfl)
theorem dX6_writesAll_7 : decode cX6_writesAll 7 = .ok (.ifCond .le 25, 3) := dk_158 0 25 (dk_at dksX6_writesAll_0 7 rfl rfl)
theorem dX6_writesAll_10 : decode cX6_writesAll 10 = .ok (.aload_n 0, 1) := dk_42 (dk_at dksX6_writesAll_0 10 rfl rfl)
theorem dX6_writesAll_11 : decode cX6_writesAll 11 = .ok (.iload_n 1, 1) := dk_27 (dk_at dksX6_writesAll_0 11 rfl rfl)
theorem dX6_writesAll_12 : decode cX6_writesAll 12 = .ok (.invokevirtual 150, 3) := dk_182 0 150 (dk_at dksX6_writesAll_0 12 rfl rfl)
theorem dX6_writesAll_15 : decode cX6_writesAll 15 = .ok (.ifCond .eq 17, 3) := dk_153 0 17 (dk_at dksX6_writesAll_0 15 rfl rfl)
theorem dX6_writesAll_18 : decode cX6_writesAll 18 = .ok (.aload_n 0, 1) := dk_42 (dk_at dksX6_writesAll_0 18 rfl rfl)
theorem dX6_writesAll_19 : decode cX6_writesAll 19 = .ok (.getfield 7, 3) := dk_180 0 7 (dk_at dksX6_writesAll_0 19 rfl rfl)
theorem dX6_writesAll_22 : decode cX6_writesAll 22 = .ok (.bipush 7, 2) := dk_16 7 (dk_at dksX6_writesAll_0 22 rfl rfl)
theorem dX6_writesAll_24 : decode cX6_writesAll 24 = .ok (.dup2, 1) := dk_92 (dk_at dksX6_writesAll_1 0 rfl rfl)
theorem dX6_writesAll_25 : decode cX6_writesAll 25 = .ok (.iaload, 1) := dk_46 (dk_at dksX6_writesAll_1 1 rfl rfl)
theorem dX6_writesAll_26 : decode cX6_writesAll 26 = .ok (.iconst 1, 1) := dk_4 (dk_at dksX6_writesAll_1 2 rfl rfl)
theorem dX6_writesAll_27 : decode cX6_writesAll 27 = .ok (.isub, 1) := dk_100 (dk_at dksX6_writesAll_1 3 rfl rfl)
theorem dX6_writesAll_28 : decode cX6_writesAll 28 = .ok (.iastore, 1) := dk_79 (dk_at dksX6_writesAll_1 4 rfl rfl)
theorem dX6_writesAll_29 : decode cX6_writesAll 29 = .ok (.goto (-29), 3) := dk_167 255 227 (dk_at dksX6_writesAll_1 5 rfl rfl)
theorem dX6_writesAll_32 : decode cX6_writesAll 32 = .ok (.return_, 1) := dk_177 (dk_at dksX6_writesAll_1 8 rfl rfl)
abbrev cX6_writes : ByteArray := prog_14_method_41_code
def yX6_writes : MethodName := ⟨RX6, "writes", "(I)Z"⟩
def dkwX6_writes_4 : List UInt8 := [180, 0, 7, 28, 46, 160, 0, 8, 42, 27, 182, 0, 147, 4, 172]
abbrev dktX6_writes_4 : List UInt8 := dkwX6_writes_4 ++ []
def dkwX6_writes_3 : List UInt8 := [180, 0, 7, 28, 16, 14, 96, 92, 46, 4, 96, 79, 42, 180, 0, 7, 28, 16, 14, 96, 46, 42]
abbrev dktX6_writes_3 : List UInt8 := dkwX6_writes_3 ++ dktX6_writes_4
def dkwX6_writes_2 : List UInt8 := [16, 13, 96, 46, 29, 96, 42, 180, 0, 7, 28, 4, 96, 29, 96, 46, 27, 4, 4, 182, 0, 143, 42]
abbrev dktX6_writes_2 : List UInt8 := dkwX6_writes_2 ++ dktX6_writes_3
def dkwX6_writes_1 : List UInt8 := [3, 172, 42, 27, 29, 182, 0, 140, 42, 180, 0, 7, 28, 16, 14, 96, 46, 62, 42, 42, 180, 0, 7, 28]
abbrev dktX6_writes_1 : List UInt8 := dkwX6_writes_1 ++ dktX6_writes_2
def dkwX6_writes_0 : List UInt8 := [27, 184, 0, 91, 61, 42, 27, 182, 0, 134, 154, 0, 22, 42, 27, 182, 0, 137, 62, 29, 2, 160, 0, 5]
abbrev dktX6_writes_0 : List UInt8 := dkwX6_writes_0 ++ dktX6_writes_1
theorem dksX6_writes_0 : cX6_writes.data.toList.drop 0 = dktX6_writes_0 := by decide +kernel
theorem dksX6_writes_1 : cX6_writes.data.toList.drop 24 = dktX6_writes_1 := dk_seg dksX6_writes_0 24 rfl rfl
theorem dksX6_writes_2 : cX6_writes.data.toList.drop 48 = dktX6_writes_2 := dk_seg dksX6_writes_1 24 rfl rfl
theorem dksX6_writes_3 : cX6_writes.data.toList.drop 71 = dktX6_writes_3 := dk_seg dksX6_writes_2 23 rfl rfl
theorem dksX6_writes_4 : cX6_writes.data.toList.drop 93 = dktX6_writes_4 := dk_seg dksX6_writes_3 22 rfl rfl
theorem dX6_writes_0 : decode cX6_writes 0 = .ok (.iload_n 1, 1) := dk_27 (dk_at dksX6_writes_0 0 rfl rfl)
theorem dX6_writes_1 : decode cX6_writes 1 = .ok (.invokestatic 91, 3) := dk_184 0 91 (dk_at dksX6_writes_0 1 rfl rfl)
theorem dX6_writes_4 : decode cX6_writes 4 = .ok (.istore_n 2, 1) := dk_61 (dk_at dksX6_writes_0 4 rfl rfl)
theorem dX6_writes_5 : decode cX6_writes 5 = .ok (.aload_n 0, 1) := dk_42 (dk_at dksX6_writes_0 5 rfl rfl)
theorem dX6_writes_6 : decode cX6_writes 6 = .ok (.iload_n 1, 1) := dk_27 (dk_at dksX6_writes_0 6 rfl rfl)
theorem dX6_writes_7 : decode cX6_writes 7 = .ok (.invokevirtual 134, 3) := dk_182 0 134 (dk_at dksX6_writes_0 7 rfl rfl)
theorem dX6_writes_10 : decode cX6_writes 10 = .ok (.ifCond .ne 22, 3) := dk_154 0 22 (dk_at dksX6_writes_0 10 rfl rfl)
theorem dX6_writes_13 : decode cX6_writes 13 = .ok (.aload_n 0, 1) := dk_42 (dk_at dksX6_writes_0 13 rfl rfl)
theorem dX6_writes_14 : decode cX6_writes 14 = .ok (.iload_n 1, 1) := dk_27 (dk_at dksX6_writes_0 14 rfl rfl)
theorem dX6_writes_15 : decode cX6_writes 15 = .ok (.invokevirtual 137, 3) := dk_182 0 137 (dk_at dksX6_writes_0 15 rfl rfl)
theorem dX6_writes_18 : decode cX6_writes 18 = .ok (.istore_n 3, 1) := dk_62 (dk_at dksX6_writes_0 18 rfl rfl)
theorem dX6_writes_19 : decode cX6_writes 19 = .ok (.iload_n 3, 1) := dk_29 (dk_at dksX6_writes_0 19 rfl rfl)
theorem dX6_writes_20 : decode cX6_writes 20 = .ok (.iconst (-1), 1) := dk_2 (dk_at dksX6_writes_0 20 rfl rfl)
theorem dX6_writes_21 : decode cX6_writes 21 = .ok (.if_icmp .ne 5, 3) := dk_160 0 5 (dk_at dksX6_writes_0 21 rfl rfl)
theorem dX6_writes_24 : decode cX6_writes 24 = .ok (.iconst 0, 1) := dk_3 (dk_at dksX6_writes_1 0 rfl rfl)
theorem dX6_writes_25 : decode cX6_writes 25 = .ok (.ireturn, 1) := dk_172 (dk_at dksX6_writes_1 1 rfl rfl)
theorem dX6_writes_26 : decode cX6_writes 26 = .ok (.aload_n 0, 1) := dk_42 (dk_at dksX6_writes_1 2 rfl rfl)
theorem dX6_writes_27 : decode cX6_writes 27 = .ok (.iload_n 1, 1) := dk_27 (dk_at dksX6_writes_1 3 rfl rfl)
theorem dX6_writes_28 : decode cX6_writes 28 = .ok (.iload_n 3, 1) := dk_29 (dk_at dksX6_writes_1 4 rfl rfl)
theorem dX6_writes_29 : decode cX6_writes 29 = .ok (.invokevirtual 140, 3) := dk_182 0 140 (dk_at dksX6_writes_1 5 rfl rfl)
theorem dX6_writes_32 : decode cX6_writes 32 = .ok (.aload_n 0, 1) := dk_42 (dk_at dksX6_writes_1 8 rfl rfl)
theorem dX6_writes_33 : decode cX6_writes 33 = .ok (.getfield 7, 3) := dk_180 0 7 (dk_at dksX6_writes_1 9 rfl rfl)
theorem dX6_writes_36 : decode cX6_writes 36 = .ok (.iload_n 2, 1) := dk_28 (dk_at dksX6_writes_1 12 rfl rfl)
theorem dX6_writes_37 : decode cX6_writes 37 = .ok (.bipush 14, 2) := dk_16 14 (dk_at dksX6_writes_1 13 rfl rfl)
theorem dX6_writes_39 : decode cX6_writes 39 = .ok (.iadd, 1) := dk_96 (dk_at dksX6_writes_1 15 rfl rfl)
theorem dX6_writes_40 : decode cX6_writes 40 = .ok (.iaload, 1) := dk_46 (dk_at dksX6_writes_1 16 rfl rfl)
theorem dX6_writes_41 : decode cX6_writes 41 = .ok (.istore_n 3, 1) := dk_62 (dk_at dksX6_writes_1 17 rfl rfl)
theorem dX6_writes_42 : decode cX6_writes 42 = .ok (.aload_n 0, 1) := dk_42 (dk_at dksX6_writes_1 18 rfl rfl)
theorem dX6_writes_43 : decode cX6_writes 43 = .ok (.aload_n 0, 1) := dk_42 (dk_at dksX6_writes_1 19 rfl rfl)
theorem dX6_writes_44 : decode cX6_writes 44 = .ok (.getfield 7, 3) := dk_180 0 7 (dk_at dksX6_writes_1 20 rfl rfl)
theorem dX6_writes_47 : decode cX6_writes 47 = .ok (.iload_n 2, 1) := dk_28 (dk_at dksX6_writes_1 23 rfl rfl)
theorem dX6_writes_48 : decode cX6_writes 48 = .ok (.bipush 13, 2) := dk_16 13 (dk_at dksX6_writes_2 0 rfl rfl)
theorem dX6_writes_50 : decode cX6_writes 50 = .ok (.iadd, 1) := dk_96 (dk_at dksX6_writes_2 2 rfl rfl)
theorem dX6_writes_51 : decode cX6_writes 51 = .ok (.iaload, 1) := dk_46 (dk_at dksX6_writes_2 3 rfl rfl)
theorem dX6_writes_52 : decode cX6_writes 52 = .ok (.iload_n 3, 1) := dk_29 (dk_at dksX6_writes_2 4 rfl rfl)
theorem dX6_writes_53 : decode cX6_writes 53 = .ok (.iadd, 1) := dk_96 (dk_at dksX6_writes_2 5 rfl rfl)
theorem dX6_writes_54 : decode cX6_writes 54 = .ok (.aload_n 0, 1) := dk_42 (dk_at dksX6_writes_2 6 rfl rfl)
theorem dX6_writes_55 : decode cX6_writes 55 = .ok (.getfield 7, 3) := dk_180 0 7 (dk_at dksX6_writes_2 7 rfl rfl)
theorem dX6_writes_58 : decode cX6_writes 58 = .ok (.iload_n 2, 1) := dk_28 (dk_at dksX6_writes_2 10 rfl rfl)
theorem dX6_writes_59 : decode cX6_writes 59 = .ok (.iconst 1, 1) := dk_4 (dk_at dksX6_writes_2 11 rfl rfl)
theorem dX6_writes_60 : decode cX6_writes 60 = .ok (.iadd, 1) := dk_96 (dk_at dksX6_writes_2 12 rfl rfl)
theorem dX6_writes_61 : decode cX6_writes 61 = .ok (.iload_n 3, 1) := dk_29 (dk_at dksX6_writes_2 13 rfl rfl)
theorem dX6_writes_62 : decode cX6_writes 62 = .ok (.iadd, 1) := dk_96 (dk_at dksX6_writes_2 14 rfl rfl)
theorem dX6_writes_63 : decode cX6_writes 63 = .ok (.iaload, 1) := dk_46 (dk_at dksX6_writes_2 15 rfl rfl)
theorem dX6_writes_64 : decode cX6_writes 64 = .ok (.iload_n 1, 1) := dk_27 (dk_at dksX6_writes_2 16 rfl rfl)
theorem dX6_writes_65 : decode cX6_writes 65 = .ok (.iconst 1, 1) := dk_4 (dk_at dksX6_writes_2 17 rfl rfl)
theorem dX6_writes_66 : decode cX6_writes 66 = .ok (.iconst 1, 1) := dk_4 (dk_at dksX6_writes_2 18 rfl rfl)
theorem dX6_writes_67 : decode cX6_writes 67 = .ok (.invokevirtual 143, 3) := dk_182 0 143 (dk_at dksX6_writes_2 19 rfl rfl)
theorem dX6_writes_70 : decode cX6_writes 70 = .ok (.aload_n 0, 1) := dk_42 (dk_at dksX6_writes_2 22 rfl rfl)
theorem dX6_writes_71 : decode cX6_writes 71 = .ok (.getfield 7, 3) := dk_180 0 7 (dk_at dksX6_writes_3 0 rfl rfl)
theorem dX6_writes_74 : decode cX6_writes 74 = .ok (.iload_n 2, 1) := dk_28 (dk_at dksX6_writes_3 3 rfl rfl)
theorem dX6_writes_75 : decode cX6_writes 75 = .ok (.bipush 14, 2) := dk_16 14 (dk_at dksX6_writes_3 4 rfl rfl)
theorem dX6_writes_77 : decode cX6_writes 77 = .ok (.iadd, 1) := dk_96 (dk_at dksX6_writes_3 6 rfl rfl)
theorem dX6_writes_78 : decode cX6_writes 78 = .ok (.dup2, 1) := dk_92 (dk_at dksX6_writes_3 7 rfl rfl)
theorem dX6_writes_79 : decode cX6_writes 79 = .ok (.iaload, 1) := dk_46 (dk_at dksX6_writes_3 8 rfl rfl)
theorem dX6_writes_80 : decode cX6_writes 80 = .ok (.iconst 1, 1) := dk_4 (dk_at dksX6_writes_3 9 rfl rfl)
theorem dX6_writes_81 : decode cX6_writes 81 = .ok (.iadd, 1) := dk_96 (dk_at dksX6_writes_3 10 rfl rfl)
theorem dX6_writes_82 : decode cX6_writes 82 = .ok (.iastore, 1) := dk_79 (dk_at dksX6_writes_3 11 rfl rfl)
theorem dX6_writes_83 : decode cX6_writes 83 = .ok (.aload_n 0, 1) := dk_42 (dk_at dksX6_writes_3 12 rfl rfl)
theorem dX6_writes_84 : decode cX6_writes 84 = .ok (.getfield 7, 3) := dk_180 0 7 (dk_at dksX6_writes_3 13 rfl rfl)
theorem dX6_writes_87 : decode cX6_writes 87 = .ok (.iload_n 2, 1) := dk_28 (dk_at dksX6_writes_3 16 rfl rfl)
theorem dX6_writes_88 : decode cX6_writes 88 = .ok (.bipush 14, 2) := dk_16 14 (dk_at dksX6_writes_3 17 rfl rfl)
theorem dX6_writes_90 : decode cX6_writes 90 = .ok (.iadd, 1) := dk_96 (dk_at dksX6_writes_3 19 rfl rfl)
theorem dX6_writes_91 : decode cX6_writes 91 = .ok (.iaload, 1) := dk_46 (dk_at dksX6_writes_3 20 rfl rfl)
theorem dX6_writes_92 : decode cX6_writes 92 = .ok (.aload_n 0, 1) := dk_42 (dk_at dksX6_writes_3 21 rfl rfl)
theorem dX6_writes_93 : decode cX6_writes 93 = .ok (.getfield 7, 3) := dk_180 0 7 (dk_at dksX6_writes_4 0 rfl rfl)
theorem dX6_writes_96 : decode cX6_writes 96 = .ok (.iload_n 2, 1) := dk_28 (dk_at dksX6_writes_4 3 rfl rfl)
theorem dX6_writes_97 : decode cX6_writes 97 = .ok (.iaload, 1) := dk_46 (dk_at dksX6_writes_4 4 rfl rfl)
theorem dX6_writes_98 : decode cX6_writes 98 = .ok (.if_icmp .ne 8, 3) := dk_160 0 8 (dk_at dksX6_writes_4 5 rfl rfl)
theorem dX6_writes_101 : decode cX6_writes 101 = .ok (.aload_n 0, 1) := dk_42 (dk_at dksX6_writes_4 8 rfl rfl)
theorem dX6_writes_102 : decode cX6_writes 102 = .ok (.iload_n 1, 1) := dk_27 (dk_at dksX6_writes_4 9 rfl rfl)
theorem dX6_writes_103 : decode cX6_writes 103 = .ok (.invokevirtual 147, 3) := dk_182 0 147 (dk_at dksX6_writes_4 10 rfl rfl)
theorem dX6_writes_106 : decode cX6_writes 106 = .ok (.iconst 1, 1) := dk_4 (dk_at dksX6_writes_4 13 rfl rfl)
theorem dX6_writes_107 : decode cX6_writes 107 = .ok (.ireturn, 1) := dk_172 (dk_at dksX6_writes_4 14 rfl rfl)
abbrev cX6_isInProgress : ByteArray := prog_14_method_26_code
def yX6_isInProgress : MethodName := ⟨RX6, "isInProgress", "(I)Z"⟩
def dkwX6_isInProgress_0 : List UInt8 := [42, 180, 0, 7, 27, 184, 0, 91, 46, 158, 0, 7, 4, 167, 0, 4, 3, 172]
abbrev dktX6_isInProgress_0 : List UInt8 := dkwX6_isInProgress_0 ++ []
theorem dksX6_isInProgress_0 : cX6_isInProgress.data.toList.drop 0 = dktX6_isInProgress_0 := by decide +kernel
theorem dX6_isInProgress_0 : decode cX6_isInProgress 0 = .ok (.aload_n 0, 1) := dk_42 (dk_at dksX6_isInProgress_0 0 rfl rfl)
theorem dX6_isInProgress_1 : decode cX6_isInProgress 1 = .ok (.getfield 7, 3) := dk_180 0 7 (dk_at dksX6_isInProgress_0 1 rfl rfl)
theorem dX6_isInProgress_4 : decode cX6_isInProgress 4 = .ok (.iload_n 1, 1) := dk_27 (dk_at dksX6_isInProgress_0 4 rfl rfl)
theorem dX6_isInProgress_5 : decode cX6_isInProgress 5 = .ok (.invokestatic 91, 3) := dk_184 0 91 (dk_at dksX6_isInProgress_0 5 rfl rfl)
theorem dX6_isInProgress_8 : decode cX6_isInProgress 8 = .ok (.iaload, 1) := dk_46 (dk_at dksX6_isInProgress_0 8 rfl rfl)
theorem dX6_isInProgress_9 : decode cX6_isInProgress 9 = .ok (.ifCond .le 7, 3) := dk_158 0 7 (dk_at dksX6_isInProgress_0 9 rfl rfl)
theorem dX6_isInProgress_12 : decode cX6_isInProgress 12 = .ok (.iconst 1, 1) := dk_4 (dk_at dksX6_isInProgress_0 12 rfl rfl)
theorem dX6_isInProgress_13 : decode cX6_isInProgress 13 = .ok (.goto 4, 3) := dk_167 0 4 (dk_at dksX6_isInProgress_0 13 rfl rfl)
theorem dX6_isInProgress_16 : decode cX6_isInProgress 16 = .ok (.iconst 0, 1) := dk_3 (dk_at dksX6_isInProgress_0 16 rfl rfl)
theorem dX6_isInProgress_17 : decode cX6_isInProgress 17 = .ok (.ireturn, 1) := dk_172 (dk_at dksX6_isInProgress_0 17 rfl rfl)
abbrev cX6_startOfNext : ByteArray := prog_14_method_33_code
def yX6_startOfNext : MethodName := ⟨RX6, "startOfNext", "(I)I"⟩
def dkwX6_startOfNext_1 : List UInt8 := [184, 0, 114, 46, 182, 0, 117, 172]
abbrev dktX6_startOfNext_1 : List UInt8 := dkwX6_startOfNext_1 ++ []
def dkwX6_startOfNext_0 : List UInt8 := [42, 180, 0, 7, 16, 12, 27, 96, 46, 154, 0, 7, 2, 167, 0, 17, 42, 42, 180, 0, 7, 27, 3]
abbrev dktX6_startOfNext_0 : List UInt8 := dkwX6_startOfNext_0 ++ dktX6_startOfNext_1
theorem dksX6_startOfNext_0 : cX6_startOfNext.data.toList.drop 0 = dktX6_startOfNext_0 := by decide +kernel
theorem dksX6_startOfNext_1 : cX6_startOfNext.data.toList.drop 23 = dktX6_startOfNext_1 := dk_seg dksX6_startOfNext_0 23 rfl rfl
theorem dX6_startOfNext_0 : decode cX6_startOfNext 0 = .ok (.aload_n 0, 1) := dk_42 (dk_at dksX6_startOfNext_0 0 rfl rfl)
theorem dX6_startOfNext_1 : decode cX6_startOfNext 1 = .ok (.getfield 7, 3) := dk_180 0 7 (dk_at dksX6_startOfNext_0 1 rfl rfl)
theorem dX6_startOfNext_4 : decode cX6_startOfNext 4 = .ok (.bipush 12, 2) := dk_16 12 (dk_at dksX6_startOfNext_0 4 rfl rfl)
theorem dX6_startOfNext_6 : decode cX6_startOfNext 6 = .ok (.iload_n 1, 1) := dk_27 (dk_at dksX6_startOfNext_0 6 rfl rfl)
theorem dX6_startOfNext_7 : decode cX6_startOfNext 7 = .ok (.iadd, 1) := dk_96 (dk_at dksX6_startOfNext_0 7 rfl rfl)
theorem dX6_startOfNext_8 : decode cX6_startOfNext 8 = .ok (.iaload, 1) := dk_46 (dk_at dksX6_startOfNext_0 8 rfl rfl)
theorem dX6_startOfNext_9 : decode cX6_startOfNext 9 = .ok (.ifCond .ne 7, 3) := dk_154 0 7 (dk_at dksX6_startOfNext_0 9 rfl rfl)
theorem dX6_startOfNext_12 : decode cX6_startOfNext 12 = .ok (.iconst (-1), 1) := dk_2 (dk_at dksX6_startOfNext_0 12 rfl rfl)
theorem dX6_startOfNext_13 : decode cX6_startOfNext 13 = .ok (.goto 17, 3) := dk_167 0 17 (dk_at dksX6_startOfNext_0 13 rfl rfl)
theorem dX6_startOfNext_16 : decode cX6_startOfNext 16 = .ok (.aload_n 0, 1) := dk_42 (dk_at dksX6_startOfNext_0 16 rfl rfl)
theorem dX6_startOfNext_17 : decode cX6_startOfNext 17 = .ok (.aload_n 0, 1) := dk_42 (dk_at dksX6_startOfNext_0 17 rfl rfl)
theorem dX6_startOfNext_18 : decode cX6_startOfNext 18 = .ok (.getfield 7, 3) := dk_180 0 7 (dk_at dksX6_startOfNext_0 18 rfl rfl)
theorem dX6_startOfNext_21 : decode cX6_startOfNext 21 = .ok (.iload_n 1, 1) := dk_27 (dk_at dksX6_startOfNext_0 21 rfl rfl)
theorem dX6_startOfNext_22 : decode cX6_startOfNext 22 = .ok (.iconst 0, 1) := dk_3 (dk_at dksX6_startOfNext_0 22 rfl rfl)
theorem dX6_startOfNext_23 : decode cX6_startOfNext 23 = .ok (.invokestatic 114, 3) := dk_184 0 114 (dk_at dksX6_startOfNext_1 0 rfl rfl)
theorem dX6_startOfNext_26 : decode cX6_startOfNext 26 = .ok (.iaload, 1) := dk_46 (dk_at dksX6_startOfNext_1 3 rfl rfl)
theorem dX6_startOfNext_27 : decode cX6_startOfNext 27 = .ok (.invokevirtual 117, 3) := dk_182 0 117 (dk_at dksX6_startOfNext_1 4 rfl rfl)
theorem dX6_startOfNext_30 : decode cX6_startOfNext 30 = .ok (.ireturn, 1) := dk_172 (dk_at dksX6_startOfNext_1 7 rfl rfl)
abbrev cX6_startFor : ByteArray := prog_14_method_32_code
def yX6_startFor : MethodName := ⟨RX6, "startFor", "(I)I"⟩
def dkwX6_startFor_1 : List UInt8 := [172, 132, 2, 1, 167, 255, 230, 2, 172]
abbrev dktX6_startFor_1 : List UInt8 := dkwX6_startFor_1 ++ []
def dkwX6_startFor_0 : List UInt8 := [3, 61, 28, 27, 96, 42, 180, 0, 7, 3, 46, 163, 0, 20, 42, 28, 27, 182, 0, 111, 153, 0, 5, 28]
abbrev dktX6_startFor_0 : List UInt8 := dkwX6_startFor_0 ++ dktX6_startFor_1
theorem dksX6_startFor_0 : cX6_startFor.data.toList.drop 0 = dktX6_startFor_0 := by decide +kernel
theorem dksX6_startFor_1 : cX6_startFor.data.toList.drop 24 = dktX6_startFor_1 := dk_seg dksX6_startFor_0 24 rfl rfl
theorem dX6_startFor_0 : decode cX6_startFor 0 = .ok (.iconst 0, 1) := dk_3 (dk_at dksX6_startFor_0 0 rfl rfl)
theorem dX6_startFor_1 : decode cX6_startFor 1 = .ok (.istore_n 2, 1) := dk_61 (dk_at dksX6_startFor_0 1 rfl rfl)
theorem dX6_startFor_2 : decode cX6_startFor 2 = .ok (.iload_n 2, 1) := dk_28 (dk_at dksX6_startFor_0 2 rfl rfl)
theorem dX6_startFor_3 : decode cX6_startFor 3 = .ok (.iload_n 1, 1) := dk_27 (dk_at dksX6_startFor_0 3 rfl rfl)
theorem dX6_startFor_4 : decode cX6_startFor 4 = .ok (.iadd, 1) := dk_96 (dk_at dksX6_startFor_0 4 rfl rfl)
theorem dX6_startFor_5 : decode cX6_startFor 5 = .ok (.aload_n 0, 1) := dk_42 (dk_at dksX6_startFor_0 5 rfl rfl)
theorem dX6_startFor_6 : decode cX6_startFor 6 = .ok (.getfield 7, 3) := dk_180 0 7 (dk_at dksX6_startFor_0 6 rfl rfl)
theorem dX6_startFor_9 : decode cX6_startFor 9 = .ok (.iconst 0, 1) := dk_3 (dk_at dksX6_startFor_0 9 rfl rfl)
theorem dX6_startFor_10 : decode cX6_startFor 10 = .ok (.iaload, 1) := dk_46 (dk_at dksX6_startFor_0 10 rfl rfl)
theorem dX6_startFor_11 : decode cX6_startFor 11 = .ok (.if_icmp .gt 20, 3) := dk_163 0 20 (dk_at dksX6_startFor_0 11 rfl rfl)
theorem dX6_startFor_14 : decode cX6_startFor 14 = .ok (.aload_n 0, 1) := dk_42 (dk_at dksX6_startFor_0 14 rfl rfl)
theorem dX6_startFor_15 : decode cX6_startFor 15 = .ok (.iload_n 2, 1) := dk_28 (dk_at dksX6_startFor_0 15 rfl rfl)
theorem dX6_startFor_16 : decode cX6_startFor 16 = .ok (.iload_n 1, 1) := dk_27 (dk_at dksX6_startFor_0 16 rfl rfl)
theorem dX6_startFor_17 : decode cX6_startFor 17 = .ok (.invokevirtual 111, 3) := dk_182 0 111 (dk_at dksX6_startFor_0 17 rfl rfl)
theorem dX6_startFor_20 : decode cX6_startFor 20 = .ok (.ifCond .eq 5, 3) := dk_153 0 5 (dk_at dksX6_startFor_0 20 rfl rfl)
theorem dX6_startFor_23 : decode cX6_startFor 23 = .ok (.iload_n 2, 1) := dk_28 (dk_at dksX6_startFor_0 23 rfl rfl)
theorem dX6_startFor_24 : decode cX6_startFor 24 = .ok (.ireturn, 1) := dk_172 (dk_at dksX6_startFor_1 0 rfl rfl)
theorem dX6_startFor_25 : decode cX6_startFor 25 = .ok (.iinc 2 1, 3) := dk_132 2 1 (dk_at dksX6_startFor_1 1 rfl rfl)
theorem dX6_startFor_28 : decode cX6_startFor 28 = .ok (.goto (-26), 3) := dk_167 255 230 (dk_at dksX6_startFor_1 4 rfl rfl)
theorem dX6_startFor_31 : decode cX6_startFor 31 = .ok (.iconst (-1), 1) := dk_2 (dk_at dksX6_startFor_1 7 rfl rfl)
theorem dX6_startFor_32 : decode cX6_startFor 32 = .ok (.ireturn, 1) := dk_172 (dk_at dksX6_startFor_1 8 rfl rfl)
abbrev cX6_fits : ByteArray := prog_14_method_31_code
def yX6_fits : MethodName := ⟨RX6, "fits", "(II)Z"⟩
def dkwX6_fits_2 : List UInt8 := [167, 0, 4, 3, 172]
abbrev dktX6_fits_2 : List UInt8 := dkwX6_fits_2 ++ []
def dkwX6_fits_1 : List UInt8 := [167, 255, 236, 42, 27, 4, 100, 182, 0, 108, 153, 0, 17, 42, 27, 28, 96, 182, 0, 108, 153, 0, 7, 4]
abbrev dktX6_fits_1 : List UInt8 := dkwX6_fits_1 ++ dktX6_fits_2
def dkwX6_fits_0 : List UInt8 := [3, 62, 29, 28, 162, 0, 21, 42, 27, 29, 96, 182, 0, 105, 154, 0, 5, 3, 172, 132, 3, 1]
abbrev dktX6_fits_0 : List UInt8 := dkwX6_fits_0 ++ dktX6_fits_1
theorem dksX6_fits_0 : cX6_fits.data.toList.drop 0 = dktX6_fits_0 := by decide +kernel
theorem dksX6_fits_1 : cX6_fits.data.toList.drop 22 = dktX6_fits_1 := dk_seg dksX6_fits_0 22 rfl rfl
theorem dksX6_fits_2 : cX6_fits.data.toList.drop 46 = dktX6_fits_2 := dk_seg dksX6_fits_1 24 rfl rfl
theorem dX6_fits_0 : decode cX6_fits 0 = .ok (.iconst 0, 1) := dk_3 (dk_at dksX6_fits_0 0 rfl rfl)
theorem dX6_fits_1 : decode cX6_fits 1 = .ok (.istore_n 3, 1) := dk_62 (dk_at dksX6_fits_0 1 rfl rfl)
theorem dX6_fits_2 : decode cX6_fits 2 = .ok (.iload_n 3, 1) := dk_29 (dk_at dksX6_fits_0 2 rfl rfl)
theorem dX6_fits_3 : decode cX6_fits 3 = .ok (.iload_n 2, 1) := dk_28 (dk_at dksX6_fits_0 3 rfl rfl)
theorem dX6_fits_4 : decode cX6_fits 4 = .ok (.if_icmp .ge 21, 3) := dk_162 0 21 (dk_at dksX6_fits_0 4 rfl rfl)
theorem dX6_fits_7 : decode cX6_fits 7 = .ok (.aload_n 0, 1) := dk_42 (dk_at dksX6_fits_0 7 rfl rfl)
theorem dX6_fits_8 : decode cX6_fits 8 = .ok (.iload_n 1, 1) := dk_27 (dk_at dksX6_fits_0 8 rfl rfl)
theorem dX6_fits_9 : decode cX6_fits 9 = .ok (.iload_n 3, 1) := dk_29 (dk_at dksX6_fits_0 9 rfl rfl)
theorem dX6_fits_10 : decode cX6_fits 10 = .ok (.iadd, 1) := dk_96 (dk_at dksX6_fits_0 10 rfl rfl)
theorem dX6_fits_11 : decode cX6_fits 11 = .ok (.invokevirtual 105, 3) := dk_182 0 105 (dk_at dksX6_fits_0 11 rfl rfl)
theorem dX6_fits_14 : decode cX6_fits 14 = .ok (.ifCond .ne 5, 3) := dk_154 0 5 (dk_at dksX6_fits_0 14 rfl rfl)
theorem dX6_fits_17 : decode cX6_fits 17 = .ok (.iconst 0, 1) := dk_3 (dk_at dksX6_fits_0 17 rfl rfl)
theorem dX6_fits_18 : decode cX6_fits 18 = .ok (.ireturn, 1) := dk_172 (dk_at dksX6_fits_0 18 rfl rfl)
theorem dX6_fits_19 : decode cX6_fits 19 = .ok (.iinc 3 1, 3) := dk_132 3 1 (dk_at dksX6_fits_0 19 rfl rfl)
theorem dX6_fits_22 : decode cX6_fits 22 = .ok (.goto (-20), 3) := dk_167 255 236 (dk_at dksX6_fits_1 0 rfl rfl)
theorem dX6_fits_25 : decode cX6_fits 25 = .ok (.aload_n 0, 1) := dk_42 (dk_at dksX6_fits_1 3 rfl rfl)
theorem dX6_fits_26 : decode cX6_fits 26 = .ok (.iload_n 1, 1) := dk_27 (dk_at dksX6_fits_1 4 rfl rfl)
theorem dX6_fits_27 : decode cX6_fits 27 = .ok (.iconst 1, 1) := dk_4 (dk_at dksX6_fits_1 5 rfl rfl)
theorem dX6_fits_28 : decode cX6_fits 28 = .ok (.isub, 1) := dk_100 (dk_at dksX6_fits_1 6 rfl rfl)
theorem dX6_fits_29 : decode cX6_fits 29 = .ok (.invokevirtual 108, 3) := dk_182 0 108 (dk_at dksX6_fits_1 7 rfl rfl)
theorem dX6_fits_32 : decode cX6_fits 32 = .ok (.ifCond .eq 17, 3) := dk_153 0 17 (dk_at dksX6_fits_1 10 rfl rfl)
theorem dX6_fits_35 : decode cX6_fits 35 = .ok (.aload_n 0, 1) := dk_42 (dk_at dksX6_fits_1 13 rfl rfl)
theorem dX6_fits_36 : decode cX6_fits 36 = .ok (.iload_n 1, 1) := dk_27 (dk_at dksX6_fits_1 14 rfl rfl)
theorem dX6_fits_37 : decode cX6_fits 37 = .ok (.iload_n 2, 1) := dk_28 (dk_at dksX6_fits_1 15 rfl rfl)
theorem dX6_fits_38 : decode cX6_fits 38 = .ok (.iadd, 1) := dk_96 (dk_at dksX6_fits_1 16 rfl rfl)
theorem dX6_fits_39 : decode cX6_fits 39 = .ok (.invokevirtual 108, 3) := dk_182 0 108 (dk_at dksX6_fits_1 17 rfl rfl)
theorem dX6_fits_42 : decode cX6_fits 42 = .ok (.ifCond .eq 7, 3) := dk_153 0 7 (dk_at dksX6_fits_1 20 rfl rfl)
theorem dX6_fits_45 : decode cX6_fits 45 = .ok (.iconst 1, 1) := dk_4 (dk_at dksX6_fits_1 23 rfl rfl)
theorem dX6_fits_46 : decode cX6_fits 46 = .ok (.goto 4, 3) := dk_167 0 4 (dk_at dksX6_fits_2 0 rfl rfl)
theorem dX6_fits_49 : decode cX6_fits 49 = .ok (.iconst 0, 1) := dk_3 (dk_at dksX6_fits_2 3 rfl rfl)
theorem dX6_fits_50 : decode cX6_fits 50 = .ok (.ireturn, 1) := dk_172 (dk_at dksX6_fits_2 4 rfl rfl)
abbrev cX6_isFree : ByteArray := prog_14_method_29_code
def yX6_isFree : MethodName := ⟨RX6, "isFree", "(I)Z"⟩
def dkwX6_isFree_1 : List UInt8 := [4, 167, 0, 4, 3, 172]
abbrev dktX6_isFree_1 : List UInt8 := dkwX6_isFree_1 ++ []
def dkwX6_isFree_0 : List UInt8 := [42, 27, 182, 0, 84, 154, 0, 23, 42, 27, 182, 0, 77, 154, 0, 15, 42, 27, 182, 0, 102, 154, 0, 7]
abbrev dktX6_isFree_0 : List UInt8 := dkwX6_isFree_0 ++ dktX6_isFree_1
theorem dksX6_isFree_0 : cX6_isFree.data.toList.drop 0 = dktX6_isFree_0 := by decide +kernel
theorem dksX6_isFree_1 : cX6_isFree.data.toList.drop 24 = dktX6_isFree_1 := dk_seg dksX6_isFree_0 24 rfl rfl
theorem dX6_isFree_0 : decode cX6_isFree 0 = .ok (.aload_n 0, 1) := dk_42 (dk_at dksX6_isFree_0 0 rfl rfl)
theorem dX6_isFree_1 : decode cX6_isFree 1 = .ok (.iload_n 1, 1) := dk_27 (dk_at dksX6_isFree_0 1 rfl rfl)
theorem dX6_isFree_2 : decode cX6_isFree 2 = .ok (.invokevirtual 84, 3) := dk_182 0 84 (dk_at dksX6_isFree_0 2 rfl rfl)
theorem dX6_isFree_5 : decode cX6_isFree 5 = .ok (.ifCond .ne 23, 3) := dk_154 0 23 (dk_at dksX6_isFree_0 5 rfl rfl)
theorem dX6_isFree_8 : decode cX6_isFree 8 = .ok (.aload_n 0, 1) := dk_42 (dk_at dksX6_isFree_0 8 rfl rfl)
theorem dX6_isFree_9 : decode cX6_isFree 9 = .ok (.iload_n 1, 1) := dk_27 (dk_at dksX6_isFree_0 9 rfl rfl)
theorem dX6_isFree_10 : decode cX6_isFree 10 = .ok (.invokevirtual 77, 3) := dk_182 0 77 (dk_at dksX6_isFree_0 10 rfl rfl)
theorem dX6_isFree_13 : decode cX6_isFree 13 = .ok (.ifCond .ne 15, 3) := dk_154 0 15 (dk_at dksX6_isFree_0 13 rfl rfl)
theorem dX6_isFree_16 : decode cX6_isFree 16 = .ok (.aload_n 0, 1) := dk_42 (dk_at dksX6_isFree_0 16 rfl rfl)
theorem dX6_isFree_17 : decode cX6_isFree 17 = .ok (.iload_n 1, 1) := dk_27 (dk_at dksX6_isFree_0 17 rfl rfl)
theorem dX6_isFree_18 : decode cX6_isFree 18 = .ok (.invokevirtual 102, 3) := dk_182 0 102 (dk_at dksX6_isFree_0 18 rfl rfl)
theorem dX6_isFree_21 : decode cX6_isFree 21 = .ok (.ifCond .ne 7, 3) := dk_154 0 7 (dk_at dksX6_isFree_0 21 rfl rfl)
theorem dX6_isFree_24 : decode cX6_isFree 24 = .ok (.iconst 1, 1) := dk_4 (dk_at dksX6_isFree_1 0 rfl rfl)
theorem dX6_isFree_25 : decode cX6_isFree 25 = .ok (.goto 4, 3) := dk_167 0 4 (dk_at dksX6_isFree_1 1 rfl rfl)
theorem dX6_isFree_28 : decode cX6_isFree 28 = .ok (.iconst 0, 1) := dk_3 (dk_at dksX6_isFree_1 4 rfl rfl)
theorem dX6_isFree_29 : decode cX6_isFree 29 = .ok (.ireturn, 1) := dk_172 (dk_at dksX6_isFree_1 5 rfl rfl)
abbrev cX6_isBorder : ByteArray := prog_14_method_30_code
def yX6_isBorder : MethodName := ⟨RX6, "isBorder", "(I)Z"⟩
def dkwX6_isBorder_1 : List UInt8 := [4, 167, 0, 4, 3, 172]
abbrev dktX6_isBorder_1 : List UInt8 := dkwX6_isBorder_1 ++ []
def dkwX6_isBorder_0 : List UInt8 := [42, 27, 182, 0, 73, 153, 0, 19, 42, 27, 182, 0, 84, 154, 0, 15, 42, 27, 182, 0, 102, 154, 0, 7]
abbrev dktX6_isBorder_0 : List UInt8 := dkwX6_isBorder_0 ++ dktX6_isBorder_1
theorem dksX6_isBorder_0 : cX6_isBorder.data.toList.drop 0 = dktX6_isBorder_0 := by decide +kernel
theorem dksX6_isBorder_1 : cX6_isBorder.data.toList.drop 24 = dktX6_isBorder_1 := dk_seg dksX6_isBorder_0 24 rfl rfl
theorem dX6_isBorder_0 : decode cX6_isBorder 0 = .ok (.aload_n 0, 1) := dk_42 (dk_at dksX6_isBorder_0 0 rfl rfl)
theorem dX6_isBorder_1 : decode cX6_isBorder 1 = .ok (.iload_n 1, 1) := dk_27 (dk_at dksX6_isBorder_0 1 rfl rfl)
theorem dX6_isBorder_2 : decode cX6_isBorder 2 = .ok (.invokevirtual 73, 3) := dk_182 0 73 (dk_at dksX6_isBorder_0 2 rfl rfl)
theorem dX6_isBorder_5 : decode cX6_isBorder 5 = .ok (.ifCond .eq 19, 3) := dk_153 0 19 (dk_at dksX6_isBorder_0 5 rfl rfl)
theorem dX6_isBorder_8 : decode cX6_isBorder 8 = .ok (.aload_n 0, 1) := dk_42 (dk_at dksX6_isBorder_0 8 rfl rfl)
theorem dX6_isBorder_9 : decode cX6_isBorder 9 = .ok (.iload_n 1, 1) := dk_27 (dk_at dksX6_isBorder_0 9 rfl rfl)
theorem dX6_isBorder_10 : decode cX6_isBorder 10 = .ok (.invokevirtual 84, 3) := dk_182 0 84 (dk_at dksX6_isBorder_0 10 rfl rfl)
theorem dX6_isBorder_13 : decode cX6_isBorder 13 = .ok (.ifCond .ne 15, 3) := dk_154 0 15 (dk_at dksX6_isBorder_0 13 rfl rfl)
theorem dX6_isBorder_16 : decode cX6_isBorder 16 = .ok (.aload_n 0, 1) := dk_42 (dk_at dksX6_isBorder_0 16 rfl rfl)
theorem dX6_isBorder_17 : decode cX6_isBorder 17 = .ok (.iload_n 1, 1) := dk_27 (dk_at dksX6_isBorder_0 17 rfl rfl)
theorem dX6_isBorder_18 : decode cX6_isBorder 18 = .ok (.invokevirtual 102, 3) := dk_182 0 102 (dk_at dksX6_isBorder_0 18 rfl rfl)
theorem dX6_isBorder_21 : decode cX6_isBorder 21 = .ok (.ifCond .ne 7, 3) := dk_154 0 7 (dk_at dksX6_isBorder_0 21 rfl rfl)
theorem dX6_isBorder_24 : decode cX6_isBorder 24 = .ok (.iconst 1, 1) := dk_4 (dk_at dksX6_isBorder_1 0 rfl rfl)
theorem dX6_isBorder_25 : decode cX6_isBorder 25 = .ok (.goto 4, 3) := dk_167 0 4 (dk_at dksX6_isBorder_1 1 rfl rfl)
theorem dX6_isBorder_28 : decode cX6_isBorder 28 = .ok (.iconst 0, 1) := dk_3 (dk_at dksX6_isBorder_1 4 rfl rfl)
theorem dX6_isBorder_29 : decode cX6_isBorder 29 = .ok (.ireturn, 1) := dk_172 (dk_at dksX6_isBorder_1 5 rfl rfl)
abbrev cX6_begins : ByteArray := prog_14_method_36_code
def yX6_begins : MethodName := ⟨RX6, "begins", "(II)V"⟩
def dkwX6_begins_3 : List UInt8 := [182, 0, 120, 177]
abbrev dktX6_begins_3 : List UInt8 := dkwX6_begins_3 ++ []
def dkwX6_begins_2 : List UInt8 := [42, 180, 0, 7, 29, 16, 13, 96, 28, 79, 42, 180, 0, 7, 29, 16, 14, 96, 3, 79, 42, 27, 3]
abbrev dktX6_begins_2 : List UInt8 := dkwX6_begins_2 ++ dktX6_begins_3
def dkwX6_begins_1 : List UInt8 := [180, 0, 7, 29, 21, 5, 96, 42, 180, 0, 7, 21, 4, 21, 5, 96, 46, 79, 132, 5, 1, 167, 255, 227]
abbrev dktX6_begins_1 : List UInt8 := dkwX6_begins_1 ++ dktX6_begins_2
def dkwX6_begins_0 : List UInt8 := [27, 184, 0, 91, 62, 27, 3, 184, 0, 114, 54, 4, 3, 54, 5, 21, 5, 16, 13, 162, 0, 28, 42]
abbrev dktX6_begins_0 : List UInt8 := dkwX6_begins_0 ++ dktX6_begins_1
theorem dksX6_begins_0 : cX6_begins.data.toList.drop 0 = dktX6_begins_0 := by decide +kernel
theorem dksX6_begins_1 : cX6_begins.data.toList.drop 23 = dktX6_begins_1 := dk_seg dksX6_begins_0 23 rfl rfl
theorem dksX6_begins_2 : cX6_begins.data.toList.drop 47 = dktX6_begins_2 := dk_seg dksX6_begins_1 24 rfl rfl
theorem dksX6_begins_3 : cX6_begins.data.toList.drop 70 = dktX6_begins_3 := dk_seg dksX6_begins_2 23 rfl rfl
theorem dX6_begins_0 : decode cX6_begins 0 = .ok (.iload_n 1, 1) := dk_27 (dk_at dksX6_begins_0 0 rfl rfl)
theorem dX6_begins_1 : decode cX6_begins 1 = .ok (.invokestatic 91, 3) := dk_184 0 91 (dk_at dksX6_begins_0 1 rfl rfl)
theorem dX6_begins_4 : decode cX6_begins 4 = .ok (.istore_n 3, 1) := dk_62 (dk_at dksX6_begins_0 4 rfl rfl)
theorem dX6_begins_5 : decode cX6_begins 5 = .ok (.iload_n 1, 1) := dk_27 (dk_at dksX6_begins_0 5 rfl rfl)
theorem dX6_begins_6 : decode cX6_begins 6 = .ok (.iconst 0, 1) := dk_3 (dk_at dksX6_begins_0 6 rfl rfl)
theorem dX6_begins_7 : decode cX6_begins 7 = .ok (.invokestatic 114, 3) := dk_184 0 114 (dk_at dksX6_begins_0 7 rfl rfl)
theorem dX6_begins_10 : decode cX6_begins 10 = .ok (.istore 4, 2) := dk_54 4 (dk_at dksX6_begins_0 10 rfl rfl)
theorem dX6_begins_12 : decode cX6_begins 12 = .ok (.iconst 0, 1) := dk_3 (dk_at dksX6_begins_0 12 rfl rfl)
theorem dX6_begins_13 : decode cX6_begins 13 = .ok (.istore 5, 2) := dk_54 5 (dk_at dksX6_begins_0 13 rfl rfl)
theorem dX6_begins_15 : decode cX6_begins 15 = .ok (.iload 5, 2) := dk_21 5 (dk_at dksX6_begins_0 15 rfl rfl)
theorem dX6_begins_17 : decode cX6_begins 17 = .ok (.bipush 13, 2) := dk_16 13 (dk_at dksX6_begins_0 17 rfl rfl)
theorem dX6_begins_19 : decode cX6_begins 19 = .ok (.if_icmp .ge 28, 3) := dk_162 0 28 (dk_at dksX6_begins_0 19 rfl rfl)
theorem dX6_begins_22 : decode cX6_begins 22 = .ok (.aload_n 0, 1) := dk_42 (dk_at dksX6_begins_0 22 rfl rfl)
theorem dX6_begins_23 : decode cX6_begins 23 = .ok (.getfield 7, 3) := dk_180 0 7 (dk_at dksX6_begins_1 0 rfl rfl)
theorem dX6_begins_26 : decode cX6_begins 26 = .ok (.iload_n 3, 1) := dk_29 (dk_at dksX6_begins_1 3 rfl rfl)
theorem dX6_begins_27 : decode cX6_begins 27 = .ok (.iload 5, 2) := dk_21 5 (dk_at dksX6_begins_1 4 rfl rfl)
theorem dX6_begins_29 : decode cX6_begins 29 = .ok (.iadd, 1) := dk_96 (dk_at dksX6_begins_1 6 rfl rfl)
theorem dX6_begins_30 : decode cX6_begins 30 = .ok (.aload_n 0, 1) := dk_42 (dk_at dksX6_begins_1 7 rfl rfl)
theorem dX6_begins_31 : decode cX6_begins 31 = .ok (.getfield 7, 3) := dk_180 0 7 (dk_at dksX6_begins_1 8 rfl rfl)
theorem dX6_begins_34 : decode cX6_begins 34 = .ok (.iload 4, 2) := dk_21 4 (dk_at dksX6_begins_1 11 rfl rfl)
theorem dX6_begins_36 : decode cX6_begins 36 = .ok (.iload 5, 2) := dk_21 5 (dk_at dksX6_begins_1 13 rfl rfl)
theorem dX6_begins_38 : decode cX6_begins 38 = .ok (.iadd, 1) := dk_96 (dk_at dksX6_begins_1 15 rfl rfl)
theorem dX6_begins_39 : decode cX6_begins 39 = .ok (.iaload, 1) := dk_46 (dk_at dksX6_begins_1 16 rfl rfl)
theorem dX6_begins_40 : decode cX6_begins 40 = .ok (.iastore, 1) := dk_79 (dk_at dksX6_begins_1 17 rfl rfl)
theorem dX6_begins_41 : decode cX6_begins 41 = .ok (.iinc 5 1, 3) := dk_132 5 1 (dk_at dksX6_begins_1 18 rfl rfl)
theorem dX6_begins_44 : decode cX6_begins 44 = .ok (.goto (-29), 3) := dk_167 255 227 (dk_at dksX6_begins_1 21 rfl rfl)
theorem dX6_begins_47 : decode cX6_begins 47 = .ok (.aload_n 0, 1) := dk_42 (dk_at dksX6_begins_2 0 rfl rfl)
theorem dX6_begins_48 : decode cX6_begins 48 = .ok (.getfield 7, 3) := dk_180 0 7 (dk_at dksX6_begins_2 1 rfl rfl)
theorem dX6_begins_51 : decode cX6_begins 51 = .ok (.iload_n 3, 1) := dk_29 (dk_at dksX6_begins_2 4 rfl rfl)
theorem dX6_begins_52 : decode cX6_begins 52 = .ok (.bipush 13, 2) := dk_16 13 (dk_at dksX6_begins_2 5 rfl rfl)
theorem dX6_begins_54 : decode cX6_begins 54 = .ok (.iadd, 1) := dk_96 (dk_at dksX6_begins_2 7 rfl rfl)
theorem dX6_begins_55 : decode cX6_begins 55 = .ok (.iload_n 2, 1) := dk_28 (dk_at dksX6_begins_2 8 rfl rfl)
theorem dX6_begins_56 : decode cX6_begins 56 = .ok (.iastore, 1) := dk_79 (dk_at dksX6_begins_2 9 rfl rfl)
theorem dX6_begins_57 : decode cX6_begins 57 = .ok (.aload_n 0, 1) := dk_42 (dk_at dksX6_begins_2 10 rfl rfl)
theorem dX6_begins_58 : decode cX6_begins 58 = .ok (.getfield 7, 3) := dk_180 0 7 (dk_at dksX6_begins_2 11 rfl rfl)
theorem dX6_begins_61 : decode cX6_begins 61 = .ok (.iload_n 3, 1) := dk_29 (dk_at dksX6_begins_2 14 rfl rfl)
theorem dX6_begins_62 : decode cX6_begins 62 = .ok (.bipush 14, 2) := dk_16 14 (dk_at dksX6_begins_2 15 rfl rfl)
theorem dX6_begins_64 : decode cX6_begins 64 = .ok (.iadd, 1) := dk_96 (dk_at dksX6_begins_2 17 rfl rfl)
theorem dX6_begins_65 : decode cX6_begins 65 = .ok (.iconst 0, 1) := dk_3 (dk_at dksX6_begins_2 18 rfl rfl)
theorem dX6_begins_66 : decode cX6_begins 66 = .ok (.iastore, 1) := dk_79 (dk_at dksX6_begins_2 19 rfl rfl)
theorem dX6_begins_67 : decode cX6_begins 67 = .ok (.aload_n 0, 1) := dk_42 (dk_at dksX6_begins_2 20 rfl rfl)
theorem dX6_begins_68 : decode cX6_begins 68 = .ok (.iload_n 1, 1) := dk_27 (dk_at dksX6_begins_2 21 rfl rfl)
theorem dX6_begins_69 : decode cX6_begins 69 = .ok (.iconst 0, 1) := dk_3 (dk_at dksX6_begins_2 22 rfl rfl)
theorem dX6_begins_70 : decode cX6_begins 70 = .ok (.invokevirtual 120, 3) := dk_182 0 120 (dk_at dksX6_begins_3 0 rfl rfl)
theorem dX6_begins_73 : decode cX6_begins 73 = .ok (.return_, 1) := dk_177 (dk_at dksX6_begins_3 3 rfl rfl)
abbrev cX6_posts : ByteArray := prog_14_method_37_code
def yX6_posts : MethodName := ⟨RX6, "posts", "(I)V"⟩
def dkwX6_posts_3 : List UInt8 := [16, 11, 92, 46, 4, 96, 79, 177]
abbrev dktX6_posts_3 : List UInt8 := dkwX6_posts_3 ++ []
def dkwX6_posts_2 : List UInt8 := [167, 255, 228, 42, 180, 0, 7, 29, 16, 14, 96, 27, 79, 42, 180, 0, 7, 28, 3, 79, 42, 180, 0, 7]
abbrev dktX6_posts_2 : List UInt8 := dkwX6_posts_2 ++ dktX6_posts_3
def dkwX6_posts_1 : List UInt8 := [162, 0, 27, 42, 180, 0, 7, 29, 21, 4, 96, 42, 180, 0, 7, 28, 21, 4, 96, 46, 79, 132, 4, 1]
abbrev dktX6_posts_1 : List UInt8 := dkwX6_posts_1 ++ dktX6_posts_2
def dkwX6_posts_0 : List UInt8 := [27, 184, 0, 91, 61, 42, 180, 0, 7, 16, 11, 46, 184, 0, 95, 62, 3, 54, 4, 21, 4, 16, 15]
abbrev dktX6_posts_0 : List UInt8 := dkwX6_posts_0 ++ dktX6_posts_1
theorem dksX6_posts_0 : cX6_posts.data.toList.drop 0 = dktX6_posts_0 := by decide +kernel
theorem dksX6_posts_1 : cX6_posts.data.toList.drop 23 = dktX6_posts_1 := dk_seg dksX6_posts_0 23 rfl rfl
theorem dksX6_posts_2 : cX6_posts.data.toList.drop 47 = dktX6_posts_2 := dk_seg dksX6_posts_1 24 rfl rfl
theorem dksX6_posts_3 : cX6_posts.data.toList.drop 71 = dktX6_posts_3 := dk_seg dksX6_posts_2 24 rfl rfl
theorem dX6_posts_0 : decode cX6_posts 0 = .ok (.iload_n 1, 1) := dk_27 (dk_at dksX6_posts_0 0 rfl rfl)
theorem dX6_posts_1 : decode cX6_posts 1 = .ok (.invokestatic 91, 3) := dk_184 0 91 (dk_at dksX6_posts_0 1 rfl rfl)
theorem dX6_posts_4 : decode cX6_posts 4 = .ok (.istore_n 2, 1) := dk_61 (dk_at dksX6_posts_0 4 rfl rfl)
theorem dX6_posts_5 : decode cX6_posts 5 = .ok (.aload_n 0, 1) := dk_42 (dk_at dksX6_posts_0 5 rfl rfl)
theorem dX6_posts_6 : decode cX6_posts 6 = .ok (.getfield 7, 3) := dk_180 0 7 (dk_at dksX6_posts_0 6 rfl rfl)
theorem dX6_posts_9 : decode cX6_posts 9 = .ok (.bipush 11, 2) := dk_16 11 (dk_at dksX6_posts_0 9 rfl rfl)
theorem dX6_posts_11 : decode cX6_posts 11 = .ok (.iaload, 1) := dk_46 (dk_at dksX6_posts_0 11 rfl rfl)
theorem dX6_posts_12 : decode cX6_posts 12 = .ok (.invokestatic 95, 3) := dk_184 0 95 (dk_at dksX6_posts_0 12 rfl rfl)
theorem dX6_posts_15 : decode cX6_posts 15 = .ok (.istore_n 3, 1) := dk_62 (dk_at dksX6_posts_0 15 rfl rfl)
theorem dX6_posts_16 : decode cX6_posts 16 = .ok (.iconst 0, 1) := dk_3 (dk_at dksX6_posts_0 16 rfl rfl)
theorem dX6_posts_17 : decode cX6_posts 17 = .ok (.istore 4, 2) := dk_54 4 (dk_at dksX6_posts_0 17 rfl rfl)
theorem dX6_posts_19 : decode cX6_posts 19 = .ok (.iload 4, 2) := dk_21 4 (dk_at dksX6_posts_0 19 rfl rfl)
theorem dX6_posts_21 : decode cX6_posts 21 = .ok (.bipush 15, 2) := dk_16 15 (dk_at dksX6_posts_0 21 rfl rfl)
theorem dX6_posts_23 : decode cX6_posts 23 = .ok (.if_icmp .ge 27, 3) := dk_162 0 27 (dk_at dksX6_posts_1 0 rfl rfl)
theorem dX6_posts_26 : decode cX6_posts 26 = .ok (.aload_n 0, 1) := dk_42 (dk_at dksX6_posts_1 3 rfl rfl)
theorem dX6_posts_27 : decode cX6_posts 27 = .ok (.getfield 7, 3) := dk_180 0 7 (dk_at dksX6_posts_1 4 rfl rfl)
theorem dX6_posts_30 : decode cX6_posts 30 = .ok (.iload_n 3, 1) := dk_29 (dk_at dksX6_posts_1 7 rfl rfl)
theorem dX6_posts_31 : decode cX6_posts 31 = .ok (.iload 4, 2) := dk_21 4 (dk_at dksX6_posts_1 8 rfl rfl)
theorem dX6_posts_33 : decode cX6_posts 33 = .ok (.iadd, 1) := dk_96 (dk_at dksX6_posts_1 10 rfl rfl)
theorem dX6_posts_34 : decode cX6_posts 34 = .ok (.aload_n 0, 1) := dk_42 (dk_at dksX6_posts_1 11 rfl rfl)
theorem dX6_posts_35 : decode cX6_posts 35 = .ok (.getfield 7, 3) := dk_180 0 7 (dk_at dksX6_posts_1 12 rfl rfl)
theorem dX6_posts_38 : decode cX6_posts 38 = .ok (.iload_n 2, 1) := dk_28 (dk_at dksX6_posts_1 15 rfl rfl)
theorem dX6_posts_39 : decode cX6_posts 39 = .ok (.iload 4, 2) := dk_21 4 (dk_at dksX6_posts_1 16 rfl rfl)
theorem dX6_posts_41 : decode cX6_posts 41 = .ok (.iadd, 1) := dk_96 (dk_at dksX6_posts_1 18 rfl rfl)
theorem dX6_posts_42 : decode cX6_posts 42 = .ok (.iaload, 1) := dk_46 (dk_at dksX6_posts_1 19 rfl rfl)
theorem dX6_posts_43 : decode cX6_posts 43 = .ok (.iastore, 1) := dk_79 (dk_at dksX6_posts_1 20 rfl rfl)
theorem dX6_posts_44 : decode cX6_posts 44 = .ok (.iinc 4 1, 3) := dk_132 4 1 (dk_at dksX6_posts_1 21 rfl rfl)
theorem dX6_posts_47 : decode cX6_posts 47 = .ok (.goto (-28), 3) := dk_167 255 228 (dk_at dksX6_posts_2 0 rfl rfl)
theorem dX6_posts_50 : decode cX6_posts 50 = .ok (.aload_n 0, 1) := dk_42 (dk_at dksX6_posts_2 3 rfl rfl)
theorem dX6_posts_51 : decode cX6_posts 51 = .ok (.getfield 7, 3) := dk_180 0 7 (dk_at dksX6_posts_2 4 rfl rfl)
theorem dX6_posts_54 : decode cX6_posts 54 = .ok (.iload_n 3, 1) := dk_29 (dk_at dksX6_posts_2 7 rfl rfl)
theorem dX6_posts_55 : decode cX6_posts 55 = .ok (.bipush 14, 2) := dk_16 14 (dk_at dksX6_posts_2 8 rfl rfl)
theorem dX6_posts_57 : decode cX6_posts 57 = .ok (.iadd, 1) := dk_96 (dk_at dksX6_posts_2 10 rfl rfl)
theorem dX6_posts_58 : decode cX6_posts 58 = .ok (.iload_n 1, 1) := dk_27 (dk_at dksX6_posts_2 11 rfl rfl)
theorem dX6_posts_59 : decode cX6_posts 59 = .ok (.iastore, 1) := dk_79 (dk_at dksX6_posts_2 12 rfl rfl)
theorem dX6_posts_60 : decode cX6_posts 60 = .ok (.aload_n 0, 1) := dk_42 (dk_at dksX6_posts_2 13 rfl rfl)
theorem dX6_posts_61 : decode cX6_posts 61 = .ok (.getfield 7, 3) := dk_180 0 7 (dk_at dksX6_posts_2 14 rfl rfl)
theorem dX6_posts_64 : decode cX6_posts 64 = .ok (.iload_n 2, 1) := dk_28 (dk_at dksX6_posts_2 17 rfl rfl)
theorem dX6_posts_65 : decode cX6_posts 65 = .ok (.iconst 0, 1) := dk_3 (dk_at dksX6_posts_2 18 rfl rfl)
theorem dX6_posts_66 : decode cX6_posts 66 = .ok (.iastore, 1) := dk_79 (dk_at dksX6_posts_2 19 rfl rfl)
theorem dX6_posts_67 : decode cX6_posts 67 = .ok (.aload_n 0, 1) := dk_42 (dk_at dksX6_posts_2 20 rfl rfl)
theorem dX6_posts_68 : decode cX6_posts 68 = .ok (.getfield 7, 3) := dk_180 0 7 (dk_at dksX6_posts_2 21 rfl rfl)
theorem dX6_posts_71 : decode cX6_posts 71 = .ok (.bipush 11, 2) := dk_16 11 (dk_at dksX6_posts_3 0 rfl rfl)
theorem dX6_posts_73 : decode cX6_posts 73 = .ok (.dup2, 1) := dk_92 (dk_at dksX6_posts_3 2 rfl rfl)
theorem dX6_posts_74 : decode cX6_posts 74 = .ok (.iaload, 1) := dk_46 (dk_at dksX6_posts_3 3 rfl rfl)
theorem dX6_posts_75 : decode cX6_posts 75 = .ok (.iconst 1, 1) := dk_4 (dk_at dksX6_posts_3 4 rfl rfl)
theorem dX6_posts_76 : decode cX6_posts 76 = .ok (.iadd, 1) := dk_96 (dk_at dksX6_posts_3 5 rfl rfl)
theorem dX6_posts_77 : decode cX6_posts 77 = .ok (.iastore, 1) := dk_79 (dk_at dksX6_posts_3 6 rfl rfl)
theorem dX6_posts_78 : decode cX6_posts 78 = .ok (.return_, 1) := dk_177 (dk_at dksX6_posts_3 7 rfl rfl)
abbrev cX6_growsAll : ByteArray := prog_14_method_43_code
def yX6_growsAll : MethodName := ⟨RX6, "growsAll", "()V"⟩
def dkwX6_growsAll_2 : List UInt8 := [182, 0, 69, 4, 100, 184, 0, 153, 182, 0, 87, 132, 1, 1, 167, 255, 198, 177]
abbrev dktX6_growsAll_2 : List UInt8 := dkwX6_growsAll_2 ++ []
def dkwX6_growsAll_1 : List UInt8 := [27, 5, 182, 0, 69, 42, 180, 0, 7, 5, 46, 96, 182, 0, 87, 42, 27, 7, 3, 42, 27, 7]
abbrev dktX6_growsAll_1 : List UInt8 := dkwX6_growsAll_1 ++ dktX6_growsAll_2
def dkwX6_growsAll_0 : List UInt8 := [3, 60, 27, 42, 180, 0, 7, 3, 46, 162, 0, 54, 42, 27, 182, 0, 84, 153, 0, 22, 42, 27, 5, 42]
abbrev dktX6_growsAll_0 : List UInt8 := dkwX6_growsAll_0 ++ dktX6_growsAll_1
theorem dksX6_growsAll_0 : cX6_growsAll.data.toList.drop 0 = dktX6_growsAll_0 := by decide +kernel
theorem dksX6_growsAll_1 : cX6_growsAll.data.toList.drop 24 = dktX6_growsAll_1 := dk_seg dksX6_growsAll_0 24 rfl rfl
theorem dksX6_growsAll_2 : cX6_growsAll.data.toList.drop 46 = dktX6_growsAll_2 := dk_seg dksX6_growsAll_1 22 rfl rfl
theorem dX6_growsAll_0 : decode cX6_growsAll 0 = .ok (.iconst 0, 1) := dk_3 (dk_at dksX6_growsAll_0 0 rfl rfl)
theorem dX6_growsAll_1 : decode cX6_growsAll 1 = .ok (.istore_n 1, 1) := dk_60 (dk_at dksX6_growsAll_0 1 rfl rfl)
theorem dX6_growsAll_2 : decode cX6_growsAll 2 = .ok (.iload_n 1, 1) := dk_27 (dk_at dksX6_growsAll_0 2 rfl rfl)
theorem dX6_growsAll_3 : decode cX6_growsAll 3 = .ok (.aload_n 0, 1) := dk_42 (dk_at dksX6_growsAll_0 3 rfl rfl)
theorem dX6_growsAll_4 : decode cX6_growsAll 4 = .ok (.getfield 7, 3) := dk_180 0 7 (dk_at dksX6_growsAll_0 4 rfl rfl)
theorem dX6_growsAll_7 : decode cX6_growsAll 7 = .ok (.iconst 0, 1) := dk_3 (dk_at dksX6_growsAll_0 7 rfl rfl)
theorem dX6_growsAll_8 : decode cX6_growsAll 8 = .ok (.iaload, 1) := dk_46 (dk_at dksX6_growsAll_0 8 rfl rfl)
theorem dX6_growsAll_9 : decode cX6_growsAll 9 = .ok (.if_icmp .ge 54, 3) := dk_162 0 54 (dk_at dksX6_growsAll_0 9 rfl rfl)
theorem dX6_growsAll_12 : decode cX6_growsAll 12 = .ok (.aload_n 0, 1) := dk_42 (dk_at dksX6_growsAll_0 12 rfl rfl)
theorem dX6_growsAll_13 : decode cX6_growsAll 13 = .ok (.iload_n 1, 1) := dk_27 (dk_at dksX6_growsAll_0 13 rfl rfl)
theorem dX6_growsAll_14 : decode cX6_growsAll 14 = .ok (.invokevirtual 84, 3) := dk_182 0 84 (dk_at dksX6_growsAll_0 14 rfl rfl)
theorem dX6_growsAll_17 : decode cX6_growsAll 17 = .ok (.ifCond .eq 22, 3) := dk_153 0 22 (dk_at dksX6_growsAll_0 17 rfl rfl)
theorem dX6_growsAll_20 : decode cX6_growsAll 20 = .ok (.aload_n 0, 1) := dk_42 (dk_at dksX6_growsAll_0 20 rfl rfl)
theorem dX6_growsAll_21 : decode cX6_growsAll 21 = .ok (.iload_n 1, 1) := dk_27 (dk_at dksX6_growsAll_0 21 rfl rfl)
theorem dX6_growsAll_22 : decode cX6_growsAll 22 = .ok (.iconst 2, 1) := dk_5 (dk_at dksX6_growsAll_0 22 rfl rfl)
theorem dX6_growsAll_23 : decode cX6_growsAll 23 = .ok (.aload_n 0, 1) := dk_42 (dk_at dksX6_growsAll_0 23 rfl rfl)
theorem dX6_growsAll_24 : decode cX6_growsAll 24 = .ok (.iload_n 1, 1) := dk_27 (dk_at dksX6_growsAll_1 0 rfl rfl)
theorem dX6_growsAll_25 : decode cX6_growsAll 25 = .ok (.iconst 2, 1) := dk_5 (dk_at dksX6_growsAll_1 1 rfl rfl)
theorem dX6_growsAll_26 : decode cX6_growsAll 26 = .ok (.invokevirtual 69, 3) := dk_182 0 69 (dk_at dksX6_growsAll_1 2 rfl rfl)
theorem dX6_growsAll_29 : decode cX6_growsAll 29 = .ok (.aload_n 0, 1) := dk_42 (dk_at dksX6_growsAll_1 5 rfl rfl)
theorem dX6_growsAll_30 : decode cX6_growsAll 30 = .ok (.getfield 7, 3) := dk_180 0 7 (dk_at dksX6_growsAll_1 6 rfl rfl)
theorem dX6_growsAll_33 : decode cX6_growsAll 33 = .ok (.iconst 2, 1) := dk_5 (dk_at dksX6_growsAll_1 9 rfl rfl)
theorem dX6_growsAll_34 : decode cX6_growsAll 34 = .ok (.iaload, 1) := dk_46 (dk_at dksX6_growsAll_1 10 rfl rfl)
theorem dX6_growsAll_35 : decode cX6_growsAll 35 = .ok (.iadd, 1) := dk_96 (dk_at dksX6_growsAll_1 11 rfl rfl)
theorem dX6_growsAll_36 : decode cX6_growsAll 36 = .ok (.invokevirtual 87, 3) := dk_182 0 87 (dk_at dksX6_growsAll_1 12 rfl rfl)
theorem dX6_growsAll_39 : decode cX6_growsAll 39 = .ok (.aload_n 0, 1) := dk_42 (dk_at dksX6_growsAll_1 15 rfl rfl)
theorem dX6_growsAll_40 : decode cX6_growsAll 40 = .ok (.iload_n 1, 1) := dk_27 (dk_at dksX6_growsAll_1 16 rfl rfl)
theorem dX6_growsAll_41 : decode cX6_growsAll 41 = .ok (.iconst 4, 1) := dk_7 (dk_at dksX6_growsAll_1 17 rfl rfl)
theorem dX6_growsAll_42 : decode cX6_growsAll 42 = .ok (.iconst 0, 1) := dk_3 (dk_at dksX6_growsAll_1 18 rfl rfl)
theorem dX6_growsAll_43 : decode cX6_growsAll 43 = .ok (.aload_n 0, 1) := dk_42 (dk_at dksX6_growsAll_1 19 rfl rfl)
theorem dX6_growsAll_44 : decode cX6_growsAll 44 = .ok (.iload_n 1, 1) := dk_27 (dk_at dksX6_growsAll_1 20 rfl rfl)
theorem dX6_growsAll_45 : decode cX6_growsAll 45 = .ok (.iconst 4, 1) := dk_7 (dk_at dksX6_growsAll_1 21 rfl rfl)
theorem dX6_growsAll_46 : decode cX6_growsAll 46 = .ok (.invokevirtual 69, 3) := dk_182 0 69 (dk_at dksX6_growsAll_2 0 rfl rfl)
theorem dX6_growsAll_49 : decode cX6_growsAll 49 = .ok (.iconst 1, 1) := dk_4 (dk_at dksX6_growsAll_2 3 rfl rfl)
theorem dX6_growsAll_50 : decode cX6_growsAll 50 = .ok (.isub, 1) := dk_100 (dk_at dksX6_growsAll_2 4 rfl rfl)
theorem dX6_growsAll_51 : decode cX6_growsAll 51 = .ok (.invokestatic 153, 3) := dk_184 0 153 (dk_at dksX6_growsAll_2 5 rfl rfl)
theorem dX6_growsAll_54 : decode cX6_growsAll 54 = .ok (.invokevirtual 87, 3) := dk_182 0 87 (dk_at dksX6_growsAll_2 8 rfl rfl)
theorem dX6_growsAll_57 : decode cX6_growsAll 57 = .ok (.iinc 1 1, 3) := dk_132 1 1 (dk_at dksX6_growsAll_2 11 rfl rfl)
theorem dX6_growsAll_60 : decode cX6_growsAll 60 = .ok (.goto (-58), 3) := dk_167 255 198 (dk_at dksX6_growsAll_2 14 rfl rfl)
theorem dX6_growsAll_63 : decode cX6_growsAll 63 = .ok (.return_, 1) := dk_177 (dk_at dksX6_growsAll_2 17 rfl rfl)
abbrev cX6_inspects : ByteArray := prog_14_method_47_code
def yX6_inspects : MethodName := ⟨RX6, "inspects", "()V"⟩
def dkwX6_inspects_7 : List UInt8 := [28, 46, 182, 0, 170, 42, 27, 182, 0, 131, 167, 255, 195, 177]
abbrev dktX6_inspects_7 : List UInt8 := dkwX6_inspects_7 ++ []
def dkwX6_inspects_6 : List UInt8 := [154, 0, 9, 132, 1, 1, 167, 255, 223, 42, 42, 180, 0, 7, 28, 16, 14, 96, 46, 28, 42, 180, 0, 7]
abbrev dktX6_inspects_6 : List UInt8 := dkwX6_inspects_6 ++ dktX6_inspects_7
def dkwX6_inspects_5 : List UInt8 := [16, 11, 46, 162, 0, 56, 27, 184, 0, 95, 61, 42, 28, 42, 180, 0, 7, 28, 46, 182, 0, 167]
abbrev dktX6_inspects_5 : List UInt8 := dkwX6_inspects_5 ++ dktX6_inspects_6
def dkwX6_inspects_4 : List UInt8 := [182, 0, 170, 42, 180, 0, 7, 28, 3, 79, 132, 1, 1, 167, 255, 196, 3, 60, 27, 42, 180, 0, 7]
abbrev dktX6_inspects_4 : List UInt8 := dkwX6_inspects_4 ++ dktX6_inspects_5
def dkwX6_inspects_3 : List UInt8 := [16, 14, 96, 46, 182, 0, 167, 153, 0, 25, 42, 27, 28, 42, 180, 0, 7, 28, 16, 14, 96, 46]
abbrev dktX6_inspects_3 : List UInt8 := dkwX6_inspects_3 ++ dktX6_inspects_4
def dkwX6_inspects_2 : List UInt8 := [162, 0, 61, 27, 184, 0, 91, 61, 42, 27, 182, 0, 134, 153, 0, 42, 42, 28, 42, 180, 0, 7, 28]
abbrev dktX6_inspects_2 : List UInt8 := dkwX6_inspects_2 ++ dktX6_inspects_3
def dkwX6_inspects_1 : List UInt8 := [182, 0, 124, 42, 180, 0, 7, 16, 9, 92, 46, 4, 96, 79, 132, 1, 1, 167, 255, 219, 3, 60, 27, 5]
abbrev dktX6_inspects_1 : List UInt8 := dkwX6_inspects_1 ++ dktX6_inspects_2
def dkwX6_inspects_0 : List UInt8 := [3, 60, 27, 42, 180, 0, 7, 3, 46, 162, 0, 33, 42, 27, 182, 0, 164, 153, 0, 19, 42, 27]
abbrev dktX6_inspects_0 : List UInt8 := dkwX6_inspects_0 ++ dktX6_inspects_1
theorem dksX6_inspects_0 : cX6_inspects.data.toList.drop 0 = dktX6_inspects_0 := by decide +kernel
theorem dksX6_inspects_1 : cX6_inspects.data.toList.drop 22 = dktX6_inspects_1 := dk_seg dksX6_inspects_0 22 rfl rfl
theorem dksX6_inspects_2 : cX6_inspects.data.toList.drop 46 = dktX6_inspects_2 := dk_seg dksX6_inspects_1 24 rfl rfl
theorem dksX6_inspects_3 : cX6_inspects.data.toList.drop 69 = dktX6_inspects_3 := dk_seg dksX6_inspects_2 23 rfl rfl
theorem dksX6_inspects_4 : cX6_inspects.data.toList.drop 91 = dktX6_inspects_4 := dk_seg dksX6_inspects_3 22 rfl rfl
theorem dksX6_inspects_5 : cX6_inspects.data.toList.drop 114 = dktX6_inspects_5 := dk_seg dksX6_inspects_4 23 rfl rfl
theorem dksX6_inspects_6 : cX6_inspects.data.toList.drop 136 = dktX6_inspects_6 := dk_seg dksX6_inspects_5 22 rfl rfl
theorem dksX6_inspects_7 : cX6_inspects.data.toList.drop 160 = dktX6_inspects_7 := dk_seg dksX6_inspects_6 24 rfl rfl
theorem dX6_inspects_0 : decode cX6_inspects 0 = .ok (.iconst 0, 1) := dk_3 (dk_at dksX6_inspects_0 0 rfl rfl)
theorem dX6_inspects_1 : decode cX6_inspects 1 = .ok (.istore_n 1, 1) := dk_60 (dk_at dksX6_inspects_0 1 rfl rfl)
theorem dX6_inspects_2 : decode cX6_inspects 2 = .ok (.iload_n 1, 1) := dk_27 (dk_at dksX6_inspects_0 2 rfl rfl)
theorem dX6_inspects_3 : decode cX6_inspects 3 = .ok (.aload_n 0, 1) := dk_42 (dk_at dksX6_inspects_0 3 rfl rfl)
theorem dX6_inspects_4 : decode cX6_inspects 4 = .ok (.getfield 7, 3) := dk_180 0 7 (dk_at dksX6_inspects_0 4 rfl rfl)
theorem dX6_inspects_7 : decode cX6_inspects 7 = .ok (.iconst 0, 1) := dk_3 (dk_at dksX6_inspects_0 7 rfl rfl)
theorem dX6_inspects_8 : decode cX6_inspects 8 = .ok (.iaload, 1) := dk_46 (dk_at dksX6_inspects_0 8 rfl rfl)
theorem dX6_inspects_9 : decode cX6_inspects 9 = .ok (.if_icmp .ge 33, 3) := dk_162 0 33 (dk_at dksX6_inspects_0 9 rfl rfl)
theorem dX6_inspects_12 : decode cX6_inspects 12 = .ok (.aload_n 0, 1) := dk_42 (dk_at dksX6_inspects_0 12 rfl rfl)
theorem dX6_inspects_13 : decode cX6_inspects 13 = .ok (.iload_n 1, 1) := dk_27 (dk_at dksX6_inspects_0 13 rfl rfl)
theorem dX6_inspects_14 : decode cX6_inspects 14 = .ok (.invokevirtual 164, 3) := dk_182 0 164 (dk_at dksX6_inspects_0 14 rfl rfl)
theorem dX6_inspects_17 : decode cX6_inspects 17 = .ok (.ifCond .eq 19, 3) := dk_153 0 19 (dk_at dksX6_inspects_0 17 rfl rfl)
theorem dX6_inspects_20 : decode cX6_inspects 20 = .ok (.aload_n 0, 1) := dk_42 (dk_at dksX6_inspects_0 20 rfl rfl)
theorem dX6_inspects_21 : decode cX6_inspects 21 = .ok (.iload_n 1, 1) := dk_27 (dk_at dksX6_inspects_0 21 rfl rfl)
theorem dX6_inspects_22 : decode cX6_inspects 22 = .ok (.invokevirtual 124, 3) := dk_182 0 124 (dk_at dksX6_inspects_1 0 rfl rfl)
theorem dX6_inspects_25 : decode cX6_inspects 25 = .ok (.aload_n 0, 1) := dk_42 (dk_at dksX6_inspects_1 3 rfl rfl)
theorem dX6_inspects_26 : decode cX6_inspects 26 = .ok (.getfield 7, 3) := dk_180 0 7 (dk_at dksX6_inspects_1 4 rfl rfl)
theorem dX6_inspects_29 : decode cX6_inspects 29 = .ok (.bipush 9, 2) := dk_16 9 (dk_at dksX6_inspects_1 7 rfl rfl)
theorem dX6_inspects_31 : decode cX6_inspects 31 = .ok (.dup2, 1) := dk_92 (dk_at dksX6_inspects_1 9 rfl rfl)
theorem dX6_inspects_32 : decode cX6_inspects 32 = .ok (.iaload, 1) := dk_46 (dk_at dksX6_inspects_1 10 rfl rfl)
theorem dX6_inspects_33 : decode cX6_inspects 33 = .ok (.iconst 1, 1) := dk_4 (dk_at dksX6_inspects_1 11 rfl rfl)
theorem dX6_inspects_34 : decode cX6_inspects 34 = .ok (.iadd, 1) := dk_96 (dk_at dksX6_inspects_1 12 rfl rfl)
theorem dX6_inspects_35 : decode cX6_inspects 35 = .ok (.iastore, 1) := dk_79 (dk_at dksX6_inspects_1 13 rfl rfl)
theorem dX6_inspects_36 : decode cX6_inspects 36 = .ok (.iinc 1 1, 3) := dk_132 1 1 (dk_at dksX6_inspects_1 14 rfl rfl)
theorem dX6_inspects_39 : decode cX6_inspects 39 = .ok (.goto (-37), 3) := dk_167 255 219 (dk_at dksX6_inspects_1 17 rfl rfl)
theorem dX6_inspects_42 : decode cX6_inspects 42 = .ok (.iconst 0, 1) := dk_3 (dk_at dksX6_inspects_1 20 rfl rfl)
theorem dX6_inspects_43 : decode cX6_inspects 43 = .ok (.istore_n 1, 1) := dk_60 (dk_at dksX6_inspects_1 21 rfl rfl)
theorem dX6_inspects_44 : decode cX6_inspects 44 = .ok (.iload_n 1, 1) := dk_27 (dk_at dksX6_inspects_1 22 rfl rfl)
theorem dX6_inspects_45 : decode cX6_inspects 45 = .ok (.iconst 2, 1) := dk_5 (dk_at dksX6_inspects_1 23 rfl rfl)
theorem dX6_inspects_46 : decode cX6_inspects 46 = .ok (.if_icmp .ge 61, 3) := dk_162 0 61 (dk_at dksX6_inspects_2 0 rfl rfl)
theorem dX6_inspects_49 : decode cX6_inspects 49 = .ok (.iload_n 1, 1) := dk_27 (dk_at dksX6_inspects_2 3 rfl rfl)
theorem dX6_inspects_50 : decode cX6_inspects 50 = .ok (.invokestatic 91, 3) := dk_184 0 91 (dk_at dksX6_inspects_2 4 rfl rfl)
theorem dX6_inspects_53 : decode cX6_inspects 53 = .ok (.istore_n 2, 1) := dk_61 (dk_at dksX6_inspects_2 7 rfl rfl)
theorem dX6_inspects_54 : decode cX6_inspects 54 = .ok (.aload_n 0, 1) := dk_42 (dk_at dksX6_inspects_2 8 rfl rfl)
theorem dX6_inspects_55 : decode cX6_inspects 55 = .ok (.iload_n 1, 1) := dk_27 (dk_at dksX6_inspects_2 9 rfl rfl)
theorem dX6_inspects_56 : decode cX6_inspects 56 = .ok (.invokevirtual 134, 3) := dk_182 0 134 (dk_at dksX6_inspects_2 10 rfl rfl)
theorem dX6_inspects_59 : decode cX6_inspects 59 = .ok (.ifCond .eq 42, 3) := dk_153 0 42 (dk_at dksX6_inspects_2 13 rfl rfl)
theorem dX6_inspects_62 : decode cX6_inspects 62 = .ok (.aload_n 0, 1) := dk_42 (dk_at dksX6_inspects_2 16 rfl rfl)
theorem dX6_inspects_63 : decode cX6_inspects 63 = .ok (.iload_n 2, 1) := dk_28 (dk_at dksX6_inspects_2 17 rfl rfl)
theorem dX6_inspects_64 : decode cX6_inspects 64 = .ok (.aload_n 0, 1) := dk_42 (dk_at dksX6_inspects_2 18 rfl rfl)
theorem dX6_inspects_65 : decode cX6_inspects 65 = .ok (.getfield 7, 3) := dk_180 0 7 (dk_at dksX6_inspects_2 19 rfl rfl)
theorem dX6_inspects_68 : decode cX6_inspects 68 = .ok (.iload_n 2, 1) := dk_28 (dk_at dksX6_inspects_2 22 rfl rfl)
theorem dX6_inspects_69 : decode cX6_inspects 69 = .ok (.bipush 14, 2) := dk_16 14 (dk_at dksX6_inspects_3 0 rfl rfl)
theorem dX6_inspects_71 : decode cX6_inspects 71 = .ok (.iadd, 1) := dk_96 (dk_at dksX6_inspects_3 2 rfl rfl)
theorem dX6_inspects_72 : decode cX6_inspects 72 = .ok (.iaload, 1) := dk_46 (dk_at dksX6_inspects_3 3 rfl rfl)
theorem dX6_inspects_73 : decode cX6_inspects 73 = .ok (.invokevirtual 167, 3) := dk_182 0 167 (dk_at dksX6_inspects_3 4 rfl rfl)
theorem dX6_inspects_76 : decode cX6_inspects 76 = .ok (.ifCond .eq 25, 3) := dk_153 0 25 (dk_at dksX6_inspects_3 7 rfl rfl)
theorem dX6_inspects_79 : decode cX6_inspects 79 = .ok (.aload_n 0, 1) := dk_42 (dk_at dksX6_inspects_3 10 rfl rfl)
theorem dX6_inspects_80 : decode cX6_inspects 80 = .ok (.iload_n 1, 1) := dk_27 (dk_at dksX6_inspects_3 11 rfl rfl)
theorem dX6_inspects_81 : decode cX6_inspects 81 = .ok (.iload_n 2, 1) := dk_28 (dk_at dksX6_inspects_3 12 rfl rfl)
theorem dX6_inspects_82 : decode cX6_inspects 82 = .ok (.aload_n 0, 1) := dk_42 (dk_at dksX6_inspects_3 13 rfl rfl)
theorem dX6_inspects_83 : decode cX6_inspects 83 = .ok (.getfield 7, 3) := dk_180 0 7 (dk_at dksX6_inspects_3 14 rfl rfl)
theorem dX6_inspects_86 : decode cX6_inspects 86 = .ok (.iload_n 2, 1) := dk_28 (dk_at dksX6_inspects_3 17 rfl rfl)
theorem dX6_inspects_87 : decode cX6_inspects 87 = .ok (.bipush 14, 2) := dk_16 14 (dk_at dksX6_inspects_3 18 rfl rfl)
theorem dX6_inspects_89 : decode cX6_inspects 89 = .ok (.iadd, 1) := dk_96 (dk_at dksX6_inspects_3 20 rfl rfl)
theorem dX6_inspects_90 : decode cX6_inspects 90 = .ok (.iaload, 1) := dk_46 (dk_at dksX6_inspects_3 21 rfl rfl)
theorem dX6_inspects_91 : decode cX6_inspects 91 = .ok (.invokevirtual 170, 3) := dk_182 0 170 (dk_at dksX6_inspects_4 0 rfl rfl)
theorem dX6_inspects_94 : decode cX6_inspects 94 = .ok (.aload_n 0, 1) := dk_42 (dk_at dksX6_inspects_4 3 rfl rfl)
theorem dX6_inspects_95 : decode cX6_inspects 95 = .ok (.getfield 7, 3) := dk_180 0 7 (dk_at dksX6_inspects_4 4 rfl rfl)
theorem dX6_inspects_98 : decode cX6_inspects 98 = .ok (.iload_n 2, 1) := dk_28 (dk_at dksX6_inspects_4 7 rfl rfl)
theorem dX6_inspects_99 : decode cX6_inspects 99 = .ok (.iconst 0, 1) := dk_3 (dk_at dksX6_inspects_4 8 rfl rfl)
theorem dX6_inspects_100 : decode cX6_inspects 100 = .ok (.iastore, 1) := dk_79 (dk_at dksX6_inspects_4 9 rfl rfl)
theorem dX6_inspects_101 : decode cX6_inspects 101 = .ok (.iinc 1 1, 3) := dk_132 1 1 (dk_at dksX6_inspects_4 10 rfl rfl)
theorem dX6_inspects_104 : decode cX6_inspects 104 = .ok (.goto (-60), 3) := dk_167 255 196 (dk_at dksX6_inspects_4 13 rfl rfl)
theorem dX6_inspects_107 : decode cX6_inspects 107 = .ok (.iconst 0, 1) := dk_3 (dk_at dksX6_inspects_4 16 rfl rfl)
theorem dX6_inspects_108 : decode cX6_inspects 108 = .ok (.istore_n 1, 1) := dk_60 (dk_at dksX6_inspects_4 17 rfl rfl)
theorem dX6_inspects_109 : decode cX6_inspects 109 = .ok (.iload_n 1, 1) := dk_27 (dk_at dksX6_inspects_4 18 rfl rfl)
theorem dX6_inspects_110 : decode cX6_inspects 110 = .ok (.aload_n 0, 1) := dk_42 (dk_at dksX6_inspects_4 19 rfl rfl)
theorem dX6_inspects_111 : decode cX6_inspects 111 = .ok (.getfield 7, 3) := dk_180 0 7 (dk_at dksX6_inspects_4 20 rfl rfl)
theorem dX6_inspects_114 : decode cX6_inspects 114 = .ok (.bipush 11, 2) := dk_16 11 (dk_at dksX6_inspects_5 0 rfl rfl)
theorem dX6_inspects_116 : decode cX6_inspects 116 = .ok (.iaload, 1) := dk_46 (dk_at dksX6_inspects_5 2 rfl rfl)
theorem dX6_inspects_117 : decode cX6_inspects 117 = .ok (.if_icmp .ge 56, 3) := dk_162 0 56 (dk_at dksX6_inspects_5 3 rfl rfl)
theorem dX6_inspects_120 : decode cX6_inspects 120 = .ok (.iload_n 1, 1) := dk_27 (dk_at dksX6_inspects_5 6 rfl rfl)
theorem dX6_inspects_121 : decode cX6_inspects 121 = .ok (.invokestatic 95, 3) := dk_184 0 95 (dk_at dksX6_inspects_5 7 rfl rfl)
theorem dX6_inspects_124 : decode cX6_inspects 124 = .ok (.istore_n 2, 1) := dk_61 (dk_at dksX6_inspects_5 10 rfl rfl)
theorem dX6_inspects_125 : decode cX6_inspects 125 = .ok (.aload_n 0, 1) := dk_42 (dk_at dksX6_inspects_5 11 rfl rfl)
theorem dX6_inspects_126 : decode cX6_inspects 126 = .ok (.iload_n 2, 1) := dk_28 (dk_at dksX6_inspects_5 12 rfl rfl)
theorem dX6_inspects_127 : decode cX6_inspects 127 = .ok (.aload_n 0, 1) := dk_42 (dk_at dksX6_inspects_5 13 rfl rfl)
theorem dX6_inspects_128 : decode cX6_inspects 128 = .ok (.getfield 7, 3) := dk_180 0 7 (dk_at dksX6_inspects_5 14 rfl rfl)
theorem dX6_inspects_131 : decode cX6_inspects 131 = .ok (.iload_n 2, 1) := dk_28 (dk_at dksX6_inspects_5 17 rfl rfl)
theorem dX6_inspects_132 : decode cX6_inspects 132 = .ok (.iaload, 1) := dk_46 (dk_at dksX6_inspects_5 18 rfl rfl)
theorem dX6_inspects_133 : decode cX6_inspects 133 = .ok (.invokevirtual 167, 3) := dk_182 0 167 (dk_at dksX6_inspects_5 19 rfl rfl)
theorem dX6_inspects_136 : decode cX6_inspects 136 = .ok (.ifCond .ne 9, 3) := dk_154 0 9 (dk_at dksX6_inspects_6 0 rfl rfl)
theorem dX6_inspects_139 : decode cX6_inspects 139 = .ok (.iinc 1 1, 3) := dk_132 1 1 (dk_at dksX6_inspects_6 3 rfl rfl)
theorem dX6_inspects_142 : decode cX6_inspects 142 = .ok (.goto (-33), 3) := dk_167 255 223 (dk_at dksX6_inspects_6 6 rfl rfl)
theorem dX6_inspects_145 : decode cX6_inspects 145 = .ok (.aload_n 0, 1) := dk_42 (dk_at dksX6_inspects_6 9 rfl rfl)
theorem dX6_inspects_146 : decode cX6_inspects 146 = .ok (.aload_n 0, 1) := dk_42 (dk_at dksX6_inspects_6 10 rfl rfl)
theorem dX6_inspects_147 : decode cX6_inspects 147 = .ok (.getfield 7, 3) := dk_180 0 7 (dk_at dksX6_inspects_6 11 rfl rfl)
theorem dX6_inspects_150 : decode cX6_inspects 150 = .ok (.iload_n 2, 1) := dk_28 (dk_at dksX6_inspects_6 14 rfl rfl)
theorem dX6_inspects_151 : decode cX6_inspects 151 = .ok (.bipush 14, 2) := dk_16 14 (dk_at dksX6_inspects_6 15 rfl rfl)
theorem dX6_inspects_153 : decode cX6_inspects 153 = .ok (.iadd, 1) := dk_96 (dk_at dksX6_inspects_6 17 rfl rfl)
theorem dX6_inspects_154 : decode cX6_inspects 154 = .ok (.iaload, 1) := dk_46 (dk_at dksX6_inspects_6 18 rfl rfl)
theorem dX6_inspects_155 : decode cX6_inspects 155 = .ok (.iload_n 2, 1) := dk_28 (dk_at dksX6_inspects_6 19 rfl rfl)
theorem dX6_inspects_156 : decode cX6_inspects 156 = .ok (.aload_n 0, 1) := dk_42 (dk_at dksX6_inspects_6 20 rfl rfl)
theorem dX6_inspects_157 : decode cX6_inspects 157 = .ok (.getfield 7, 3) := dk_180 0 7 (dk_at dksX6_inspects_6 21 rfl rfl)
theorem dX6_inspects_160 : decode cX6_inspects 160 = .ok (.iload_n 2, 1) := dk_28 (dk_at dksX6_inspects_7 0 rfl rfl)
theorem dX6_inspects_161 : decode cX6_inspects 161 = .ok (.iaload, 1) := dk_46 (dk_at dksX6_inspects_7 1 rfl rfl)
theorem dX6_inspects_162 : decode cX6_inspects 162 = .ok (.invokevirtual 170, 3) := dk_182 0 170 (dk_at dksX6_inspects_7 2 rfl rfl)
theorem dX6_inspects_165 : decode cX6_inspects 165 = .ok (.aload_n 0, 1) := dk_42 (dk_at dksX6_inspects_7 5 rfl rfl)
theorem dX6_inspects_166 : decode cX6_inspects 166 = .ok (.iload_n 1, 1) := dk_27 (dk_at dksX6_inspects_7 6 rfl rfl)
theorem dX6_inspects_167 : decode cX6_inspects 167 = .ok (.invokevirtual 131, 3) := dk_182 0 131 (dk_at dksX6_inspects_7 7 rfl rfl)
theorem dX6_inspects_170 : decode cX6_inspects 170 = .ok (.goto (-61), 3) := dk_167 255 195 (dk_at dksX6_inspects_7 10 rfl rfl)
theorem dX6_inspects_173 : decode cX6_inspects 173 = .ok (.return_, 1) := dk_177 (dk_at dksX6_inspects_7 13 rfl rfl)
abbrev cX6_wouldPrune : ByteArray := prog_14_method_44_code
def yX6_wouldPrune : MethodName := ⟨RX6, "wouldPrune", "(I)Z"⟩
def dkwX6_wouldPrune_1 : List UInt8 := [27, 182, 0, 158, 154, 0, 7, 4, 167, 0, 4, 3, 172]
abbrev dktX6_wouldPrune_1 : List UInt8 := dkwX6_wouldPrune_1 ++ []
def dkwX6_wouldPrune_0 : List UInt8 := [42, 27, 182, 0, 84, 153, 0, 30, 42, 27, 5, 182, 0, 69, 42, 180, 0, 7, 6, 46, 164, 0, 15, 42]
abbrev dktX6_wouldPrune_0 : List UInt8 := dkwX6_wouldPrune_0 ++ dktX6_wouldPrune_1
theorem dksX6_wouldPrune_0 : cX6_wouldPrune.data.toList.drop 0 = dktX6_wouldPrune_0 := by decide +kernel
theorem dksX6_wouldPrune_1 : cX6_wouldPrune.data.toList.drop 24 = dktX6_wouldPrune_1 := dk_seg dksX6_wouldPrune_0 24 rfl rfl
theorem dX6_wouldPrune_0 : decode cX6_wouldPrune 0 = .ok (.aload_n 0, 1) := dk_42 (dk_at dksX6_wouldPrune_0 0 rfl rfl)
theorem dX6_wouldPrune_1 : decode cX6_wouldPrune 1 = .ok (.iload_n 1, 1) := dk_27 (dk_at dksX6_wouldPrune_0 1 rfl rfl)
theorem dX6_wouldPrune_2 : decode cX6_wouldPrune 2 = .ok (.invokevirtual 84, 3) := dk_182 0 84 (dk_at dksX6_wouldPrune_0 2 rfl rfl)
theorem dX6_wouldPrune_5 : decode cX6_wouldPrune 5 = .ok (.ifCond .eq 30, 3) := dk_153 0 30 (dk_at dksX6_wouldPrune_0 5 rfl rfl)
theorem dX6_wouldPrune_8 : decode cX6_wouldPrune 8 = .ok (.aload_n 0, 1) := dk_42 (dk_at dksX6_wouldPrune_0 8 rfl rfl)
theorem dX6_wouldPrune_9 : decode cX6_wouldPrune 9 = .ok (.iload_n 1, 1) := dk_27 (dk_at dksX6_wouldPrune_0 9 rfl rfl)
theorem dX6_wouldPrune_10 : decode cX6_wouldPrune 10 = .ok (.iconst 2, 1) := dk_5 (dk_at dksX6_wouldPrune_0 10 rfl rfl)
theorem dX6_wouldPrune_11 : decode cX6_wouldPrune 11 = .ok (.invokevirtual 69, 3) := dk_182 0 69 (dk_at dksX6_wouldPrune_0 11 rfl rfl)
theorem dX6_wouldPrune_14 : decode cX6_wouldPrune 14 = .ok (.aload_n 0, 1) := dk_42 (dk_at dksX6_wouldPrune_0 14 rfl rfl)
theorem dX6_wouldPrune_15 : decode cX6_wouldPrune 15 = .ok (.getfield 7, 3) := dk_180 0 7 (dk_at dksX6_wouldPrune_0 15 rfl rfl)
theorem dX6_wouldPrune_18 : decode cX6_wouldPrune 18 = .ok (.iconst 3, 1) := dk_6 (dk_at dksX6_wouldPrune_0 18 rfl rfl)
theorem dX6_wouldPrune_19 : decode cX6_wouldPrune 19 = .ok (.iaload, 1) := dk_46 (dk_at dksX6_wouldPrune_0 19 rfl rfl)
theorem dX6_wouldPrune_20 : decode cX6_wouldPrune 20 = .ok (.if_icmp .le 15, 3) := dk_164 0 15 (dk_at dksX6_wouldPrune_0 20 rfl rfl)
theorem dX6_wouldPrune_23 : decode cX6_wouldPrune 23 = .ok (.aload_n 0, 1) := dk_42 (dk_at dksX6_wouldPrune_0 23 rfl rfl)
theorem dX6_wouldPrune_24 : decode cX6_wouldPrune 24 = .ok (.iload_n 1, 1) := dk_27 (dk_at dksX6_wouldPrune_1 0 rfl rfl)
theorem dX6_wouldPrune_25 : decode cX6_wouldPrune 25 = .ok (.invokevirtual 158, 3) := dk_182 0 158 (dk_at dksX6_wouldPrune_1 1 rfl rfl)
theorem dX6_wouldPrune_28 : decode cX6_wouldPrune 28 = .ok (.ifCond .ne 7, 3) := dk_154 0 7 (dk_at dksX6_wouldPrune_1 4 rfl rfl)
theorem dX6_wouldPrune_31 : decode cX6_wouldPrune 31 = .ok (.iconst 1, 1) := dk_4 (dk_at dksX6_wouldPrune_1 7 rfl rfl)
theorem dX6_wouldPrune_32 : decode cX6_wouldPrune 32 = .ok (.goto 4, 3) := dk_167 0 4 (dk_at dksX6_wouldPrune_1 8 rfl rfl)
theorem dX6_wouldPrune_35 : decode cX6_wouldPrune 35 = .ok (.iconst 0, 1) := dk_3 (dk_at dksX6_wouldPrune_1 11 rfl rfl)
theorem dX6_wouldPrune_36 : decode cX6_wouldPrune 36 = .ok (.ireturn, 1) := dk_172 (dk_at dksX6_wouldPrune_1 12 rfl rfl)
abbrev cX6_lostTwig : ByteArray := prog_14_method_45_code
def yX6_lostTwig : MethodName := ⟨RX6, "lostTwig", "(II)Z"⟩
def dkwX6_lostTwig_1 : List UInt8 := [154, 0, 5, 4, 172, 132, 3, 1, 167, 255, 228, 3, 172]
abbrev dktX6_lostTwig_1 : List UInt8 := dkwX6_lostTwig_1 ++ []
def dkwX6_lostTwig_0 : List UInt8 := [3, 62, 29, 28, 162, 0, 29, 42, 42, 180, 0, 7, 27, 16, 13, 96, 46, 29, 96, 182, 0, 84]
abbrev dktX6_lostTwig_0 : List UInt8 := dkwX6_lostTwig_0 ++ dktX6_lostTwig_1
theorem dksX6_lostTwig_0 : cX6_lostTwig.data.toList.drop 0 = dktX6_lostTwig_0 := by decide +kernel
theorem dksX6_lostTwig_1 : cX6_lostTwig.data.toList.drop 22 = dktX6_lostTwig_1 := dk_seg dksX6_lostTwig_0 22 rfl rfl
theorem dX6_lostTwig_0 : decode cX6_lostTwig 0 = .ok (.iconst 0, 1) := dk_3 (dk_at dksX6_lostTwig_0 0 rfl rfl)
theorem dX6_lostTwig_1 : decode cX6_lostTwig 1 = .ok (.istore_n 3, 1) := dk_62 (dk_at dksX6_lostTwig_0 1 rfl rfl)
theorem dX6_lostTwig_2 : decode cX6_lostTwig 2 = .ok (.iload_n 3, 1) := dk_29 (dk_at dksX6_lostTwig_0 2 rfl rfl)
theorem dX6_lostTwig_3 : decode cX6_lostTwig 3 = .ok (.iload_n 2, 1) := dk_28 (dk_at dksX6_lostTwig_0 3 rfl rfl)
theorem dX6_lostTwig_4 : decode cX6_lostTwig 4 = .ok (.if_icmp .ge 29, 3) := dk_162 0 29 (dk_at dksX6_lostTwig_0 4 rfl rfl)
theorem dX6_lostTwig_7 : decode cX6_lostTwig 7 = .ok (.aload_n 0, 1) := dk_42 (dk_at dksX6_lostTwig_0 7 rfl rfl)
theorem dX6_lostTwig_8 : decode cX6_lostTwig 8 = .ok (.aload_n 0, 1) := dk_42 (dk_at dksX6_lostTwig_0 8 rfl rfl)
theorem dX6_lostTwig_9 : decode cX6_lostTwig 9 = .ok (.getfield 7, 3) := dk_180 0 7 (dk_at dksX6_lostTwig_0 9 rfl rfl)
theorem dX6_lostTwig_12 : decode cX6_lostTwig 12 = .ok (.iload_n 1, 1) := dk_27 (dk_at dksX6_lostTwig_0 12 rfl rfl)
theorem dX6_lostTwig_13 : decode cX6_lostTwig 13 = .ok (.bipush 13, 2) := dk_16 13 (dk_at dksX6_lostTwig_0 13 rfl rfl)
theorem dX6_lostTwig_15 : decode cX6_lostTwig 15 = .ok (.iadd, 1) := dk_96 (dk_at dksX6_lostTwig_0 15 rfl rfl)
theorem dX6_lostTwig_16 : decode cX6_lostTwig 16 = .ok (.iaload, 1) := dk_46 (dk_at dksX6_lostTwig_0 16 rfl rfl)
theorem dX6_lostTwig_17 : decode cX6_lostTwig 17 = .ok (.iload_n 3, 1) := dk_29 (dk_at dksX6_lostTwig_0 17 rfl rfl)
theorem dX6_lostTwig_18 : decode cX6_lostTwig 18 = .ok (.iadd, 1) := dk_96 (dk_at dksX6_lostTwig_0 18 rfl rfl)
theorem dX6_lostTwig_19 : decode cX6_lostTwig 19 = .ok (.invokevirtual 84, 3) := dk_182 0 84 (dk_at dksX6_lostTwig_0 19 rfl rfl)
theorem dX6_lostTwig_22 : decode cX6_lostTwig 22 = .ok (.ifCond .ne 5, 3) := dk_154 0 5 (dk_at dksX6_lostTwig_1 0 rfl rfl)
theorem dX6_lostTwig_25 : decode cX6_lostTwig 25 = .ok (.iconst 1, 1) := dk_4 (dk_at dksX6_lostTwig_1 3 rfl rfl)
theorem dX6_lostTwig_26 : decode cX6_lostTwig 26 = .ok (.ireturn, 1) := dk_172 (dk_at dksX6_lostTwig_1 4 rfl rfl)
theorem dX6_lostTwig_27 : decode cX6_lostTwig 27 = .ok (.iinc 3 1, 3) := dk_132 3 1 (dk_at dksX6_lostTwig_1 5 rfl rfl)
theorem dX6_lostTwig_30 : decode cX6_lostTwig 30 = .ok (.goto (-28), 3) := dk_167 255 228 (dk_at dksX6_lostTwig_1 8 rfl rfl)
theorem dX6_lostTwig_33 : decode cX6_lostTwig 33 = .ok (.iconst 0, 1) := dk_3 (dk_at dksX6_lostTwig_1 11 rfl rfl)
theorem dX6_lostTwig_34 : decode cX6_lostTwig 34 = .ok (.ireturn, 1) := dk_172 (dk_at dksX6_lostTwig_1 12 rfl rfl)
abbrev cX6_fails : ByteArray := prog_14_method_46_code
def yX6_fails : MethodName := ⟨RX6, "fails", "(III)V"⟩
def dkwX6_fails_2 : List UInt8 := [167, 0, 9, 42, 27, 28, 182, 0, 161, 177]
abbrev dktX6_fails_2 : List UInt8 := dkwX6_fails_2 ++ []
def dkwX6_fails_1 : List UInt8 := [16, 12, 27, 96, 46, 16, 8, 160, 0, 19, 42, 180, 0, 7, 16, 20, 27, 96, 92, 46, 4, 96, 79]
abbrev dktX6_fails_1 : List UInt8 := dkwX6_fails_1 ++ dktX6_fails_2
def dkwX6_fails_0 : List UInt8 := [42, 28, 29, 182, 0, 128, 42, 180, 0, 7, 16, 18, 27, 96, 92, 46, 4, 96, 79, 42, 180, 0, 7]
abbrev dktX6_fails_0 : List UInt8 := dkwX6_fails_0 ++ dktX6_fails_1
theorem dksX6_fails_0 : cX6_fails.data.toList.drop 0 = dktX6_fails_0 := by decide +kernel
theorem dksX6_fails_1 : cX6_fails.data.toList.drop 23 = dktX6_fails_1 := dk_seg dksX6_fails_0 23 rfl rfl
theorem dksX6_fails_2 : cX6_fails.data.toList.drop 46 = dktX6_fails_2 := dk_seg dksX6_fails_1 23 rfl rfl
theorem dX6_fails_0 : decode cX6_fails 0 = .ok (.aload_n 0, 1) := dk_42 (dk_at dksX6_fails_0 0 rfl rfl)
theorem dX6_fails_1 : decode cX6_fails 1 = .ok (.iload_n 2, 1) := dk_28 (dk_at dksX6_fails_0 1 rfl rfl)
theorem dX6_fails_2 : decode cX6_fails 2 = .ok (.iload_n 3, 1) := dk_29 (dk_at dksX6_fails_0 2 rfl rfl)
theorem dX6_fails_3 : decode cX6_fails 3 = .ok (.invokevirtual 128, 3) := dk_182 0 128 (dk_at dksX6_fails_0 3 rfl rfl)
theorem dX6_fails_6 : decode cX6_fails 6 = .ok (.aload_n 0, 1) := dk_42 (dk_at dksX6_fails_0 6 rfl rfl)
theorem dX6_fails_7 : decode cX6_fails 7 = .ok (.getfield 7, 3) := dk_180 0 7 (dk_at dksX6_fails_0 7 rfl rfl)
theorem dX6_fails_10 : decode cX6_fails 10 = .ok (.bipush 18, 2) := dk_16 18 (dk_at dksX6_fails_0 10 rfl rfl)
theorem dX6_fails_12 : decode cX6_fails 12 = .ok (.iload_n 1, 1) := dk_27 (dk_at dksX6_fails_0 12 rfl rfl)
theorem dX6_fails_13 : decode cX6_fails 13 = .ok (.iadd, 1) := dk_96 (dk_at dksX6_fails_0 13 rfl rfl)
theorem dX6_fails_14 : decode cX6_fails 14 = .ok (.dup2, 1) := dk_92 (dk_at dksX6_fails_0 14 rfl rfl)
theorem dX6_fails_15 : decode cX6_fails 15 = .ok (.iaload, 1) := dk_46 (dk_at dksX6_fails_0 15 rfl rfl)
theorem dX6_fails_16 : decode cX6_fails 16 = .ok (.iconst 1, 1) := dk_4 (dk_at dksX6_fails_0 16 rfl rfl)
theorem dX6_fails_17 : decode cX6_fails 17 = .ok (.iadd, 1) := dk_96 (dk_at dksX6_fails_0 17 rfl rfl)
theorem dX6_fails_18 : decode cX6_fails 18 = .ok (.iastore, 1) := dk_79 (dk_at dksX6_fails_0 18 rfl rfl)
theorem dX6_fails_19 : decode cX6_fails 19 = .ok (.aload_n 0, 1) := dk_42 (dk_at dksX6_fails_0 19 rfl rfl)
theorem dX6_fails_20 : decode cX6_fails 20 = .ok (.getfield 7, 3) := dk_180 0 7 (dk_at dksX6_fails_0 20 rfl rfl)
theorem dX6_fails_23 : decode cX6_fails 23 = .ok (.bipush 12, 2) := dk_16 12 (dk_at dksX6_fails_1 0 rfl rfl)
theorem dX6_fails_25 : decode cX6_fails 25 = .ok (.iload_n 1, 1) := dk_27 (dk_at dksX6_fails_1 2 rfl rfl)
theorem dX6_fails_26 : decode cX6_fails 26 = .ok (.iadd, 1) := dk_96 (dk_at dksX6_fails_1 3 rfl rfl)
theorem dX6_fails_27 : decode cX6_fails 27 = .ok (.iaload, 1) := dk_46 (dk_at dksX6_fails_1 4 rfl rfl)
theorem dX6_fails_28 : decode cX6_fails 28 = .ok (.bipush 8, 2) := dk_16 8 (dk_at dksX6_fails_1 5 rfl rfl)
theorem dX6_fails_30 : decode cX6_fails 30 = .ok (.if_icmp .ne 19, 3) := dk_160 0 19 (dk_at dksX6_fails_1 7 rfl rfl)
theorem dX6_fails_33 : decode cX6_fails 33 = .ok (.aload_n 0, 1) := dk_42 (dk_at dksX6_fails_1 10 rfl rfl)
theorem dX6_fails_34 : decode cX6_fails 34 = .ok (.getfield 7, 3) := dk_180 0 7 (dk_at dksX6_fails_1 11 rfl rfl)
theorem dX6_fails_37 : decode cX6_fails 37 = .ok (.bipush 20, 2) := dk_16 20 (dk_at dksX6_fails_1 14 rfl rfl)
theorem dX6_fails_39 : decode cX6_fails 39 = .ok (.iload_n 1, 1) := dk_27 (dk_at dksX6_fails_1 16 rfl rfl)
theorem dX6_fails_40 : decode cX6_fails 40 = .ok (.iadd, 1) := dk_96 (dk_at dksX6_fails_1 17 rfl rfl)
theorem dX6_fails_41 : decode cX6_fails 41 = .ok (.dup2, 1) := dk_92 (dk_at dksX6_fails_1 18 rfl rfl)
theorem dX6_fails_42 : decode cX6_fails 42 = .ok (.iaload, 1) := dk_46 (dk_at dksX6_fails_1 19 rfl rfl)
theorem dX6_fails_43 : decode cX6_fails 43 = .ok (.iconst 1, 1) := dk_4 (dk_at dksX6_fails_1 20 rfl rfl)
theorem dX6_fails_44 : decode cX6_fails 44 = .ok (.iadd, 1) := dk_96 (dk_at dksX6_fails_1 21 rfl rfl)
theorem dX6_fails_45 : decode cX6_fails 45 = .ok (.iastore, 1) := dk_79 (dk_at dksX6_fails_1 22 rfl rfl)
theorem dX6_fails_46 : decode cX6_fails 46 = .ok (.goto 9, 3) := dk_167 0 9 (dk_at dksX6_fails_2 0 rfl rfl)
theorem dX6_fails_49 : decode cX6_fails 49 = .ok (.aload_n 0, 1) := dk_42 (dk_at dksX6_fails_2 3 rfl rfl)
theorem dX6_fails_50 : decode cX6_fails 50 = .ok (.iload_n 1, 1) := dk_27 (dk_at dksX6_fails_2 4 rfl rfl)
theorem dX6_fails_51 : decode cX6_fails 51 = .ok (.iload_n 2, 1) := dk_28 (dk_at dksX6_fails_2 5 rfl rfl)
theorem dX6_fails_52 : decode cX6_fails 52 = .ok (.invokevirtual 161, 3) := dk_182 0 161 (dk_at dksX6_fails_2 6 rfl rfl)
theorem dX6_fails_55 : decode cX6_fails 55 = .ok (.return_, 1) := dk_177 (dk_at dksX6_fails_2 9 rfl rfl)
abbrev cX6_waits : ByteArray := prog_14_method_34_code
def yX6_waits : MethodName := ⟨RX6, "waits", "(II)V"⟩
def dkwX6_waits_2 : List UInt8 := [42, 180, 0, 7, 16, 12, 27, 96, 92, 46, 4, 96, 79, 177]
abbrev dktX6_waits_2 : List UInt8 := dkwX6_waits_2 ++ []
def dkwX6_waits_1 : List UInt8 := [42, 180, 0, 7, 29, 21, 4, 96, 42, 180, 0, 7, 28, 21, 4, 96, 46, 79, 132, 4, 1, 167, 255, 228]
abbrev dktX6_waits_1 : List UInt8 := dkwX6_waits_1 ++ dktX6_waits_2
def dkwX6_waits_0 : List UInt8 := [27, 42, 180, 0, 7, 16, 12, 27, 96, 46, 184, 0, 114, 62, 3, 54, 4, 21, 4, 16, 13, 162, 0, 27]
abbrev dktX6_waits_0 : List UInt8 := dkwX6_waits_0 ++ dktX6_waits_1
theorem dksX6_waits_0 : cX6_waits.data.toList.drop 0 = dktX6_waits_0 := by decide +kernel
theorem dksX6_waits_1 : cX6_waits.data.toList.drop 24 = dktX6_waits_1 := dk_seg dksX6_waits_0 24 rfl rfl
theorem dksX6_waits_2 : cX6_waits.data.toList.drop 48 = dktX6_waits_2 := dk_seg dksX6_waits_1 24 rfl rfl
theorem dX6_waits_0 : decode cX6_waits 0 = .ok (.iload_n 1, 1) := dk_27 (dk_at dksX6_waits_0 0 rfl rfl)
theorem dX6_waits_1 : decode cX6_waits 1 = .ok (.aload_n 0, 1) := dk_42 (dk_at dksX6_waits_0 1 rfl rfl)
theorem dX6_waits_2 : decode cX6_waits 2 = .ok (.getfield 7, 3) := dk_180 0 7 (dk_at dksX6_waits_0 2 rfl rfl)
theorem dX6_waits_5 : decode cX6_waits 5 = .ok (.bipush 12, 2) := dk_16 12 (dk_at dksX6_waits_0 5 rfl rfl)
theorem dX6_waits_7 : decode cX6_waits 7 = .ok (.iload_n 1, 1) := dk_27 (dk_at dksX6_waits_0 7 rfl rfl)
theorem dX6_waits_8 : decode cX6_waits 8 = .ok (.iadd, 1) := dk_96 (dk_at dksX6_waits_0 8 rfl rfl)
theorem dX6_waits_9 : decode cX6_waits 9 = .ok (.iaload, 1) := dk_46 (dk_at dksX6_waits_0 9 rfl rfl)
theorem dX6_waits_10 : decode cX6_waits 10 = .ok (.invokestatic 114, 3) := dk_184 0 114 (dk_at dksX6_waits_0 10 rfl rfl)
theorem dX6_waits_13 : decode cX6_waits 13 = .ok (.istore_n 3, 1) := dk_62 (dk_at dksX6_waits_0 13 rfl rfl)
theorem dX6_waits_14 : decode cX6_waits 14 = .ok (.iconst 0, 1) := dk_3 (dk_at dksX6_waits_0 14 rfl rfl)
theorem dX6_waits_15 : decode cX6_waits 15 = .ok (.istore 4, 2) := dk_54 4 (dk_at dksX6_waits_0 15 rfl rfl)
theorem dX6_waits_17 : decode cX6_waits 17 = .ok (.iload 4, 2) := dk_21 4 (dk_at dksX6_waits_0 17 rfl rfl)
theorem dX6_waits_19 : decode cX6_waits 19 = .ok (.bipush 13, 2) := dk_16 13 (dk_at dksX6_waits_0 19 rfl rfl)
theorem dX6_waits_21 : decode cX6_waits 21 = .ok (.if_icmp .ge 27, 3) := dk_162 0 27 (dk_at dksX6_waits_0 21 rfl rfl)
theorem dX6_waits_24 : decode cX6_waits 24 = .ok (.aload_n 0, 1) := dk_42 (dk_at dksX6_waits_1 0 rfl rfl)
theorem dX6_waits_25 : decode cX6_waits 25 = .ok (.getfield 7, 3) := dk_180 0 7 (dk_at dksX6_waits_1 1 rfl rfl)
theorem dX6_waits_28 : decode cX6_waits 28 = .ok (.iload_n 3, 1) := dk_29 (dk_at dksX6_waits_1 4 rfl rfl)
theorem dX6_waits_29 : decode cX6_waits 29 = .ok (.iload 4, 2) := dk_21 4 (dk_at dksX6_waits_1 5 rfl rfl)
theorem dX6_waits_31 : decode cX6_waits 31 = .ok (.iadd, 1) := dk_96 (dk_at dksX6_waits_1 7 rfl rfl)
theorem dX6_waits_32 : decode cX6_waits 32 = .ok (.aload_n 0, 1) := dk_42 (dk_at dksX6_waits_1 8 rfl rfl)
theorem dX6_waits_33 : decode cX6_waits 33 = .ok (.getfield 7, 3) := dk_180 0 7 (dk_at dksX6_waits_1 9 rfl rfl)
theorem dX6_waits_36 : decode cX6_waits 36 = .ok (.iload_n 2, 1) := dk_28 (dk_at dksX6_waits_1 12 rfl rfl)
theorem dX6_waits_37 : decode cX6_waits 37 = .ok (.iload 4, 2) := dk_21 4 (dk_at dksX6_waits_1 13 rfl rfl)
theorem dX6_waits_39 : decode cX6_waits 39 = .ok (.iadd, 1) := dk_96 (dk_at dksX6_waits_1 15 rfl rfl)
theorem dX6_waits_40 : decode cX6_waits 40 = .ok (.iaload, 1) := dk_46 (dk_at dksX6_waits_1 16 rfl rfl)
theorem dX6_waits_41 : decode cX6_waits 41 = .ok (.iastore, 1) := dk_79 (dk_at dksX6_waits_1 17 rfl rfl)
theorem dX6_waits_42 : decode cX6_waits 42 = .ok (.iinc 4 1, 3) := dk_132 4 1 (dk_at dksX6_waits_1 18 rfl rfl)
theorem dX6_waits_45 : decode cX6_waits 45 = .ok (.goto (-28), 3) := dk_167 255 228 (dk_at dksX6_waits_1 21 rfl rfl)
theorem dX6_waits_48 : decode cX6_waits 48 = .ok (.aload_n 0, 1) := dk_42 (dk_at dksX6_waits_2 0 rfl rfl)
theorem dX6_waits_49 : decode cX6_waits 49 = .ok (.getfield 7, 3) := dk_180 0 7 (dk_at dksX6_waits_2 1 rfl rfl)
theorem dX6_waits_52 : decode cX6_waits 52 = .ok (.bipush 12, 2) := dk_16 12 (dk_at dksX6_waits_2 4 rfl rfl)
theorem dX6_waits_54 : decode cX6_waits 54 = .ok (.iload_n 1, 1) := dk_27 (dk_at dksX6_waits_2 6 rfl rfl)
theorem dX6_waits_55 : decode cX6_waits 55 = .ok (.iadd, 1) := dk_96 (dk_at dksX6_waits_2 7 rfl rfl)
theorem dX6_waits_56 : decode cX6_waits 56 = .ok (.dup2, 1) := dk_92 (dk_at dksX6_waits_2 8 rfl rfl)
theorem dX6_waits_57 : decode cX6_waits 57 = .ok (.iaload, 1) := dk_46 (dk_at dksX6_waits_2 9 rfl rfl)
theorem dX6_waits_58 : decode cX6_waits 58 = .ok (.iconst 1, 1) := dk_4 (dk_at dksX6_waits_2 10 rfl rfl)
theorem dX6_waits_59 : decode cX6_waits 59 = .ok (.iadd, 1) := dk_96 (dk_at dksX6_waits_2 11 rfl rfl)
theorem dX6_waits_60 : decode cX6_waits 60 = .ok (.iastore, 1) := dk_79 (dk_at dksX6_waits_2 12 rfl rfl)
theorem dX6_waits_61 : decode cX6_waits 61 = .ok (.return_, 1) := dk_177 (dk_at dksX6_waits_2 13 rfl rfl)
abbrev cX6_slotCount : ByteArray := prog_14_method_98_code
def yX6_slotCount : MethodName := ⟨RX6, "slotCount", "()I"⟩
def dkwX6_slotCount_0 : List UInt8 := [42, 3, 181, 0, 58, 42, 180, 0, 7, 3, 46, 172]
abbrev dktX6_slotCount_0 : List UInt8 := dkwX6_slotCount_0 ++ []
theorem dksX6_slotCount_0 : cX6_slotCount.data.toList.drop 0 = dktX6_slotCount_0 := by decide +kernel
theorem dX6_slotCount_0 : decode cX6_slotCount 0 = .ok (.aload_n 0, 1) := dk_42 (dk_at dksX6_slotCount_0 0 rfl rfl)
theorem dX6_slotCount_1 : decode cX6_slotCount 1 = .ok (.iconst 0, 1) := dk_3 (dk_at dksX6_slotCount_0 1 rfl rfl)
theorem dX6_slotCount_2 : decode cX6_slotCount 2 = .ok (.putfield 58, 3) := dk_181 0 58 (dk_at dksX6_slotCount_0 2 rfl rfl)
theorem dX6_slotCount_5 : decode cX6_slotCount 5 = .ok (.aload_n 0, 1) := dk_42 (dk_at dksX6_slotCount_0 5 rfl rfl)
theorem dX6_slotCount_6 : decode cX6_slotCount 6 = .ok (.getfield 7, 3) := dk_180 0 7 (dk_at dksX6_slotCount_0 6 rfl rfl)
theorem dX6_slotCount_9 : decode cX6_slotCount 9 = .ok (.iconst 0, 1) := dk_3 (dk_at dksX6_slotCount_0 9 rfl rfl)
theorem dX6_slotCount_10 : decode cX6_slotCount 10 = .ok (.iaload, 1) := dk_46 (dk_at dksX6_slotCount_0 10 rfl rfl)
theorem dX6_slotCount_11 : decode cX6_slotCount 11 = .ok (.ireturn, 1) := dk_172 (dk_at dksX6_slotCount_0 11 rfl rfl)
abbrev cX6_day : ByteArray := prog_14_method_99_code
def yX6_day : MethodName := ⟨RX6, "day", "()I"⟩
def dkwX6_day_0 : List UInt8 := [42, 3, 181, 0, 58, 42, 180, 0, 7, 16, 6, 46, 172]
abbrev dktX6_day_0 : List UInt8 := dkwX6_day_0 ++ []
theorem dksX6_day_0 : cX6_day.data.toList.drop 0 = dktX6_day_0 := by decide +kernel
theorem dX6_day_0 : decode cX6_day 0 = .ok (.aload_n 0, 1) := dk_42 (dk_at dksX6_day_0 0 rfl rfl)
theorem dX6_day_1 : decode cX6_day 1 = .ok (.iconst 0, 1) := dk_3 (dk_at dksX6_day_0 1 rfl rfl)
theorem dX6_day_2 : decode cX6_day 2 = .ok (.putfield 58, 3) := dk_181 0 58 (dk_at dksX6_day_0 2 rfl rfl)
theorem dX6_day_5 : decode cX6_day 5 = .ok (.aload_n 0, 1) := dk_42 (dk_at dksX6_day_0 5 rfl rfl)
theorem dX6_day_6 : decode cX6_day 6 = .ok (.getfield 7, 3) := dk_180 0 7 (dk_at dksX6_day_0 6 rfl rfl)
theorem dX6_day_9 : decode cX6_day 9 = .ok (.bipush 6, 2) := dk_16 6 (dk_at dksX6_day_0 9 rfl rfl)
theorem dX6_day_11 : decode cX6_day 11 = .ok (.iaload, 1) := dk_46 (dk_at dksX6_day_0 11 rfl rfl)
theorem dX6_day_12 : decode cX6_day 12 = .ok (.ireturn, 1) := dk_172 (dk_at dksX6_day_0 12 rfl rfl)
abbrev cX6_activeGardener : ByteArray := prog_14_method_100_code
def yX6_activeGardener : MethodName := ⟨RX6, "activeGardener", "()I"⟩
def dkwX6_activeGardener_0 : List UInt8 := [42, 3, 181, 0, 58, 42, 182, 0, 173, 172]
abbrev dktX6_activeGardener_0 : List UInt8 := dkwX6_activeGardener_0 ++ []
theorem dksX6_activeGardener_0 : cX6_activeGardener.data.toList.drop 0 = dktX6_activeGardener_0 := by decide +kernel
theorem dX6_activeGardener_0 : decode cX6_activeGardener 0 = .ok (.aload_n 0, 1) := dk_42 (dk_at dksX6_activeGardener_0 0 rfl rfl)
theorem dX6_activeGardener_1 : decode cX6_activeGardener 1 = .ok (.iconst 0, 1) := dk_3 (dk_at dksX6_activeGardener_0 1 rfl rfl)
theorem dX6_activeGardener_2 : decode cX6_activeGardener 2 = .ok (.putfield 58, 3) := dk_181 0 58 (dk_at dksX6_activeGardener_0 2 rfl rfl)
theorem dX6_activeGardener_5 : decode cX6_activeGardener 5 = .ok (.aload_n 0, 1) := dk_42 (dk_at dksX6_activeGardener_0 5 rfl rfl)
theorem dX6_activeGardener_6 : decode cX6_activeGardener 6 = .ok (.invokevirtual 173, 3) := dk_182 0 173 (dk_at dksX6_activeGardener_0 6 rfl rfl)
theorem dX6_activeGardener_9 : decode cX6_activeGardener 9 = .ok (.ireturn, 1) := dk_172 (dk_at dksX6_activeGardener_0 9 rfl rfl)
abbrev cX6_workLimit : ByteArray := prog_14_method_101_code
def yX6_workLimit : MethodName := ⟨RX6, "workLimit", "()I"⟩
def dkwX6_workLimit_0 : List UInt8 := [42, 3, 181, 0, 58, 42, 180, 0, 7, 4, 46, 172]
abbrev dktX6_workLimit_0 : List UInt8 := dkwX6_workLimit_0 ++ []
theorem dksX6_workLimit_0 : cX6_workLimit.data.toList.drop 0 = dktX6_workLimit_0 := by decide +kernel
theorem dX6_workLimit_0 : decode cX6_workLimit 0 = .ok (.aload_n 0, 1) := dk_42 (dk_at dksX6_workLimit_0 0 rfl rfl)
theorem dX6_workLimit_1 : decode cX6_workLimit 1 = .ok (.iconst 0, 1) := dk_3 (dk_at dksX6_workLimit_0 1 rfl rfl)
theorem dX6_workLimit_2 : decode cX6_workLimit 2 = .ok (.putfield 58, 3) := dk_181 0 58 (dk_at dksX6_workLimit_0 2 rfl rfl)
theorem dX6_workLimit_5 : decode cX6_workLimit 5 = .ok (.aload_n 0, 1) := dk_42 (dk_at dksX6_workLimit_0 5 rfl rfl)
theorem dX6_workLimit_6 : decode cX6_workLimit 6 = .ok (.getfield 7, 3) := dk_180 0 7 (dk_at dksX6_workLimit_0 6 rfl rfl)
theorem dX6_workLimit_9 : decode cX6_workLimit 9 = .ok (.iconst 1, 1) := dk_4 (dk_at dksX6_workLimit_0 9 rfl rfl)
theorem dX6_workLimit_10 : decode cX6_workLimit 10 = .ok (.iaload, 1) := dk_46 (dk_at dksX6_workLimit_0 10 rfl rfl)
theorem dX6_workLimit_11 : decode cX6_workLimit 11 = .ok (.ireturn, 1) := dk_172 (dk_at dksX6_workLimit_0 11 rfl rfl)
abbrev cX6_actionsLeft : ByteArray := prog_14_method_102_code
def yX6_actionsLeft : MethodName := ⟨RX6, "actionsLeft", "()I"⟩
def dkwX6_actionsLeft_0 : List UInt8 := [42, 3, 181, 0, 58, 42, 180, 0, 7, 16, 7, 46, 172]
abbrev dktX6_actionsLeft_0 : List UInt8 := dkwX6_actionsLeft_0 ++ []
theorem dksX6_actionsLeft_0 : cX6_actionsLeft.data.toList.drop 0 = dktX6_actionsLeft_0 := by decide +kernel
theorem dX6_actionsLeft_0 : decode cX6_actionsLeft 0 = .ok (.aload_n 0, 1) := dk_42 (dk_at dksX6_actionsLeft_0 0 rfl rfl)
theorem dX6_actionsLeft_1 : decode cX6_actionsLeft 1 = .ok (.iconst 0, 1) := dk_3 (dk_at dksX6_actionsLeft_0 1 rfl rfl)
theorem dX6_actionsLeft_2 : decode cX6_actionsLeft 2 = .ok (.putfield 58, 3) := dk_181 0 58 (dk_at dksX6_actionsLeft_0 2 rfl rfl)
theorem dX6_actionsLeft_5 : decode cX6_actionsLeft 5 = .ok (.aload_n 0, 1) := dk_42 (dk_at dksX6_actionsLeft_0 5 rfl rfl)
theorem dX6_actionsLeft_6 : decode cX6_actionsLeft 6 = .ok (.getfield 7, 3) := dk_180 0 7 (dk_at dksX6_actionsLeft_0 6 rfl rfl)
theorem dX6_actionsLeft_9 : decode cX6_actionsLeft 9 = .ok (.bipush 7, 2) := dk_16 7 (dk_at dksX6_actionsLeft_0 9 rfl rfl)
theorem dX6_actionsLeft_11 : decode cX6_actionsLeft 11 = .ok (.iaload, 1) := dk_46 (dk_at dksX6_actionsLeft_0 11 rfl rfl)
theorem dX6_actionsLeft_12 : decode cX6_actionsLeft 12 = .ok (.ireturn, 1) := dk_172 (dk_at dksX6_actionsLeft_0 12 rfl rfl)
abbrev cX6_twigCount : ByteArray := prog_14_method_103_code
def yX6_twigCount : MethodName := ⟨RX6, "twigCount", "()I"⟩
def dkwX6_twigCount_0 : List UInt8 := [42, 3, 181, 0, 58, 42, 182, 0, 197, 172]
abbrev dktX6_twigCount_0 : List UInt8 := dkwX6_twigCount_0 ++ []
theorem dksX6_twigCount_0 : cX6_twigCount.data.toList.drop 0 = dktX6_twigCount_0 := by decide +kernel
theorem dX6_twigCount_0 : decode cX6_twigCount 0 = .ok (.aload_n 0, 1) := dk_42 (dk_at dksX6_twigCount_0 0 rfl rfl)
theorem dX6_twigCount_1 : decode cX6_twigCount 1 = .ok (.iconst 0, 1) := dk_3 (dk_at dksX6_twigCount_0 1 rfl rfl)
theorem dX6_twigCount_2 : decode cX6_twigCount 2 = .ok (.putfield 58, 3) := dk_181 0 58 (dk_at dksX6_twigCount_0 2 rfl rfl)
theorem dX6_twigCount_5 : decode cX6_twigCount 5 = .ok (.aload_n 0, 1) := dk_42 (dk_at dksX6_twigCount_0 5 rfl rfl)
theorem dX6_twigCount_6 : decode cX6_twigCount 6 = .ok (.invokevirtual 197, 3) := dk_182 0 197 (dk_at dksX6_twigCount_0 6 rfl rfl)
theorem dX6_twigCount_9 : decode cX6_twigCount 9 = .ok (.ireturn, 1) := dk_172 (dk_at dksX6_twigCount_0 9 rfl rfl)
abbrev cX6_letterAt : ByteArray := prog_14_method_104_code
def yX6_letterAt : MethodName := ⟨RX6, "letterAt", "(I)I"⟩
def dkwX6_letterAt_1 : List UInt8 := [3, 182, 0, 69, 167, 0, 4, 2, 172]
abbrev dktX6_letterAt_1 : List UInt8 := dkwX6_letterAt_1 ++ []
def dkwX6_letterAt_0 : List UInt8 := [42, 42, 27, 182, 0, 73, 182, 0, 221, 154, 0, 5, 3, 172, 42, 27, 182, 0, 84, 153, 0, 12, 42, 27]
abbrev dktX6_letterAt_0 : List UInt8 := dkwX6_letterAt_0 ++ dktX6_letterAt_1
theorem dksX6_letterAt_0 : cX6_letterAt.data.toList.drop 0 = dktX6_letterAt_0 := by decide +kernel
theorem dksX6_letterAt_1 : cX6_letterAt.data.toList.drop 24 = dktX6_letterAt_1 := dk_seg dksX6_letterAt_0 24 rfl rfl
theorem dX6_letterAt_0 : decode cX6_letterAt 0 = .ok (.aload_n 0, 1) := dk_42 (dk_at dksX6_letterAt_0 0 rfl rfl)
theorem dX6_letterAt_1 : decode cX6_letterAt 1 = .ok (.aload_n 0, 1) := dk_42 (dk_at dksX6_letterAt_0 1 rfl rfl)
theorem dX6_letterAt_2 : decode cX6_letterAt 2 = .ok (.iload_n 1, 1) := dk_27 (dk_at dksX6_letterAt_0 2 rfl rfl)
theorem dX6_letterAt_3 : decode cX6_letterAt 3 = .ok (.invokevirtual 73, 3) := dk_182 0 73 (dk_at dksX6_letterAt_0 3 rfl rfl)
theorem dX6_letterAt_6 : decode cX6_letterAt 6 = .ok (.invokevirtual 221, 3) := dk_182 0 221 (dk_at dksX6_letterAt_0 6 rfl rfl)
theorem dX6_letterAt_9 : decode cX6_letterAt 9 = .ok (.ifCond .ne 5, 3) := dk_154 0 5 (dk_at dksX6_letterAt_0 9 rfl rfl)
theorem dX6_letterAt_12 : decode cX6_letterAt 12 = .ok (.iconst 0, 1) := dk_3 (dk_at dksX6_letterAt_0 12 rfl rfl)
theorem dX6_letterAt_13 : decode cX6_letterAt 13 = .ok (.ireturn, 1) := dk_172 (dk_at dksX6_letterAt_0 13 rfl rfl)
theorem dX6_letterAt_14 : decode cX6_letterAt 14 = .ok (.aload_n 0, 1) := dk_42 (dk_at dksX6_letterAt_0 14 rfl rfl)
theorem dX6_letterAt_15 : decode cX6_letterAt 15 = .ok (.iload_n 1, 1) := dk_27 (dk_at dksX6_letterAt_0 15 rfl rfl)
theorem dX6_letterAt_16 : decode cX6_letterAt 16 = .ok (.invokevirtual 84, 3) := dk_182 0 84 (dk_at dksX6_letterAt_0 16 rfl rfl)
theorem dX6_letterAt_19 : decode cX6_letterAt 19 = .ok (.ifCond .eq 12, 3) := dk_153 0 12 (dk_at dksX6_letterAt_0 19 rfl rfl)
theorem dX6_letterAt_22 : decode cX6_letterAt 22 = .ok (.aload_n 0, 1) := dk_42 (dk_at dksX6_letterAt_0 22 rfl rfl)
theorem dX6_letterAt_23 : decode cX6_letterAt 23 = .ok (.iload_n 1, 1) := dk_27 (dk_at dksX6_letterAt_0 23 rfl rfl)
theorem dX6_letterAt_24 : decode cX6_letterAt 24 = .ok (.iconst 0, 1) := dk_3 (dk_at dksX6_letterAt_1 0 rfl rfl)
theorem dX6_letterAt_25 : decode cX6_letterAt 25 = .ok (.invokevirtual 69, 3) := dk_182 0 69 (dk_at dksX6_letterAt_1 1 rfl rfl)
theorem dX6_letterAt_28 : decode cX6_letterAt 28 = .ok (.goto 4, 3) := dk_167 0 4 (dk_at dksX6_letterAt_1 4 rfl rfl)
theorem dX6_letterAt_31 : decode cX6_letterAt 31 = .ok (.iconst (-1), 1) := dk_2 (dk_at dksX6_letterAt_1 7 rfl rfl)
theorem dX6_letterAt_32 : decode cX6_letterAt 32 = .ok (.ireturn, 1) := dk_172 (dk_at dksX6_letterAt_1 8 rfl rfl)
abbrev cX6_ownerAt : ByteArray := prog_14_method_105_code
def yX6_ownerAt : MethodName := ⟨RX6, "ownerAt", "(I)I"⟩
def dkwX6_ownerAt_1 : List UInt8 := [4, 182, 0, 69, 167, 0, 4, 2, 172]
abbrev dktX6_ownerAt_1 : List UInt8 := dkwX6_ownerAt_1 ++ []
def dkwX6_ownerAt_0 : List UInt8 := [42, 42, 27, 182, 0, 73, 182, 0, 221, 154, 0, 5, 3, 172, 42, 27, 182, 0, 84, 153, 0, 12, 42, 27]
abbrev dktX6_ownerAt_0 : List UInt8 := dkwX6_ownerAt_0 ++ dktX6_ownerAt_1
theorem dksX6_ownerAt_0 : cX6_ownerAt.data.toList.drop 0 = dktX6_ownerAt_0 := by decide +kernel
theorem dksX6_ownerAt_1 : cX6_ownerAt.data.toList.drop 24 = dktX6_ownerAt_1 := dk_seg dksX6_ownerAt_0 24 rfl rfl
theorem dX6_ownerAt_0 : decode cX6_ownerAt 0 = .ok (.aload_n 0, 1) := dk_42 (dk_at dksX6_ownerAt_0 0 rfl rfl)
theorem dX6_ownerAt_1 : decode cX6_ownerAt 1 = .ok (.aload_n 0, 1) := dk_42 (dk_at dksX6_ownerAt_0 1 rfl rfl)
theorem dX6_ownerAt_2 : decode cX6_ownerAt 2 = .ok (.iload_n 1, 1) := dk_27 (dk_at dksX6_ownerAt_0 2 rfl rfl)
theorem dX6_ownerAt_3 : decode cX6_ownerAt 3 = .ok (.invokevirtual 73, 3) := dk_182 0 73 (dk_at dksX6_ownerAt_0 3 rfl rfl)
theorem dX6_ownerAt_6 : decode cX6_ownerAt 6 = .ok (.invokevirtual 221, 3) := dk_182 0 221 (dk_at dksX6_ownerAt_0 6 rfl rfl)
theorem dX6_ownerAt_9 : decode cX6_ownerAt 9 = .ok (.ifCond .ne 5, 3) := dk_154 0 5 (dk_at dksX6_ownerAt_0 9 rfl rfl)
theorem dX6_ownerAt_12 : decode cX6_ownerAt 12 = .ok (.iconst 0, 1) := dk_3 (dk_at dksX6_ownerAt_0 12 rfl rfl)
theorem dX6_ownerAt_13 : decode cX6_ownerAt 13 = .ok (.ireturn, 1) := dk_172 (dk_at dksX6_ownerAt_0 13 rfl rfl)
theorem dX6_ownerAt_14 : decode cX6_ownerAt 14 = .ok (.aload_n 0, 1) := dk_42 (dk_at dksX6_ownerAt_0 14 rfl rfl)
theorem dX6_ownerAt_15 : decode cX6_ownerAt 15 = .ok (.iload_n 1, 1) := dk_27 (dk_at dksX6_ownerAt_0 15 rfl rfl)
theorem dX6_ownerAt_16 : decode cX6_ownerAt 16 = .ok (.invokevirtual 84, 3) := dk_182 0 84 (dk_at dksX6_ownerAt_0 16 rfl rfl)
theorem dX6_ownerAt_19 : decode cX6_ownerAt 19 = .ok (.ifCond .eq 12, 3) := dk_153 0 12 (dk_at dksX6_ownerAt_0 19 rfl rfl)
theorem dX6_ownerAt_22 : decode cX6_ownerAt 22 = .ok (.aload_n 0, 1) := dk_42 (dk_at dksX6_ownerAt_0 22 rfl rfl)
theorem dX6_ownerAt_23 : decode cX6_ownerAt 23 = .ok (.iload_n 1, 1) := dk_27 (dk_at dksX6_ownerAt_0 23 rfl rfl)
theorem dX6_ownerAt_24 : decode cX6_ownerAt 24 = .ok (.iconst 1, 1) := dk_4 (dk_at dksX6_ownerAt_1 0 rfl rfl)
theorem dX6_ownerAt_25 : decode cX6_ownerAt 25 = .ok (.invokevirtual 69, 3) := dk_182 0 69 (dk_at dksX6_ownerAt_1 1 rfl rfl)
theorem dX6_ownerAt_28 : decode cX6_ownerAt 28 = .ok (.goto 4, 3) := dk_167 0 4 (dk_at dksX6_ownerAt_1 4 rfl rfl)
theorem dX6_ownerAt_31 : decode cX6_ownerAt 31 = .ok (.iconst (-1), 1) := dk_2 (dk_at dksX6_ownerAt_1 7 rfl rfl)
theorem dX6_ownerAt_32 : decode cX6_ownerAt 32 = .ok (.ireturn, 1) := dk_172 (dk_at dksX6_ownerAt_1 8 rfl rfl)
abbrev cX6_lengthAt : ByteArray := prog_14_method_106_code
def yX6_lengthAt : MethodName := ⟨RX6, "lengthAt", "(I)I"⟩
def dkwX6_lengthAt_0 : List UInt8 := [42, 42, 27, 182, 0, 73, 182, 0, 221, 153, 0, 12, 42, 27, 5, 182, 0, 69, 167, 0, 4, 3, 172]
abbrev dktX6_lengthAt_0 : List UInt8 := dkwX6_lengthAt_0 ++ []
theorem dksX6_lengthAt_0 : cX6_lengthAt.data.toList.drop 0 = dktX6_lengthAt_0 := by decide +kernel
theorem dX6_lengthAt_0 : decode cX6_lengthAt 0 = .ok (.aload_n 0, 1) := dk_42 (dk_at dksX6_lengthAt_0 0 rfl rfl)
theorem dX6_lengthAt_1 : decode cX6_lengthAt 1 = .ok (.aload_n 0, 1) := dk_42 (dk_at dksX6_lengthAt_0 1 rfl rfl)
theorem dX6_lengthAt_2 : decode cX6_lengthAt 2 = .ok (.iload_n 1, 1) := dk_27 (dk_at dksX6_lengthAt_0 2 rfl rfl)
theorem dX6_lengthAt_3 : decode cX6_lengthAt 3 = .ok (.invokevirtual 73, 3) := dk_182 0 73 (dk_at dksX6_lengthAt_0 3 rfl rfl)
theorem dX6_lengthAt_6 : decode cX6_lengthAt 6 = .ok (.invokevirtual 221, 3) := dk_182 0 221 (dk_at dksX6_lengthAt_0 6 rfl rfl)
theorem dX6_lengthAt_9 : decode cX6_lengthAt 9 = .ok (.ifCond .eq 12, 3) := dk_153 0 12 (dk_at dksX6_lengthAt_0 9 rfl rfl)
theorem dX6_lengthAt_12 : decode cX6_lengthAt 12 = .ok (.aload_n 0, 1) := dk_42 (dk_at dksX6_lengthAt_0 12 rfl rfl)
theorem dX6_lengthAt_13 : decode cX6_lengthAt 13 = .ok (.iload_n 1, 1) := dk_27 (dk_at dksX6_lengthAt_0 13 rfl rfl)
theorem dX6_lengthAt_14 : decode cX6_lengthAt 14 = .ok (.iconst 2, 1) := dk_5 (dk_at dksX6_lengthAt_0 14 rfl rfl)
theorem dX6_lengthAt_15 : decode cX6_lengthAt 15 = .ok (.invokevirtual 69, 3) := dk_182 0 69 (dk_at dksX6_lengthAt_0 15 rfl rfl)
theorem dX6_lengthAt_18 : decode cX6_lengthAt 18 = .ok (.goto 4, 3) := dk_167 0 4 (dk_at dksX6_lengthAt_0 18 rfl rfl)
theorem dX6_lengthAt_21 : decode cX6_lengthAt 21 = .ok (.iconst 0, 1) := dk_3 (dk_at dksX6_lengthAt_0 21 rfl rfl)
theorem dX6_lengthAt_22 : decode cX6_lengthAt 22 = .ok (.ireturn, 1) := dk_172 (dk_at dksX6_lengthAt_0 22 rfl rfl)
abbrev cX6_isReserved : ByteArray := prog_14_method_107_code
def yX6_isReserved : MethodName := ⟨RX6, "isReserved", "(I)Z"⟩
def dkwX6_isReserved_1 : List UInt8 := [3, 172]
abbrev dktX6_isReserved_1 : List UInt8 := dkwX6_isReserved_1 ++ []
def dkwX6_isReserved_0 : List UInt8 := [42, 42, 27, 182, 0, 73, 182, 0, 221, 153, 0, 15, 42, 27, 182, 0, 102, 153, 0, 7, 4, 167, 0, 4]
abbrev dktX6_isReserved_0 : List UInt8 := dkwX6_isReserved_0 ++ dktX6_isReserved_1
theorem dksX6_isReserved_0 : cX6_isReserved.data.toList.drop 0 = dktX6_isReserved_0 := by decide +kernel
theorem dksX6_isReserved_1 : cX6_isReserved.data.toList.drop 24 = dktX6_isReserved_1 := dk_seg dksX6_isReserved_0 24 rfl rfl
theorem dX6_isReserved_0 : decode cX6_isReserved 0 = .ok (.aload_n 0, 1) := dk_42 (dk_at dksX6_isReserved_0 0 rfl rfl)
theorem dX6_isReserved_1 : decode cX6_isReserved 1 = .ok (.aload_n 0, 1) := dk_42 (dk_at dksX6_isReserved_0 1 rfl rfl)
theorem dX6_isReserved_2 : decode cX6_isReserved 2 = .ok (.iload_n 1, 1) := dk_27 (dk_at dksX6_isReserved_0 2 rfl rfl)
theorem dX6_isReserved_3 : decode cX6_isReserved 3 = .ok (.invokevirtual 73, 3) := dk_182 0 73 (dk_at dksX6_isReserved_0 3 rfl rfl)
theorem dX6_isReserved_6 : decode cX6_isReserved 6 = .ok (.invokevirtual 221, 3) := dk_182 0 221 (dk_at dksX6_isReserved_0 6 rfl rfl)
theorem dX6_isReserved_9 : decode cX6_isReserved 9 = .ok (.ifCond .eq 15, 3) := dk_153 0 15 (dk_at dksX6_isReserved_0 9 rfl rfl)
theorem dX6_isReserved_12 : decode cX6_isReserved 12 = .ok (.aload_n 0, 1) := dk_42 (dk_at dksX6_isReserved_0 12 rfl rfl)
theorem dX6_isReserved_13 : decode cX6_isReserved 13 = .ok (.iload_n 1, 1) := dk_27 (dk_at dksX6_isReserved_0 13 rfl rfl)
theorem dX6_isReserved_14 : decode cX6_isReserved 14 = .ok (.invokevirtual 102, 3) := dk_182 0 102 (dk_at dksX6_isReserved_0 14 rfl rfl)
theorem dX6_isReserved_17 : decode cX6_isReserved 17 = .ok (.ifCond .eq 7, 3) := dk_153 0 7 (dk_at dksX6_isReserved_0 17 rfl rfl)
theorem dX6_isReserved_20 : decode cX6_isReserved 20 = .ok (.iconst 1, 1) := dk_4 (dk_at dksX6_isReserved_0 20 rfl rfl)
theorem dX6_isReserved_21 : decode cX6_isReserved 21 = .ok (.goto 4, 3) := dk_167 0 4 (dk_at dksX6_isReserved_0 21 rfl rfl)
theorem dX6_isReserved_24 : decode cX6_isReserved 24 = .ok (.iconst 0, 1) := dk_3 (dk_at dksX6_isReserved_1 0 rfl rfl)
theorem dX6_isReserved_25 : decode cX6_isReserved 25 = .ok (.ireturn, 1) := dk_172 (dk_at dksX6_isReserved_1 1 rfl rfl)
abbrev cX6_nestDays : ByteArray := prog_14_method_108_code
def yX6_nestDays : MethodName := ⟨RX6, "nestDays", "(I)I"⟩
def dkwX6_nestDays_0 : List UInt8 := [42, 42, 27, 182, 0, 73, 182, 0, 221, 153, 0, 12, 42, 27, 7, 182, 0, 69, 167, 0, 4, 3, 172]
abbrev dktX6_nestDays_0 : List UInt8 := dkwX6_nestDays_0 ++ []
theorem dksX6_nestDays_0 : cX6_nestDays.data.toList.drop 0 = dktX6_nestDays_0 := by decide +kernel
theorem dX6_nestDays_0 : decode cX6_nestDays 0 = .ok (.aload_n 0, 1) := dk_42 (dk_at dksX6_nestDays_0 0 rfl rfl)
theorem dX6_nestDays_1 : decode cX6_nestDays 1 = .ok (.aload_n 0, 1) := dk_42 (dk_at dksX6_nestDays_0 1 rfl rfl)
theorem dX6_nestDays_2 : decode cX6_nestDays 2 = .ok (.iload_n 1, 1) := dk_27 (dk_at dksX6_nestDays_0 2 rfl rfl)
theorem dX6_nestDays_3 : decode cX6_nestDays 3 = .ok (.invokevirtual 73, 3) := dk_182 0 73 (dk_at dksX6_nestDays_0 3 rfl rfl)
theorem dX6_nestDays_6 : decode cX6_nestDays 6 = .ok (.invokevirtual 221, 3) := dk_182 0 221 (dk_at dksX6_nestDays_0 6 rfl rfl)
theorem dX6_nestDays_9 : decode cX6_nestDays 9 = .ok (.ifCond .eq 12, 3) := dk_153 0 12 (dk_at dksX6_nestDays_0 9 rfl rfl)
theorem dX6_nestDays_12 : decode cX6_nestDays 12 = .ok (.aload_n 0, 1) := dk_42 (dk_at dksX6_nestDays_0 12 rfl rfl)
theorem dX6_nestDays_13 : decode cX6_nestDays 13 = .ok (.iload_n 1, 1) := dk_27 (dk_at dksX6_nestDays_0 13 rfl rfl)
theorem dX6_nestDays_14 : decode cX6_nestDays 14 = .ok (.iconst 4, 1) := dk_7 (dk_at dksX6_nestDays_0 14 rfl rfl)
theorem dX6_nestDays_15 : decode cX6_nestDays 15 = .ok (.invokevirtual 69, 3) := dk_182 0 69 (dk_at dksX6_nestDays_0 15 rfl rfl)
theorem dX6_nestDays_18 : decode cX6_nestDays 18 = .ok (.goto 4, 3) := dk_167 0 4 (dk_at dksX6_nestDays_0 18 rfl rfl)
theorem dX6_nestDays_21 : decode cX6_nestDays 21 = .ok (.iconst 0, 1) := dk_3 (dk_at dksX6_nestDays_0 21 rfl rfl)
theorem dX6_nestDays_22 : decode cX6_nestDays 22 = .ok (.ireturn, 1) := dk_172 (dk_at dksX6_nestDays_0 22 rfl rfl)
abbrev cX6_isProtected : ByteArray := prog_14_method_109_code
def yX6_isProtected : MethodName := ⟨RX6, "isProtected", "(I)Z"⟩
def dkwX6_isProtected_1 : List UInt8 := [3, 172]
abbrev dktX6_isProtected_1 : List UInt8 := dkwX6_isProtected_1 ++ []
def dkwX6_isProtected_0 : List UInt8 := [42, 42, 27, 182, 0, 73, 182, 0, 221, 153, 0, 15, 42, 27, 182, 0, 158, 153, 0, 7, 4, 167, 0, 4]
abbrev dktX6_isProtected_0 : List UInt8 := dkwX6_isProtected_0 ++ dktX6_isProtected_1
theorem dksX6_isProtected_0 : cX6_isProtected.data.toList.drop 0 = dktX6_isProtected_0 := by decide +kernel
theorem dksX6_isProtected_1 : cX6_isProtected.data.toList.drop 24 = dktX6_isProtected_1 := dk_seg dksX6_isProtected_0 24 rfl rfl
theorem dX6_isProtected_0 : decode cX6_isProtected 0 = .ok (.aload_n 0, 1) := dk_42 (dk_at dksX6_isProtected_0 0 rfl rfl)
theorem dX6_isProtected_1 : decode cX6_isProtected 1 = .ok (.aload_n 0, 1) := dk_42 (dk_at dksX6_isProtected_0 1 rfl rfl)
theorem dX6_isProtected_2 : decode cX6_isProtected 2 = .ok (.iload_n 1, 1) := dk_27 (dk_at dksX6_isProtected_0 2 rfl rfl)
theorem dX6_isProtected_3 : decode cX6_isProtected 3 = .ok (.invokevirtual 73, 3) := dk_182 0 73 (dk_at dksX6_isProtected_0 3 rfl rfl)
theorem dX6_isProtected_6 : decode cX6_isProtected 6 = .ok (.invokevirtual 221, 3) := dk_182 0 221 (dk_at dksX6_isProtected_0 6 rfl rfl)
theorem dX6_isProtected_9 : decode cX6_isProtected 9 = .ok (.ifCond .eq 15, 3) := dk_153 0 15 (dk_at dksX6_isProtected_0 9 rfl rfl)
theorem dX6_isProtected_12 : decode cX6_isProtected 12 = .ok (.aload_n 0, 1) := dk_42 (dk_at dksX6_isProtected_0 12 rfl rfl)
theorem dX6_isProtected_13 : decode cX6_isProtected 13 = .ok (.iload_n 1, 1) := dk_27 (dk_at dksX6_isProtected_0 13 rfl rfl)
theorem dX6_isProtected_14 : decode cX6_isProtected 14 = .ok (.invokevirtual 158, 3) := dk_182 0 158 (dk_at dksX6_isProtected_0 14 rfl rfl)
theorem dX6_isProtected_17 : decode cX6_isProtected 17 = .ok (.ifCond .eq 7, 3) := dk_153 0 7 (dk_at dksX6_isProtected_0 17 rfl rfl)
theorem dX6_isProtected_20 : decode cX6_isProtected 20 = .ok (.iconst 1, 1) := dk_4 (dk_at dksX6_isProtected_0 20 rfl rfl)
theorem dX6_isProtected_21 : decode cX6_isProtected 21 = .ok (.goto 4, 3) := dk_167 0 4 (dk_at dksX6_isProtected_0 21 rfl rfl)
theorem dX6_isProtected_24 : decode cX6_isProtected 24 = .ok (.iconst 0, 1) := dk_3 (dk_at dksX6_isProtected_1 0 rfl rfl)
theorem dX6_isProtected_25 : decode cX6_isProtected 25 = .ok (.ireturn, 1) := dk_172 (dk_at dksX6_isProtected_1 1 rfl rfl)
abbrev cX6_nestCount : ByteArray := prog_14_method_110_code
def yX6_nestCount : MethodName := ⟨RX6, "nestCount", "()I"⟩
def dkwX6_nestCount_0 : List UInt8 := [42, 3, 181, 0, 58, 42, 182, 0, 209, 172]
abbrev dktX6_nestCount_0 : List UInt8 := dkwX6_nestCount_0 ++ []
theorem dksX6_nestCount_0 : cX6_nestCount.data.toList.drop 0 = dktX6_nestCount_0 := by decide +kernel
theorem dX6_nestCount_0 : decode cX6_nestCount 0 = .ok (.aload_n 0, 1) := dk_42 (dk_at dksX6_nestCount_0 0 rfl rfl)
theorem dX6_nestCount_1 : decode cX6_nestCount 1 = .ok (.iconst 0, 1) := dk_3 (dk_at dksX6_nestCount_0 1 rfl rfl)
theorem dX6_nestCount_2 : decode cX6_nestCount 2 = .ok (.putfield 58, 3) := dk_181 0 58 (dk_at dksX6_nestCount_0 2 rfl rfl)
theorem dX6_nestCount_5 : decode cX6_nestCount 5 = .ok (.aload_n 0, 1) := dk_42 (dk_at dksX6_nestCount_0 5 rfl rfl)
theorem dX6_nestCount_6 : decode cX6_nestCount 6 = .ok (.invokevirtual 209, 3) := dk_182 0 209 (dk_at dksX6_nestCount_0 6 rfl rfl)
theorem dX6_nestCount_9 : decode cX6_nestCount 9 = .ok (.ireturn, 1) := dk_172 (dk_at dksX6_nestCount_0 9 rfl rfl)
abbrev cX6_pendingCount : ByteArray := prog_14_method_111_code
def yX6_pendingCount : MethodName := ⟨RX6, "pendingCount", "(I)I"⟩
def dkwX6_pendingCount_1 : List UInt8 := [172]
abbrev dktX6_pendingCount_1 : List UInt8 := dkwX6_pendingCount_1 ++ []
def dkwX6_pendingCount_0 : List UInt8 := [42, 27, 184, 1, 129, 182, 0, 221, 153, 0, 15, 42, 180, 0, 7, 16, 12, 27, 96, 46, 167, 0, 4, 3]
abbrev dktX6_pendingCount_0 : List UInt8 := dkwX6_pendingCount_0 ++ dktX6_pendingCount_1
theorem dksX6_pendingCount_0 : cX6_pendingCount.data.toList.drop 0 = dktX6_pendingCount_0 := by decide +kernel
theorem dksX6_pendingCount_1 : cX6_pendingCount.data.toList.drop 24 = dktX6_pendingCount_1 := dk_seg dksX6_pendingCount_0 24 rfl rfl
theorem dX6_pendingCount_0 : decode cX6_pendingCount 0 = .ok (.aload_n 0, 1) := dk_42 (dk_at dksX6_pendingCount_0 0 rfl rfl)
theorem dX6_pendingCount_1 : decode cX6_pendingCount 1 = .ok (.iload_n 1, 1) := dk_27 (dk_at dksX6_pendingCount_0 1 rfl rfl)
theorem dX6_pendingCount_2 : decode cX6_pendingCount 2 = .ok (.invokestatic 385, 3) := dk_184 1 129 (dk_at dksX6_pendingCount_0 2 rfl rfl)
theorem dX6_pendingCount_5 : decode cX6_pendingCount 5 = .ok (.invokevirtual 221, 3) := dk_182 0 221 (dk_at dksX6_pendingCount_0 5 rfl rfl)
theorem dX6_pendingCount_8 : decode cX6_pendingCount 8 = .ok (.ifCond .eq 15, 3) := dk_153 0 15 (dk_at dksX6_pendingCount_0 8 rfl rfl)
theorem dX6_pendingCount_11 : decode cX6_pendingCount 11 = .ok (.aload_n 0, 1) := dk_42 (dk_at dksX6_pendingCount_0 11 rfl rfl)
theorem dX6_pendingCount_12 : decode cX6_pendingCount 12 = .ok (.getfield 7, 3) := dk_180 0 7 (dk_at dksX6_pendingCount_0 12 rfl rfl)
theorem dX6_pendingCount_15 : decode cX6_pendingCount 15 = .ok (.bipush 12, 2) := dk_16 12 (dk_at dksX6_pendingCount_0 15 rfl rfl)
theorem dX6_pendingCount_17 : decode cX6_pendingCount 17 = .ok (.iload_n 1, 1) := dk_27 (dk_at dksX6_pendingCount_0 17 rfl rfl)
theorem dX6_pendingCount_18 : decode cX6_pendingCount 18 = .ok (.iadd, 1) := dk_96 (dk_at dksX6_pendingCount_0 18 rfl rfl)
theorem dX6_pendingCount_19 : decode cX6_pendingCount 19 = .ok (.iaload, 1) := dk_46 (dk_at dksX6_pendingCount_0 19 rfl rfl)
theorem dX6_pendingCount_20 : decode cX6_pendingCount 20 = .ok (.goto 4, 3) := dk_167 0 4 (dk_at dksX6_pendingCount_0 20 rfl rfl)
theorem dX6_pendingCount_23 : decode cX6_pendingCount 23 = .ok (.iconst 0, 1) := dk_3 (dk_at dksX6_pendingCount_0 23 rfl rfl)
theorem dX6_pendingCount_24 : decode cX6_pendingCount 24 = .ok (.ireturn, 1) := dk_172 (dk_at dksX6_pendingCount_1 0 rfl rfl)
abbrev cX6_isGardener : ByteArray := prog_14_method_14_code
def yX6_isGardener : MethodName := ⟨RX6, "isGardener", "(I)Z"⟩
def dkwX6_isGardener_0 : List UInt8 := [26, 133, 9, 10, 184, 0, 65, 172]
abbrev dktX6_isGardener_0 : List UInt8 := dkwX6_isGardener_0 ++ []
theorem dksX6_isGardener_0 : cX6_isGardener.data.toList.drop 0 = dktX6_isGardener_0 := by decide +kernel
theorem dX6_isGardener_0 : decode cX6_isGardener 0 = .ok (.iload_n 0, 1) := dk_26 (dk_at dksX6_isGardener_0 0 rfl rfl)
theorem dX6_isGardener_1 : decode cX6_isGardener 1 = .ok (.i2l, 1) := dk_133 (dk_at dksX6_isGardener_0 1 rfl rfl)
theorem dX6_isGardener_2 : decode cX6_isGardener 2 = .ok (.lconst 0, 1) := dk_9 (dk_at dksX6_isGardener_0 2 rfl rfl)
theorem dX6_isGardener_3 : decode cX6_isGardener 3 = .ok (.lconst 1, 1) := dk_10 (dk_at dksX6_isGardener_0 3 rfl rfl)
theorem dX6_isGardener_4 : decode cX6_isGardener 4 = .ok (.invokestatic 65, 3) := dk_184 0 65 (dk_at dksX6_isGardener_0 4 rfl rfl)
theorem dX6_isGardener_7 : decode cX6_isGardener 7 = .ok (.ireturn, 1) := dk_172 (dk_at dksX6_isGardener_0 7 rfl rfl)
abbrev cX6_pendingLetter : ByteArray := prog_14_method_112_code
def yX6_pendingLetter : MethodName := ⟨RX6, "pendingLetter", "(III)I"⟩
def dkwX6_pendingLetter_3 : List UInt8 := [96, 46, 167, 0, 4, 2, 172]
abbrev dktX6_pendingLetter_3 : List UInt8 := dkwX6_pendingLetter_3 ++ []
def dkwX6_pendingLetter_2 : List UInt8 := [180, 0, 7, 21, 4, 46, 4, 100, 133, 184, 0, 65, 153, 0, 17, 42, 180, 0, 7, 21, 4, 4, 96, 29]
abbrev dktX6_pendingLetter_2 : List UInt8 := dkwX6_pendingLetter_2 ++ dktX6_pendingLetter_3
def dkwX6_pendingLetter_1 : List UInt8 := [46, 4, 100, 133, 184, 0, 65, 154, 0, 5, 2, 172, 27, 28, 184, 0, 114, 54, 4, 29, 133, 9, 42]
abbrev dktX6_pendingLetter_1 : List UInt8 := dkwX6_pendingLetter_1 ++ dktX6_pendingLetter_2
def dkwX6_pendingLetter_0 : List UInt8 := [42, 27, 184, 1, 129, 182, 0, 221, 154, 0, 5, 3, 172, 28, 133, 9, 42, 180, 0, 7, 16, 12, 27, 96]
abbrev dktX6_pendingLetter_0 : List UInt8 := dkwX6_pendingLetter_0 ++ dktX6_pendingLetter_1
theorem dksX6_pendingLetter_0 : cX6_pendingLetter.data.toList.drop 0 = dktX6_pendingLetter_0 := by decide +kernel
theorem dksX6_pendingLetter_1 : cX6_pendingLetter.data.toList.drop 24 = dktX6_pendingLetter_1 := dk_seg dksX6_pendingLetter_0 24 rfl rfl
theorem dksX6_pendingLetter_2 : cX6_pendingLetter.data.toList.drop 47 = dktX6_pendingLetter_2 := dk_seg dksX6_pendingLetter_1 23 rfl rfl
theorem dksX6_pendingLetter_3 : cX6_pendingLetter.data.toList.drop 71 = dktX6_pendingLetter_3 := dk_seg dksX6_pendingLetter_2 24 rfl rfl
theorem dX6_pendingLetter_0 : decode cX6_pendingLetter 0 = .ok (.aload_n 0, 1) := dk_42 (dk_at dksX6_pendingLetter_0 0 rfl rfl)
theorem dX6_pendingLetter_1 : decode cX6_pendingLetter 1 = .ok (.iload_n 1, 1) := dk_27 (dk_at dksX6_pendingLetter_0 1 rfl rfl)
theorem dX6_pendingLetter_2 : decode cX6_pendingLetter 2 = .ok (.invokestatic 385, 3) := dk_184 1 129 (dk_at dksX6_pendingLetter_0 2 rfl rfl)
theorem dX6_pendingLetter_5 : decode cX6_pendingLetter 5 = .ok (.invokevirtual 221, 3) := dk_182 0 221 (dk_at dksX6_pendingLetter_0 5 rfl rfl)
theorem dX6_pendingLetter_8 : decode cX6_pendingLetter 8 = .ok (.ifCond .ne 5, 3) := dk_154 0 5 (dk_at dksX6_pendingLetter_0 8 rfl rfl)
theorem dX6_pendingLetter_11 : decode cX6_pendingLetter 11 = .ok (.iconst 0, 1) := dk_3 (dk_at dksX6_pendingLetter_0 11 rfl rfl)
theorem dX6_pendingLetter_12 : decode cX6_pendingLetter 12 = .ok (.ireturn, 1) := dk_172 (dk_at dksX6_pendingLetter_0 12 rfl rfl)
theorem dX6_pendingLetter_13 : decode cX6_pendingLetter 13 = .ok (.iload_n 2, 1) := dk_28 (dk_at dksX6_pendingLetter_0 13 rfl rfl)
theorem dX6_pendingLetter_14 : decode cX6_pendingLetter 14 = .ok (.i2l, 1) := dk_133 (dk_at dksX6_pendingLetter_0 14 rfl rfl)
theorem dX6_pendingLetter_15 : decode cX6_pendingLetter 15 = .ok (.lconst 0, 1) := dk_9 (dk_at dksX6_pendingLetter_0 15 rfl rfl)
theorem dX6_pendingLetter_16 : decode cX6_pendingLetter 16 = .ok (.aload_n 0, 1) := dk_42 (dk_at dksX6_pendingLetter_0 16 rfl rfl)
theorem dX6_pendingLetter_17 : decode cX6_pendingLetter 17 = .ok (.getfield 7, 3) := dk_180 0 7 (dk_at dksX6_pendingLetter_0 17 rfl rfl)
theorem dX6_pendingLetter_20 : decode cX6_pendingLetter 20 = .ok (.bipush 12, 2) := dk_16 12 (dk_at dksX6_pendingLetter_0 20 rfl rfl)
theorem dX6_pendingLetter_22 : decode cX6_pendingLetter 22 = .ok (.iload_n 1, 1) := dk_27 (dk_at dksX6_pendingLetter_0 22 rfl rfl)
theorem dX6_pendingLetter_23 : decode cX6_pendingLetter 23 = .ok (.iadd, 1) := dk_96 (dk_at dksX6_pendingLetter_0 23 rfl rfl)
theorem dX6_pendingLetter_24 : decode cX6_pendingLetter 24 = .ok (.iaload, 1) := dk_46 (dk_at dksX6_pendingLetter_1 0 rfl rfl)
theorem dX6_pendingLetter_25 : decode cX6_pendingLetter 25 = .ok (.iconst 1, 1) := dk_4 (dk_at dksX6_pendingLetter_1 1 rfl rfl)
theorem dX6_pendingLetter_26 : decode cX6_pendingLetter 26 = .ok (.isub, 1) := dk_100 (dk_at dksX6_pendingLetter_1 2 rfl rfl)
theorem dX6_pendingLetter_27 : decode cX6_pendingLetter 27 = .ok (.i2l, 1) := dk_133 (dk_at dksX6_pendingLetter_1 3 rfl rfl)
theorem dX6_pendingLetter_28 : decode cX6_pendingLetter 28 = .ok (.invokestatic 65, 3) := dk_184 0 65 (dk_at dksX6_pendingLetter_1 4 rfl rfl)
theorem dX6_pendingLetter_31 : decode cX6_pendingLetter 31 = .ok (.ifCond .ne 5, 3) := dk_154 0 5 (dk_at dksX6_pendingLetter_1 7 rfl rfl)
theorem dX6_pendingLetter_34 : decode cX6_pendingLetter 34 = .ok (.iconst (-1), 1) := dk_2 (dk_at dksX6_pendingLetter_1 10 rfl rfl)
theorem dX6_pendingLetter_35 : decode cX6_pendingLetter 35 = .ok (.ireturn, 1) := dk_172 (dk_at dksX6_pendingLetter_1 11 rfl rfl)
theorem dX6_pendingLetter_36 : decode cX6_pendingLetter 36 = .ok (.iload_n 1, 1) := dk_27 (dk_at dksX6_pendingLetter_1 12 rfl rfl)
theorem dX6_pendingLetter_37 : decode cX6_pendingLetter 37 = .ok (.iload_n 2, 1) := dk_28 (dk_at dksX6_pendingLetter_1 13 rfl rfl)
theorem dX6_pendingLetter_38 : decode cX6_pendingLetter 38 = .ok (.invokestatic 114, 3) := dk_184 0 114 (dk_at dksX6_pendingLetter_1 14 rfl rfl)
theorem dX6_pendingLetter_41 : decode cX6_pendingLetter 41 = .ok (.istore 4, 2) := dk_54 4 (dk_at dksX6_pendingLetter_1 17 rfl rfl)
theorem dX6_pendingLetter_43 : decode cX6_pendingLetter 43 = .ok (.iload_n 3, 1) := dk_29 (dk_at dksX6_pendingLetter_1 19 rfl rfl)
theorem dX6_pendingLetter_44 : decode cX6_pendingLetter 44 = .ok (.i2l, 1) := dk_133 (dk_at dksX6_pendingLetter_1 20 rfl rfl)
theorem dX6_pendingLetter_45 : decode cX6_pendingLetter 45 = .ok (.lconst 0, 1) := dk_9 (dk_at dksX6_pendingLetter_1 21 rfl rfl)
theorem dX6_pendingLetter_46 : decode cX6_pendingLetter 46 = .ok (.aload_n 0, 1) := dk_42 (dk_at dksX6_pendingLetter_1 22 rfl rfl)
theorem dX6_pendingLetter_47 : decode cX6_pendingLetter 47 = .ok (.getfield 7, 3) := dk_180 0 7 (dk_at dksX6_pendingLetter_2 0 rfl rfl)
theorem dX6_pendingLetter_50 : decode cX6_pendingLetter 50 = .ok (.iload 4, 2) := dk_21 4 (dk_at dksX6_pendingLetter_2 3 rfl rfl)
theorem dX6_pendingLetter_52 : decode cX6_pendingLetter 52 = .ok (.iaload, 1) := dk_46 (dk_at dksX6_pendingLetter_2 5 rfl rfl)
theorem dX6_pendingLetter_53 : decode cX6_pendingLetter 53 = .ok (.iconst 1, 1) := dk_4 (dk_at dksX6_pendingLetter_2 6 rfl rfl)
theorem dX6_pendingLetter_54 : decode cX6_pendingLetter 54 = .ok (.isub, 1) := dk_100 (dk_at dksX6_pendingLetter_2 7 rfl rfl)
theorem dX6_pendingLetter_55 : decode cX6_pendingLetter 55 = .ok (.i2l, 1) := dk_133 (dk_at dksX6_pendingLetter_2 8 rfl rfl)
theorem dX6_pendingLetter_56 : decode cX6_pendingLetter 56 = .ok (.invokestatic 65, 3) := dk_184 0 65 (dk_at dksX6_pendingLetter_2 9 rfl rfl)
theorem dX6_pendingLetter_59 : decode cX6_pendingLetter 59 = .ok (.ifCond .eq 17, 3) := dk_153 0 17 (dk_at dksX6_pendingLetter_2 12 rfl rfl)
theorem dX6_pendingLetter_62 : decode cX6_pendingLetter 62 = .ok (.aload_n 0, 1) := dk_42 (dk_at dksX6_pendingLetter_2 15 rfl rfl)
theorem dX6_pendingLetter_63 : decode cX6_pendingLetter 63 = .ok (.getfield 7, 3) := dk_180 0 7 (dk_at dksX6_pendingLetter_2 16 rfl rfl)
theorem dX6_pendingLetter_66 : decode cX6_pendingLetter 66 = .ok (.iload 4, 2) := dk_21 4 (dk_at dksX6_pendingLetter_2 19 rfl rfl)
theorem dX6_pendingLetter_68 : decode cX6_pendingLetter 68 = .ok (.iconst 1, 1) := dk_4 (dk_at dksX6_pendingLetter_2 21 rfl rfl)
theorem dX6_pendingLetter_69 : decode cX6_pendingLetter 69 = .ok (.iadd, 1) := dk_96 (dk_at dksX6_pendingLetter_2 22 rfl rfl)
theorem dX6_pendingLetter_70 : decode cX6_pendingLetter 70 = .ok (.iload_n 3, 1) := dk_29 (dk_at dksX6_pendingLetter_2 23 rfl rfl)
theorem dX6_pendingLetter_71 : decode cX6_pendingLetter 71 = .ok (.iadd, 1) := dk_96 (dk_at dksX6_pendingLetter_3 0 rfl rfl)
theorem dX6_pendingLetter_72 : decode cX6_pendingLetter 72 = .ok (.iaload, 1) := dk_46 (dk_at dksX6_pendingLetter_3 1 rfl rfl)
theorem dX6_pendingLetter_73 : decode cX6_pendingLetter 73 = .ok (.goto 4, 3) := dk_167 0 4 (dk_at dksX6_pendingLetter_3 2 rfl rfl)
theorem dX6_pendingLetter_76 : decode cX6_pendingLetter 76 = .ok (.iconst (-1), 1) := dk_2 (dk_at dksX6_pendingLetter_3 5 rfl rfl)
theorem dX6_pendingLetter_77 : decode cX6_pendingLetter 77 = .ok (.ireturn, 1) := dk_172 (dk_at dksX6_pendingLetter_3 6 rfl rfl)
abbrev cX6_lettersWritten : ByteArray := prog_14_method_113_code
def yX6_lettersWritten : MethodName := ⟨RX6, "lettersWritten", "(I)I"⟩
def dkwX6_lettersWritten_1 : List UInt8 := [180, 0, 7, 27, 184, 0, 91, 16, 14, 96, 46, 167, 0, 4, 3, 172]
abbrev dktX6_lettersWritten_1 : List UInt8 := dkwX6_lettersWritten_1 ++ []
def dkwX6_lettersWritten_0 : List UInt8 := [42, 27, 184, 1, 129, 182, 0, 221, 154, 0, 5, 3, 172, 42, 27, 182, 0, 134, 153, 0, 18, 42]
abbrev dktX6_lettersWritten_0 : List UInt8 := dkwX6_lettersWritten_0 ++ dktX6_lettersWritten_1
theorem dksX6_lettersWritten_0 : cX6_lettersWritten.data.toList.drop 0 = dktX6_lettersWritten_0 := by decide +kernel
theorem dksX6_lettersWritten_1 : cX6_lettersWritten.data.toList.drop 22 = dktX6_lettersWritten_1 := dk_seg dksX6_lettersWritten_0 22 rfl rfl
theorem dX6_lettersWritten_0 : decode cX6_lettersWritten 0 = .ok (.aload_n 0, 1) := dk_42 (dk_at dksX6_lettersWritten_0 0 rfl rfl)
theorem dX6_lettersWritten_1 : decode cX6_lettersWritten 1 = .ok (.iload_n 1, 1) := dk_27 (dk_at dksX6_lettersWritten_0 1 rfl rfl)
theorem dX6_lettersWritten_2 : decode cX6_lettersWritten 2 = .ok (.invokestatic 385, 3) := dk_184 1 129 (dk_at dksX6_lettersWritten_0 2 rfl rfl)
theorem dX6_lettersWritten_5 : decode cX6_lettersWritten 5 = .ok (.invokevirtual 221, 3) := dk_182 0 221 (dk_at dksX6_lettersWritten_0 5 rfl rfl)
theorem dX6_lettersWritten_8 : decode cX6_lettersWritten 8 = .ok (.ifCond .ne 5, 3) := dk_154 0 5 (dk_at dksX6_lettersWritten_0 8 rfl rfl)
theorem dX6_lettersWritten_11 : decode cX6_lettersWritten 11 = .ok (.iconst 0, 1) := dk_3 (dk_at dksX6_lettersWritten_0 11 rfl rfl)
theorem dX6_lettersWritten_12 : decode cX6_lettersWritten 12 = .ok (.ireturn, 1) := dk_172 (dk_at dksX6_lettersWritten_0 12 rfl rfl)
theorem dX6_lettersWritten_13 : decode cX6_lettersWritten 13 = .ok (.aload_n 0, 1) := dk_42 (dk_at dksX6_lettersWritten_0 13 rfl rfl)
theorem dX6_lettersWritten_14 : decode cX6_lettersWritten 14 = .ok (.iload_n 1, 1) := dk_27 (dk_at dksX6_lettersWritten_0 14 rfl rfl)
theorem dX6_lettersWritten_15 : decode cX6_lettersWritten 15 = .ok (.invokevirtual 134, 3) := dk_182 0 134 (dk_at dksX6_lettersWritten_0 15 rfl rfl)
theorem dX6_lettersWritten_18 : decode cX6_lettersWritten 18 = .ok (.ifCond .eq 18, 3) := dk_153 0 18 (dk_at dksX6_lettersWritten_0 18 rfl rfl)
theorem dX6_lettersWritten_21 : decode cX6_lettersWritten 21 = .ok (.aload_n 0, 1) := dk_42 (dk_at dksX6_lettersWritten_0 21 rfl rfl)
theorem dX6_lettersWritten_22 : decode cX6_lettersWritten 22 = .ok (.getfield 7, 3) := dk_180 0 7 (dk_at dksX6_lettersWritten_1 0 rfl rfl)
theorem dX6_lettersWritten_25 : decode cX6_lettersWritten 25 = .ok (.iload_n 1, 1) := dk_27 (dk_at dksX6_lettersWritten_1 3 rfl rfl)
theorem dX6_lettersWritten_26 : decode cX6_lettersWritten 26 = .ok (.invokestatic 91, 3) := dk_184 0 91 (dk_at dksX6_lettersWritten_1 4 rfl rfl)
theorem dX6_lettersWritten_29 : decode cX6_lettersWritten 29 = .ok (.bipush 14, 2) := dk_16 14 (dk_at dksX6_lettersWritten_1 7 rfl rfl)
theorem dX6_lettersWritten_31 : decode cX6_lettersWritten 31 = .ok (.iadd, 1) := dk_96 (dk_at dksX6_lettersWritten_1 9 rfl rfl)
theorem dX6_lettersWritten_32 : decode cX6_lettersWritten 32 = .ok (.iaload, 1) := dk_46 (dk_at dksX6_lettersWritten_1 10 rfl rfl)
theorem dX6_lettersWritten_33 : decode cX6_lettersWritten 33 = .ok (.goto 4, 3) := dk_167 0 4 (dk_at dksX6_lettersWritten_1 11 rfl rfl)
theorem dX6_lettersWritten_36 : decode cX6_lettersWritten 36 = .ok (.iconst 0, 1) := dk_3 (dk_at dksX6_lettersWritten_1 14 rfl rfl)
theorem dX6_lettersWritten_37 : decode cX6_lettersWritten 37 = .ok (.ireturn, 1) := dk_172 (dk_at dksX6_lettersWritten_1 15 rfl rfl)
abbrev cX6_startSlot : ByteArray := prog_14_method_114_code
def yX6_startSlot : MethodName := ⟨RX6, "startSlot", "(I)I"⟩
def dkwX6_startSlot_1 : List UInt8 := [180, 0, 7, 27, 184, 0, 91, 16, 13, 96, 46, 167, 0, 4, 2, 172]
abbrev dktX6_startSlot_1 : List UInt8 := dkwX6_startSlot_1 ++ []
def dkwX6_startSlot_0 : List UInt8 := [42, 27, 184, 1, 129, 182, 0, 221, 154, 0, 5, 3, 172, 42, 27, 182, 0, 134, 153, 0, 18, 42]
abbrev dktX6_startSlot_0 : List UInt8 := dkwX6_startSlot_0 ++ dktX6_startSlot_1
theorem dksX6_startSlot_0 : cX6_startSlot.data.toList.drop 0 = dktX6_startSlot_0 := by decide +kernel
theorem dksX6_startSlot_1 : cX6_startSlot.data.toList.drop 22 = dktX6_startSlot_1 := dk_seg dksX6_startSlot_0 22 rfl rfl
theorem dX6_startSlot_0 : decode cX6_startSlot 0 = .ok (.aload_n 0, 1) := dk_42 (dk_at dksX6_startSlot_0 0 rfl rfl)
theorem dX6_startSlot_1 : decode cX6_startSlot 1 = .ok (.iload_n 1, 1) := dk_27 (dk_at dksX6_startSlot_0 1 rfl rfl)
theorem dX6_startSlot_2 : decode cX6_startSlot 2 = .ok (.invokestatic 385, 3) := dk_184 1 129 (dk_at dksX6_startSlot_0 2 rfl rfl)
theorem dX6_startSlot_5 : decode cX6_startSlot 5 = .ok (.invokevirtual 221, 3) := dk_182 0 221 (dk_at dksX6_startSlot_0 5 rfl rfl)
theorem dX6_startSlot_8 : decode cX6_startSlot 8 = .ok (.ifCond .ne 5, 3) := dk_154 0 5 (dk_at dksX6_startSlot_0 8 rfl rfl)
theorem dX6_startSlot_11 : decode cX6_startSlot 11 = .ok (.iconst 0, 1) := dk_3 (dk_at dksX6_startSlot_0 11 rfl rfl)
theorem dX6_startSlot_12 : decode cX6_startSlot 12 = .ok (.ireturn, 1) := dk_172 (dk_at dksX6_startSlot_0 12 rfl rfl)
theorem dX6_startSlot_13 : decode cX6_startSlot 13 = .ok (.aload_n 0, 1) := dk_42 (dk_at dksX6_startSlot_0 13 rfl rfl)
theorem dX6_startSlot_14 : decode cX6_startSlot 14 = .ok (.iload_n 1, 1) := dk_27 (dk_at dksX6_startSlot_0 14 rfl rfl)
theorem dX6_startSlot_15 : decode cX6_startSlot 15 = .ok (.invokevirtual 134, 3) := dk_182 0 134 (dk_at dksX6_startSlot_0 15 rfl rfl)
theorem dX6_startSlot_18 : decode cX6_startSlot 18 = .ok (.ifCond .eq 18, 3) := dk_153 0 18 (dk_at dksX6_startSlot_0 18 rfl rfl)
theorem dX6_startSlot_21 : decode cX6_startSlot 21 = .ok (.aload_n 0, 1) := dk_42 (dk_at dksX6_startSlot_0 21 rfl rfl)
theorem dX6_startSlot_22 : decode cX6_startSlot 22 = .ok (.getfield 7, 3) := dk_180 0 7 (dk_at dksX6_startSlot_1 0 rfl rfl)
theorem dX6_startSlot_25 : decode cX6_startSlot 25 = .ok (.iload_n 1, 1) := dk_27 (dk_at dksX6_startSlot_1 3 rfl rfl)
theorem dX6_startSlot_26 : decode cX6_startSlot 26 = .ok (.invokestatic 91, 3) := dk_184 0 91 (dk_at dksX6_startSlot_1 4 rfl rfl)
theorem dX6_startSlot_29 : decode cX6_startSlot 29 = .ok (.bipush 13, 2) := dk_16 13 (dk_at dksX6_startSlot_1 7 rfl rfl)
theorem dX6_startSlot_31 : decode cX6_startSlot 31 = .ok (.iadd, 1) := dk_96 (dk_at dksX6_startSlot_1 9 rfl rfl)
theorem dX6_startSlot_32 : decode cX6_startSlot 32 = .ok (.iaload, 1) := dk_46 (dk_at dksX6_startSlot_1 10 rfl rfl)
theorem dX6_startSlot_33 : decode cX6_startSlot 33 = .ok (.goto 4, 3) := dk_167 0 4 (dk_at dksX6_startSlot_1 11 rfl rfl)
theorem dX6_startSlot_36 : decode cX6_startSlot 36 = .ok (.iconst (-1), 1) := dk_2 (dk_at dksX6_startSlot_1 14 rfl rfl)
theorem dX6_startSlot_37 : decode cX6_startSlot 37 = .ok (.ireturn, 1) := dk_172 (dk_at dksX6_startSlot_1 15 rfl rfl)
abbrev cX6_postedCount : ByteArray := prog_14_method_116_code
def yX6_postedCount : MethodName := ⟨RX6, "postedCount", "(I)I"⟩
def dkwX6_postedCount_0 : List UInt8 := [42, 27, 184, 1, 129, 182, 0, 221, 153, 0, 11, 42, 27, 182, 1, 132, 167, 0, 4, 3, 172]
abbrev dktX6_postedCount_0 : List UInt8 := dkwX6_postedCount_0 ++ []
theorem dksX6_postedCount_0 : cX6_postedCount.data.toList.drop 0 = dktX6_postedCount_0 := by decide +kernel
theorem dX6_postedCount_0 : decode cX6_postedCount 0 = .ok (.aload_n 0, 1) := dk_42 (dk_at dksX6_postedCount_0 0 rfl rfl)
theorem dX6_postedCount_1 : decode cX6_postedCount 1 = .ok (.iload_n 1, 1) := dk_27 (dk_at dksX6_postedCount_0 1 rfl rfl)
theorem dX6_postedCount_2 : decode cX6_postedCount 2 = .ok (.invokestatic 385, 3) := dk_184 1 129 (dk_at dksX6_postedCount_0 2 rfl rfl)
theorem dX6_postedCount_5 : decode cX6_postedCount 5 = .ok (.invokevirtual 221, 3) := dk_182 0 221 (dk_at dksX6_postedCount_0 5 rfl rfl)
theorem dX6_postedCount_8 : decode cX6_postedCount 8 = .ok (.ifCond .eq 11, 3) := dk_153 0 11 (dk_at dksX6_postedCount_0 8 rfl rfl)
theorem dX6_postedCount_11 : decode cX6_postedCount 11 = .ok (.aload_n 0, 1) := dk_42 (dk_at dksX6_postedCount_0 11 rfl rfl)
theorem dX6_postedCount_12 : decode cX6_postedCount 12 = .ok (.iload_n 1, 1) := dk_27 (dk_at dksX6_postedCount_0 12 rfl rfl)
theorem dX6_postedCount_13 : decode cX6_postedCount 13 = .ok (.invokevirtual 388, 3) := dk_182 1 132 (dk_at dksX6_postedCount_0 13 rfl rfl)
theorem dX6_postedCount_16 : decode cX6_postedCount 16 = .ok (.goto 4, 3) := dk_167 0 4 (dk_at dksX6_postedCount_0 16 rfl rfl)
theorem dX6_postedCount_19 : decode cX6_postedCount 19 = .ok (.iconst 0, 1) := dk_3 (dk_at dksX6_postedCount_0 19 rfl rfl)
theorem dX6_postedCount_20 : decode cX6_postedCount 20 = .ok (.ireturn, 1) := dk_172 (dk_at dksX6_postedCount_0 20 rfl rfl)
abbrev cX6_postedOf : ByteArray := prog_14_method_115_code
def yX6_postedOf : MethodName := ⟨RX6, "postedOf", "(I)I"⟩
def dkwX6_postedOf_2 : List UInt8 := [28, 172]
abbrev dktX6_postedOf_2 : List UInt8 := dkwX6_postedOf_2 ++ []
def dkwX6_postedOf_1 : List UInt8 := [16, 14, 96, 46, 27, 160, 0, 7, 4, 167, 0, 4, 3, 184, 0, 80, 96, 61, 132, 3, 1, 167, 255, 215]
abbrev dktX6_postedOf_1 : List UInt8 := dkwX6_postedOf_1 ++ dktX6_postedOf_2
def dkwX6_postedOf_0 : List UInt8 := [3, 61, 3, 62, 29, 42, 180, 0, 7, 16, 11, 46, 162, 0, 36, 28, 42, 180, 0, 7, 29, 184, 0, 95]
abbrev dktX6_postedOf_0 : List UInt8 := dkwX6_postedOf_0 ++ dktX6_postedOf_1
theorem dksX6_postedOf_0 : cX6_postedOf.data.toList.drop 0 = dktX6_postedOf_0 := by decide +kernel
theorem dksX6_postedOf_1 : cX6_postedOf.data.toList.drop 24 = dktX6_postedOf_1 := dk_seg dksX6_postedOf_0 24 rfl rfl
theorem dksX6_postedOf_2 : cX6_postedOf.data.toList.drop 48 = dktX6_postedOf_2 := dk_seg dksX6_postedOf_1 24 rfl rfl
theorem dX6_postedOf_0 : decode cX6_postedOf 0 = .ok (.iconst 0, 1) := dk_3 (dk_at dksX6_postedOf_0 0 rfl rfl)
theorem dX6_postedOf_1 : decode cX6_postedOf 1 = .ok (.istore_n 2, 1) := dk_61 (dk_at dksX6_postedOf_0 1 rfl rfl)
theorem dX6_postedOf_2 : decode cX6_postedOf 2 = .ok (.iconst 0, 1) := dk_3 (dk_at dksX6_postedOf_0 2 rfl rfl)
theorem dX6_postedOf_3 : decode cX6_postedOf 3 = .ok (.istore_n 3, 1) := dk_62 (dk_at dksX6_postedOf_0 3 rfl rfl)
theorem dX6_postedOf_4 : decode cX6_postedOf 4 = .ok (.iload_n 3, 1) := dk_29 (dk_at dksX6_postedOf_0 4 rfl rfl)
theorem dX6_postedOf_5 : decode cX6_postedOf 5 = .ok (.aload_n 0, 1) := dk_42 (dk_at dksX6_postedOf_0 5 rfl rfl)
theorem dX6_postedOf_6 : decode cX6_postedOf 6 = .ok (.getfield 7, 3) := dk_180 0 7 (dk_at dksX6_postedOf_0 6 rfl rfl)
theorem dX6_postedOf_9 : decode cX6_postedOf 9 = .ok (.bipush 11, 2) := dk_16 11 (dk_at dksX6_postedOf_0 9 rfl rfl)
theorem dX6_postedOf_11 : decode cX6_postedOf 11 = .ok (.iaload, 1) := dk_46 (dk_at dksX6_postedOf_0 11 rfl rfl)
theorem dX6_postedOf_12 : decode cX6_postedOf 12 = .ok (.if_icmp .ge 36, 3) := dk_162 0 36 (dk_at dksX6_postedOf_0 12 rfl rfl)
theorem dX6_postedOf_15 : decode cX6_postedOf 15 = .ok (.iload_n 2, 1) := dk_28 (dk_at dksX6_postedOf_0 15 rfl rfl)
theorem dX6_postedOf_16 : decode cX6_postedOf 16 = .ok (.aload_n 0, 1) := dk_42 (dk_at dksX6_postedOf_0 16 rfl rfl)
theorem dX6_postedOf_17 : decode cX6_postedOf 17 = .ok (.getfield 7, 3) := dk_180 0 7 (dk_at dksX6_postedOf_0 17 rfl rfl)
theorem dX6_postedOf_20 : decode cX6_postedOf 20 = .ok (.iload_n 3, 1) := dk_29 (dk_at dksX6_postedOf_0 20 rfl rfl)
theorem dX6_postedOf_21 : decode cX6_postedOf 21 = .ok (.invokestatic 95, 3) := dk_184 0 95 (dk_at dksX6_postedOf_0 21 rfl rfl)
theorem dX6_postedOf_24 : decode cX6_postedOf 24 = .ok (.bipush 14, 2) := dk_16 14 (dk_at dksX6_postedOf_1 0 rfl rfl)
theorem dX6_postedOf_26 : decode cX6_postedOf 26 = .ok (.iadd, 1) := dk_96 (dk_at dksX6_postedOf_1 2 rfl rfl)
theorem dX6_postedOf_27 : decode cX6_postedOf 27 = .ok (.iaload, 1) := dk_46 (dk_at dksX6_postedOf_1 3 rfl rfl)
theorem dX6_postedOf_28 : decode cX6_postedOf 28 = .ok (.iload_n 1, 1) := dk_27 (dk_at dksX6_postedOf_1 4 rfl rfl)
theorem dX6_postedOf_29 : decode cX6_postedOf 29 = .ok (.if_icmp .ne 7, 3) := dk_160 0 7 (dk_at dksX6_postedOf_1 5 rfl rfl)
theorem dX6_postedOf_32 : decode cX6_postedOf 32 = .ok (.iconst 1, 1) := dk_4 (dk_at dksX6_postedOf_1 8 rfl rfl)
theorem dX6_postedOf_33 : decode cX6_postedOf 33 = .ok (.goto 4, 3) := dk_167 0 4 (dk_at dksX6_postedOf_1 9 rfl rfl)
theorem dX6_postedOf_36 : decode cX6_postedOf 36 = .ok (.iconst 0, 1) := dk_3 (dk_at dksX6_postedOf_1 12 rfl rfl)
theorem dX6_postedOf_37 : decode cX6_postedOf 37 = .ok (.invokestatic 80, 3) := dk_184 0 80 (dk_at dksX6_postedOf_1 13 rfl rfl)
theorem dX6_postedOf_40 : decode cX6_postedOf 40 = .ok (.iadd, 1) := dk_96 (dk_at dksX6_postedOf_1 16 rfl rfl)
theorem dX6_postedOf_41 : decode cX6_postedOf 41 = .ok (.istore_n 2, 1) := dk_61 (dk_at dksX6_postedOf_1 17 rfl rfl)
theorem dX6_postedOf_42 : decode cX6_postedOf 42 = .ok (.iinc 3 1, 3) := dk_132 3 1 (dk_at dksX6_postedOf_1 18 rfl rfl)
theorem dX6_postedOf_45 : decode cX6_postedOf 45 = .ok (.goto (-41), 3) := dk_167 255 215 (dk_at dksX6_postedOf_1 21 rfl rfl)
theorem dX6_postedOf_48 : decode cX6_postedOf 48 = .ok (.iload_n 2, 1) := dk_28 (dk_at dksX6_postedOf_2 0 rfl rfl)
theorem dX6_postedOf_49 : decode cX6_postedOf 49 = .ok (.ireturn, 1) := dk_172 (dk_at dksX6_postedOf_2 1 rfl rfl)
abbrev cX6_nextStartSlot : ByteArray := prog_14_method_117_code
def yX6_nextStartSlot : MethodName := ⟨RX6, "nextStartSlot", "(I)I"⟩
def dkwX6_nextStartSlot_0 : List UInt8 := [42, 27, 184, 1, 129, 182, 0, 221, 153, 0, 11, 42, 27, 182, 0, 137, 167, 0, 4, 3, 172]
abbrev dktX6_nextStartSlot_0 : List UInt8 := dkwX6_nextStartSlot_0 ++ []
theorem dksX6_nextStartSlot_0 : cX6_nextStartSlot.data.toList.drop 0 = dktX6_nextStartSlot_0 := by decide +kernel
theorem dX6_nextStartSlot_0 : decode cX6_nextStartSlot 0 = .ok (.aload_n 0, 1) := dk_42 (dk_at dksX6_nextStartSlot_0 0 rfl rfl)
theorem dX6_nextStartSlot_1 : decode cX6_nextStartSlot 1 = .ok (.iload_n 1, 1) := dk_27 (dk_at dksX6_nextStartSlot_0 1 rfl rfl)
theorem dX6_nextStartSlot_2 : decode cX6_nextStartSlot 2 = .ok (.invokestatic 385, 3) := dk_184 1 129 (dk_at dksX6_nextStartSlot_0 2 rfl rfl)
theorem dX6_nextStartSlot_5 : decode cX6_nextStartSlot 5 = .ok (.invokevirtual 221, 3) := dk_182 0 221 (dk_at dksX6_nextStartSlot_0 5 rfl rfl)
theorem dX6_nextStartSlot_8 : decode cX6_nextStartSlot 8 = .ok (.ifCond .eq 11, 3) := dk_153 0 11 (dk_at dksX6_nextStartSlot_0 8 rfl rfl)
theorem dX6_nextStartSlot_11 : decode cX6_nextStartSlot 11 = .ok (.aload_n 0, 1) := dk_42 (dk_at dksX6_nextStartSlot_0 11 rfl rfl)
theorem dX6_nextStartSlot_12 : decode cX6_nextStartSlot 12 = .ok (.iload_n 1, 1) := dk_27 (dk_at dksX6_nextStartSlot_0 12 rfl rfl)
theorem dX6_nextStartSlot_13 : decode cX6_nextStartSlot 13 = .ok (.invokevirtual 137, 3) := dk_182 0 137 (dk_at dksX6_nextStartSlot_0 13 rfl rfl)
theorem dX6_nextStartSlot_16 : decode cX6_nextStartSlot 16 = .ok (.goto 4, 3) := dk_167 0 4 (dk_at dksX6_nextStartSlot_0 16 rfl rfl)
theorem dX6_nextStartSlot_19 : decode cX6_nextStartSlot 19 = .ok (.iconst 0, 1) := dk_3 (dk_at dksX6_nextStartSlot_0 19 rfl rfl)
theorem dX6_nextStartSlot_20 : decode cX6_nextStartSlot 20 = .ok (.ireturn, 1) := dk_172 (dk_at dksX6_nextStartSlot_0 20 rfl rfl)
abbrev cX6_longestFreeRun : ByteArray := prog_14_method_118_code
def yX6_longestFreeRun : MethodName := ⟨RX6, "longestFreeRun", "()I"⟩
def dkwX6_longestFreeRun_2 : List UInt8 := [167, 255, 221, 27, 172]
abbrev dktX6_longestFreeRun_2 : List UInt8 := dkwX6_longestFreeRun_2 ++ []
def dkwX6_longestFreeRun_1 : List UInt8 := [182, 0, 105, 153, 0, 9, 28, 4, 96, 167, 0, 4, 3, 61, 27, 28, 184, 0, 153, 60, 132, 3, 1]
abbrev dktX6_longestFreeRun_1 : List UInt8 := dkwX6_longestFreeRun_1 ++ dktX6_longestFreeRun_2
def dkwX6_longestFreeRun_0 : List UInt8 := [42, 3, 181, 0, 58, 3, 60, 3, 61, 3, 62, 29, 42, 180, 0, 7, 3, 46, 162, 0, 31, 42, 29]
abbrev dktX6_longestFreeRun_0 : List UInt8 := dkwX6_longestFreeRun_0 ++ dktX6_longestFreeRun_1
theorem dksX6_longestFreeRun_0 : cX6_longestFreeRun.data.toList.drop 0 = dktX6_longestFreeRun_0 := by decide +kernel
theorem dksX6_longestFreeRun_1 : cX6_longestFreeRun.data.toList.drop 23 = dktX6_longestFreeRun_1 := dk_seg dksX6_longestFreeRun_0 23 rfl rfl
theorem dksX6_longestFreeRun_2 : cX6_longestFreeRun.data.toList.drop 46 = dktX6_longestFreeRun_2 := dk_seg dksX6_longestFreeRun_1 23 rfl rfl
theorem dX6_longestFreeRun_0 : decode cX6_longestFreeRun 0 = .ok (.aload_n 0, 1) := dk_42 (dk_at dksX6_longestFreeRun_0 0 rfl rfl)
theorem dX6_longestFreeRun_1 : decode cX6_longestFreeRun 1 = .ok (.iconst 0, 1) := dk_3 (dk_at dksX6_longestFreeRun_0 1 rfl rfl)
theorem dX6_longestFreeRun_2 : decode cX6_longestFreeRun 2 = .ok (.putfield 58, 3) := dk_181 0 58 (dk_at dksX6_longestFreeRun_0 2 rfl rfl)
theorem dX6_longestFreeRun_5 : decode cX6_longestFreeRun 5 = .ok (.iconst 0, 1) := dk_3 (dk_at dksX6_longestFreeRun_0 5 rfl rfl)
theorem dX6_longestFreeRun_6 : decode cX6_longestFreeRun 6 = .ok (.istore_n 1, 1) := dk_60 (dk_at dksX6_longestFreeRun_0 6 rfl rfl)
theorem dX6_longestFreeRun_7 : decode cX6_longestFreeRun 7 = .ok (.iconst 0, 1) := dk_3 (dk_at dksX6_longestFreeRun_0 7 rfl rfl)
theorem dX6_longestFreeRun_8 : decode cX6_longestFreeRun 8 = .ok (.istore_n 2, 1) := dk_61 (dk_at dksX6_longestFreeRun_0 8 rfl rfl)
theorem dX6_longestFreeRun_9 : decode cX6_longestFreeRun 9 = .ok (.iconst 0, 1) := dk_3 (dk_at dksX6_longestFreeRun_0 9 rfl rfl)
theorem dX6_longestFreeRun_10 : decode cX6_longestFreeRun 10 = .ok (.istore_n 3, 1) := dk_62 (dk_at dksX6_longestFreeRun_0 10 rfl rfl)
theorem dX6_longestFreeRun_11 : decode cX6_longestFreeRun 11 = .ok (.iload_n 3, 1) := dk_29 (dk_at dksX6_longestFreeRun_0 11 rfl rfl)
theorem dX6_longestFreeRun_12 : decode cX6_longestFreeRun 12 = .ok (.aload_n 0, 1) := dk_42 (dk_at dksX6_longestFreeRun_0 12 rfl rfl)
theorem dX6_longestFreeRun_13 : decode cX6_longestFreeRun 13 = .ok (.getfield 7, 3) := dk_180 0 7 (dk_at dksX6_longestFreeRun_0 13 rfl rfl)
theorem dX6_longestFreeRun_16 : decode cX6_longestFreeRun 16 = .ok (.iconst 0, 1) := dk_3 (dk_at dksX6_longestFreeRun_0 16 rfl rfl)
theorem dX6_longestFreeRun_17 : decode cX6_longestFreeRun 17 = .ok (.iaload, 1) := dk_46 (dk_at dksX6_longestFreeRun_0 17 rfl rfl)
theorem dX6_longestFreeRun_18 : decode cX6_longestFreeRun 18 = .ok (.if_icmp .ge 31, 3) := dk_162 0 31 (dk_at dksX6_longestFreeRun_0 18 rfl rfl)
theorem dX6_longestFreeRun_21 : decode cX6_longestFreeRun 21 = .ok (.aload_n 0, 1) := dk_42 (dk_at dksX6_longestFreeRun_0 21 rfl rfl)
theorem dX6_longestFreeRun_22 : decode cX6_longestFreeRun 22 = .ok (.iload_n 3, 1) := dk_29 (dk_at dksX6_longestFreeRun_0 22 rfl rfl)
theorem dX6_longestFreeRun_23 : decode cX6_longestFreeRun 23 = .ok (.invokevirtual 105, 3) := dk_182 0 105 (dk_at dksX6_longestFreeRun_1 0 rfl rfl)
theorem dX6_longestFreeRun_26 : decode cX6_longestFreeRun 26 = .ok (.ifCond .eq 9, 3) := dk_153 0 9 (dk_at dksX6_longestFreeRun_1 3 rfl rfl)
theorem dX6_longestFreeRun_29 : decode cX6_longestFreeRun 29 = .ok (.iload_n 2, 1) := dk_28 (dk_at dksX6_longestFreeRun_1 6 rfl rfl)
theorem dX6_longestFreeRun_30 : decode cX6_longestFreeRun 30 = .ok (.iconst 1, 1) := dk_4 (dk_at dksX6_longestFreeRun_1 7 rfl rfl)
theorem dX6_longestFreeRun_31 : decode cX6_longestFreeRun 31 = .ok (.iadd, 1) := dk_96 (dk_at dksX6_longestFreeRun_1 8 rfl rfl)
theorem dX6_longestFreeRun_32 : decode cX6_longestFreeRun 32 = .ok (.goto 4, 3) := dk_167 0 4 (dk_at dksX6_longestFreeRun_1 9 rfl rfl)
theorem dX6_longestFreeRun_35 : decode cX6_longestFreeRun 35 = .ok (.iconst 0, 1) := dk_3 (dk_at dksX6_longestFreeRun_1 12 rfl rfl)
theorem dX6_longestFreeRun_36 : decode cX6_longestFreeRun 36 = .ok (.istore_n 2, 1) := dk_61 (dk_at dksX6_longestFreeRun_1 13 rfl rfl)
theorem dX6_longestFreeRun_37 : decode cX6_longestFreeRun 37 = .ok (.iload_n 1, 1) := dk_27 (dk_at dksX6_longestFreeRun_1 14 rfl rfl)
theorem dX6_longestFreeRun_38 : decode cX6_longestFreeRun 38 = .ok (.iload_n 2, 1) := dk_28 (dk_at dksX6_longestFreeRun_1 15 rfl rfl)
theorem dX6_longestFreeRun_39 : decode cX6_longestFreeRun 39 = .ok (.invokestatic 153, 3) := dk_184 0 153 (dk_at dksX6_longestFreeRun_1 16 rfl rfl)
theorem dX6_longestFreeRun_42 : decode cX6_longestFreeRun 42 = .ok (.istore_n 1, 1) := dk_60 (dk_at dksX6_longestFreeRun_1 19 rfl rfl)
theorem dX6_longestFreeRun_43 : decode cX6_longestFreeRun 43 = .ok (.iinc 3 1, 3) := dk_132 3 1 (dk_at dksX6_longestFreeRun_1 20 rfl rfl)
theorem dX6_longestFreeRun_46 : decode cX6_longestFreeRun 46 = .ok (.goto (-35), 3) := dk_167 255 221 (dk_at dksX6_longestFreeRun_2 0 rfl rfl)
theorem dX6_longestFreeRun_49 : decode cX6_longestFreeRun 49 = .ok (.iload_n 1, 1) := dk_27 (dk_at dksX6_longestFreeRun_2 3 rfl rfl)
theorem dX6_longestFreeRun_50 : decode cX6_longestFreeRun 50 = .ok (.ireturn, 1) := dk_172 (dk_at dksX6_longestFreeRun_2 4 rfl rfl)
abbrev cX6_yardLetterCount : ByteArray := prog_14_method_119_code
def yX6_yardLetterCount : MethodName := ⟨RX6, "yardLetterCount", "(I)I"⟩
def dkwX6_yardLetterCount_2 : List UInt8 := [184, 0, 80, 96, 61, 132, 3, 1, 167, 255, 212, 28, 172]
abbrev dktX6_yardLetterCount_2 : List UInt8 := dkwX6_yardLetterCount_2 ++ []
def dkwX6_yardLetterCount_1 : List UInt8 := [182, 0, 84, 153, 0, 19, 29, 42, 180, 0, 7, 8, 46, 108, 27, 160, 0, 7, 4, 167, 0, 4, 3]
abbrev dktX6_yardLetterCount_1 : List UInt8 := dkwX6_yardLetterCount_1 ++ dktX6_yardLetterCount_2
def dkwX6_yardLetterCount_0 : List UInt8 := [42, 3, 181, 0, 58, 3, 61, 3, 62, 29, 42, 180, 0, 7, 3, 46, 162, 0, 40, 28, 42, 29]
abbrev dktX6_yardLetterCount_0 : List UInt8 := dkwX6_yardLetterCount_0 ++ dktX6_yardLetterCount_1
theorem dksX6_yardLetterCount_0 : cX6_yardLetterCount.data.toList.drop 0 = dktX6_yardLetterCount_0 := by decide +kernel
theorem dksX6_yardLetterCount_1 : cX6_yardLetterCount.data.toList.drop 22 = dktX6_yardLetterCount_1 := dk_seg dksX6_yardLetterCount_0 22 rfl rfl
theorem dksX6_yardLetterCount_2 : cX6_yardLetterCount.data.toList.drop 45 = dktX6_yardLetterCount_2 := dk_seg dksX6_yardLetterCount_1 23 rfl rfl
theorem dX6_yardLetterCount_0 : decode cX6_yardLetterCount 0 = .ok (.aload_n 0, 1) := dk_42 (dk_at dksX6_yardLetterCount_0 0 rfl rfl)
theorem dX6_yardLetterCount_1 : decode cX6_yardLetterCount 1 = .ok (.iconst 0, 1) := dk_3 (dk_at dksX6_yardLetterCount_0 1 rfl rfl)
theorem dX6_yardLetterCount_2 : decode cX6_yardLetterCount 2 = .ok (.putfield 58, 3) := dk_181 0 58 (dk_at dksX6_yardLetterCount_0 2 rfl rfl)
theorem dX6_yardLetterCount_5 : decode cX6_yardLetterCount 5 = .ok (.iconst 0, 1) := dk_3 (dk_at dksX6_yardLetterCount_0 5 rfl rfl)
theorem dX6_yardLetterCount_6 : decode cX6_yardLetterCount 6 = .ok (.istore_n 2, 1) := dk_61 (dk_at dksX6_yardLetterCount_0 6 rfl rfl)
theorem dX6_yardLetterCount_7 : decode cX6_yardLetterCount 7 = .ok (.iconst 0, 1) := dk_3 (dk_at dksX6_yardLetterCount_0 7 rfl rfl)
theorem dX6_yardLetterCount_8 : decode cX6_yardLetterCount 8 = .ok (.istore_n 3, 1) := dk_62 (dk_at dksX6_yardLetterCount_0 8 rfl rfl)
theorem dX6_yardLetterCount_9 : decode cX6_yardLetterCount 9 = .ok (.iload_n 3, 1) := dk_29 (dk_at dksX6_yardLetterCount_0 9 rfl rfl)
theorem dX6_yardLetterCount_10 : decode cX6_yardLetterCount 10 = .ok (.aload_n 0, 1) := dk_42 (dk_at dksX6_yardLetterCount_0 10 rfl rfl)
theorem dX6_yardLetterCount_11 : decode cX6_yardLetterCount 11 = .ok (.getfield 7, 3) := dk_180 0 7 (dk_at dksX6_yardLetterCount_0 11 rfl rfl)
theorem dX6_yardLetterCount_14 : decode cX6_yardLetterCount 14 = .ok (.iconst 0, 1) := dk_3 (dk_at dksX6_yardLetterCount_0 14 rfl rfl)
theorem dX6_yardLetterCount_15 : decode cX6_yardLetterCount 15 = .ok (.iaload, 1) := dk_46 (dk_at dksX6_yardLetterCount_0 15 rfl rfl)
theorem dX6_yardLetterCount_16 : decode cX6_yardLetterCount 16 = .ok (.if_icmp .ge 40, 3) := dk_162 0 40 (dk_at dksX6_yardLetterCount_0 16 rfl rfl)
theorem dX6_yardLetterCount_19 : decode cX6_yardLetterCount 19 = .ok (.iload_n 2, 1) := dk_28 (dk_at dksX6_yardLetterCount_0 19 rfl rfl)
theorem dX6_yardLetterCount_20 : decode cX6_yardLetterCount 20 = .ok (.aload_n 0, 1) := dk_42 (dk_at dksX6_yardLetterCount_0 20 rfl rfl)
theorem dX6_yardLetterCount_21 : decode cX6_yardLetterCount 21 = .ok (.iload_n 3, 1) := dk_29 (dk_at dksX6_yardLetterCount_0 21 rfl rfl)
theorem dX6_yardLetterCount_22 : decode cX6_yardLetterCount 22 = .ok (.invokevirtual 84, 3) := dk_182 0 84 (dk_at dksX6_yardLetterCount_1 0 rfl rfl)
theorem dX6_yardLetterCount_25 : decode cX6_yardLetterCount 25 = .ok (.ifCond .eq 19, 3) := dk_153 0 19 (dk_at dksX6_yardLetterCount_1 3 rfl rfl)
theorem dX6_yardLetterCount_28 : decode cX6_yardLetterCount 28 = .ok (.iload_n 3, 1) := dk_29 (dk_at dksX6_yardLetterCount_1 6 rfl rfl)
theorem dX6_yardLetterCount_29 : decode cX6_yardLetterCount 29 = .ok (.aload_n 0, 1) := dk_42 (dk_at dksX6_yardLetterCount_1 7 rfl rfl)
theorem dX6_yardLetterCount_30 : decode cX6_yardLetterCount 30 = .ok (.getfield 7, 3) := dk_180 0 7 (dk_at dksX6_yardLetterCount_1 8 rfl rfl)
theorem dX6_yardLetterCount_33 : decode cX6_yardLetterCount 33 = .ok (.iconst 5, 1) := dk_8 (dk_at dksX6_yardLetterCount_1 11 rfl rfl)
theorem dX6_yardLetterCount_34 : decode cX6_yardLetterCount 34 = .ok (.iaload, 1) := dk_46 (dk_at dksX6_yardLetterCount_1 12 rfl rfl)
theorem dX6_yardLetterCount_35 : decode cX6_yardLetterCount 35 = .ok (.idiv, 1) := dk_108 (dk_at dksX6_yardLetterCount_1 13 rfl rfl)
theorem dX6_yardLetterCount_36 : decode cX6_yardLetterCount 36 = .ok (.iload_n 1, 1) := dk_27 (dk_at dksX6_yardLetterCount_1 14 rfl rfl)
theorem dX6_yardLetterCount_37 : decode cX6_yardLetterCount 37 = .ok (.if_icmp .ne 7, 3) := dk_160 0 7 (dk_at dksX6_yardLetterCount_1 15 rfl rfl)
theorem dX6_yardLetterCount_40 : decode cX6_yardLetterCount 40 = .ok (.iconst 1, 1) := dk_4 (dk_at dksX6_yardLetterCount_1 18 rfl rfl)
theorem dX6_yardLetterCount_41 : decode cX6_yardLetterCount 41 = .ok (.goto 4, 3) := dk_167 0 4 (dk_at dksX6_yardLetterCount_1 19 rfl rfl)
theorem dX6_yardLetterCount_44 : decode cX6_yardLetterCount 44 = .ok (.iconst 0, 1) := dk_3 (dk_at dksX6_yardLetterCount_1 22 rfl rfl)
theorem dX6_yardLetterCount_45 : decode cX6_yardLetterCount 45 = .ok (.invokestatic 80, 3) := dk_184 0 80 (dk_at dksX6_yardLetterCount_2 0 rfl rfl)
theorem dX6_yardLetterCount_48 : decode cX6_yardLetterCount 48 = .ok (.iadd, 1) := dk_96 (dk_at dksX6_yardLetterCount_2 3 rfl rfl)
theorem dX6_yardLetterCount_49 : decode cX6_yardLetterCount 49 = .ok (.istore_n 2, 1) := dk_61 (dk_at dksX6_yardLetterCount_2 4 rfl rfl)
theorem dX6_yardLetterCount_50 : decode cX6_yardLetterCount 50 = .ok (.iinc 3 1, 3) := dk_132 3 1 (dk_at dksX6_yardLetterCount_2 5 rfl rfl)
theorem dX6_yardLetterCount_53 : decode cX6_yardLetterCount 53 = .ok (.goto (-44), 3) := dk_167 255 212 (dk_at dksX6_yardLetterCount_2 8 rfl rfl)
theorem dX6_yardLetterCount_56 : decode cX6_yardLetterCount 56 = .ok (.iload_n 2, 1) := dk_28 (dk_at dksX6_yardLetterCount_2 11 rfl rfl)
theorem dX6_yardLetterCount_57 : decode cX6_yardLetterCount 57 = .ok (.ireturn, 1) := dk_172 (dk_at dksX6_yardLetterCount_2 12 rfl rfl)
abbrev cX6_plantReason : ByteArray := prog_14_method_120_code
def yX6_plantReason : MethodName := ⟨RX6, "plantReason", "(I)I"⟩
def dkwX6_plantReason_0 : List UInt8 := [42, 42, 27, 182, 0, 73, 182, 0, 221, 153, 0, 11, 42, 27, 182, 0, 194, 167, 0, 4, 3, 172]
abbrev dktX6_plantReason_0 : List UInt8 := dkwX6_plantReason_0 ++ []
theorem dksX6_plantReason_0 : cX6_plantReason.data.toList.drop 0 = dktX6_plantReason_0 := by decide +kernel
theorem dX6_plantReason_0 : decode cX6_plantReason 0 = .ok (.aload_n 0, 1) := dk_42 (dk_at dksX6_plantReason_0 0 rfl rfl)
theorem dX6_plantReason_1 : decode cX6_plantReason 1 = .ok (.aload_n 0, 1) := dk_42 (dk_at dksX6_plantReason_0 1 rfl rfl)
theorem dX6_plantReason_2 : decode cX6_plantReason 2 = .ok (.iload_n 1, 1) := dk_27 (dk_at dksX6_plantReason_0 2 rfl rfl)
theorem dX6_plantReason_3 : decode cX6_plantReason 3 = .ok (.invokevirtual 73, 3) := dk_182 0 73 (dk_at dksX6_plantReason_0 3 rfl rfl)
theorem dX6_plantReason_6 : decode cX6_plantReason 6 = .ok (.invokevirtual 221, 3) := dk_182 0 221 (dk_at dksX6_plantReason_0 6 rfl rfl)
theorem dX6_plantReason_9 : decode cX6_plantReason 9 = .ok (.ifCond .eq 11, 3) := dk_153 0 11 (dk_at dksX6_plantReason_0 9 rfl rfl)
theorem dX6_plantReason_12 : decode cX6_plantReason 12 = .ok (.aload_n 0, 1) := dk_42 (dk_at dksX6_plantReason_0 12 rfl rfl)
theorem dX6_plantReason_13 : decode cX6_plantReason 13 = .ok (.iload_n 1, 1) := dk_27 (dk_at dksX6_plantReason_0 13 rfl rfl)
theorem dX6_plantReason_14 : decode cX6_plantReason 14 = .ok (.invokevirtual 194, 3) := dk_182 0 194 (dk_at dksX6_plantReason_0 14 rfl rfl)
theorem dX6_plantReason_17 : decode cX6_plantReason 17 = .ok (.goto 4, 3) := dk_167 0 4 (dk_at dksX6_plantReason_0 17 rfl rfl)
theorem dX6_plantReason_20 : decode cX6_plantReason 20 = .ok (.iconst 0, 1) := dk_3 (dk_at dksX6_plantReason_0 20 rfl rfl)
theorem dX6_plantReason_21 : decode cX6_plantReason 21 = .ok (.ireturn, 1) := dk_172 (dk_at dksX6_plantReason_0 21 rfl rfl)
abbrev cX6_removeReason : ByteArray := prog_14_method_121_code
def yX6_removeReason : MethodName := ⟨RX6, "removeReason", "(I)I"⟩
def dkwX6_removeReason_0 : List UInt8 := [42, 42, 27, 182, 0, 73, 182, 0, 221, 153, 0, 11, 42, 27, 182, 0, 203, 167, 0, 4, 3, 172]
abbrev dktX6_removeReason_0 : List UInt8 := dkwX6_removeReason_0 ++ []
theorem dksX6_removeReason_0 : cX6_removeReason.data.toList.drop 0 = dktX6_removeReason_0 := by decide +kernel
theorem dX6_removeReason_0 : decode cX6_removeReason 0 = .ok (.aload_n 0, 1) := dk_42 (dk_at dksX6_removeReason_0 0 rfl rfl)
theorem dX6_removeReason_1 : decode cX6_removeReason 1 = .ok (.aload_n 0, 1) := dk_42 (dk_at dksX6_removeReason_0 1 rfl rfl)
theorem dX6_removeReason_2 : decode cX6_removeReason 2 = .ok (.iload_n 1, 1) := dk_27 (dk_at dksX6_removeReason_0 2 rfl rfl)
theorem dX6_removeReason_3 : decode cX6_removeReason 3 = .ok (.invokevirtual 73, 3) := dk_182 0 73 (dk_at dksX6_removeReason_0 3 rfl rfl)
theorem dX6_removeReason_6 : decode cX6_removeReason 6 = .ok (.invokevirtual 221, 3) := dk_182 0 221 (dk_at dksX6_removeReason_0 6 rfl rfl)
theorem dX6_removeReason_9 : decode cX6_removeReason 9 = .ok (.ifCond .eq 11, 3) := dk_153 0 11 (dk_at dksX6_removeReason_0 9 rfl rfl)
theorem dX6_removeReason_12 : decode cX6_removeReason 12 = .ok (.aload_n 0, 1) := dk_42 (dk_at dksX6_removeReason_0 12 rfl rfl)
theorem dX6_removeReason_13 : decode cX6_removeReason 13 = .ok (.iload_n 1, 1) := dk_27 (dk_at dksX6_removeReason_0 13 rfl rfl)
theorem dX6_removeReason_14 : decode cX6_removeReason 14 = .ok (.invokevirtual 203, 3) := dk_182 0 203 (dk_at dksX6_removeReason_0 14 rfl rfl)
theorem dX6_removeReason_17 : decode cX6_removeReason 17 = .ok (.goto 4, 3) := dk_167 0 4 (dk_at dksX6_removeReason_0 17 rfl rfl)
theorem dX6_removeReason_20 : decode cX6_removeReason 20 = .ok (.iconst 0, 1) := dk_3 (dk_at dksX6_removeReason_0 20 rfl rfl)
theorem dX6_removeReason_21 : decode cX6_removeReason 21 = .ok (.ireturn, 1) := dk_172 (dk_at dksX6_removeReason_0 21 rfl rfl)
abbrev cX6_trimReason : ByteArray := prog_14_method_122_code
def yX6_trimReason : MethodName := ⟨RX6, "trimReason", "(I)I"⟩
def dkwX6_trimReason_0 : List UInt8 := [42, 42, 27, 182, 0, 73, 182, 0, 221, 153, 0, 11, 42, 27, 182, 0, 206, 167, 0, 4, 3, 172]
abbrev dktX6_trimReason_0 : List UInt8 := dkwX6_trimReason_0 ++ []
theorem dksX6_trimReason_0 : cX6_trimReason.data.toList.drop 0 = dktX6_trimReason_0 := by decide +kernel
theorem dX6_trimReason_0 : decode cX6_trimReason 0 = .ok (.aload_n 0, 1) := dk_42 (dk_at dksX6_trimReason_0 0 rfl rfl)
theorem dX6_trimReason_1 : decode cX6_trimReason 1 = .ok (.aload_n 0, 1) := dk_42 (dk_at dksX6_trimReason_0 1 rfl rfl)
theorem dX6_trimReason_2 : decode cX6_trimReason 2 = .ok (.iload_n 1, 1) := dk_27 (dk_at dksX6_trimReason_0 2 rfl rfl)
theorem dX6_trimReason_3 : decode cX6_trimReason 3 = .ok (.invokevirtual 73, 3) := dk_182 0 73 (dk_at dksX6_trimReason_0 3 rfl rfl)
theorem dX6_trimReason_6 : decode cX6_trimReason 6 = .ok (.invokevirtual 221, 3) := dk_182 0 221 (dk_at dksX6_trimReason_0 6 rfl rfl)
theorem dX6_trimReason_9 : decode cX6_trimReason 9 = .ok (.ifCond .eq 11, 3) := dk_153 0 11 (dk_at dksX6_trimReason_0 9 rfl rfl)
theorem dX6_trimReason_12 : decode cX6_trimReason 12 = .ok (.aload_n 0, 1) := dk_42 (dk_at dksX6_trimReason_0 12 rfl rfl)
theorem dX6_trimReason_13 : decode cX6_trimReason 13 = .ok (.iload_n 1, 1) := dk_27 (dk_at dksX6_trimReason_0 13 rfl rfl)
theorem dX6_trimReason_14 : decode cX6_trimReason 14 = .ok (.invokevirtual 206, 3) := dk_182 0 206 (dk_at dksX6_trimReason_0 14 rfl rfl)
theorem dX6_trimReason_17 : decode cX6_trimReason 17 = .ok (.goto 4, 3) := dk_167 0 4 (dk_at dksX6_trimReason_0 17 rfl rfl)
theorem dX6_trimReason_20 : decode cX6_trimReason 20 = .ok (.iconst 0, 1) := dk_3 (dk_at dksX6_trimReason_0 20 rfl rfl)
theorem dX6_trimReason_21 : decode cX6_trimReason 21 = .ok (.ireturn, 1) := dk_172 (dk_at dksX6_trimReason_0 21 rfl rfl)
abbrev cX6_writeReason : ByteArray := prog_14_method_123_code
def yX6_writeReason : MethodName := ⟨RX6, "writeReason", "(I)I"⟩
def dkwX6_writeReason_0 : List UInt8 := [42, 27, 184, 1, 129, 182, 0, 221, 153, 0, 11, 42, 27, 182, 1, 135, 167, 0, 4, 3, 172]
abbrev dktX6_writeReason_0 : List UInt8 := dkwX6_writeReason_0 ++ []
theorem dksX6_writeReason_0 : cX6_writeReason.data.toList.drop 0 = dktX6_writeReason_0 := by decide +kernel
theorem dX6_writeReason_0 : decode cX6_writeReason 0 = .ok (.aload_n 0, 1) := dk_42 (dk_at dksX6_writeReason_0 0 rfl rfl)
theorem dX6_writeReason_1 : decode cX6_writeReason 1 = .ok (.iload_n 1, 1) := dk_27 (dk_at dksX6_writeReason_0 1 rfl rfl)
theorem dX6_writeReason_2 : decode cX6_writeReason 2 = .ok (.invokestatic 385, 3) := dk_184 1 129 (dk_at dksX6_writeReason_0 2 rfl rfl)
theorem dX6_writeReason_5 : decode cX6_writeReason 5 = .ok (.invokevirtual 221, 3) := dk_182 0 221 (dk_at dksX6_writeReason_0 5 rfl rfl)
theorem dX6_writeReason_8 : decode cX6_writeReason 8 = .ok (.ifCond .eq 11, 3) := dk_153 0 11 (dk_at dksX6_writeReason_0 8 rfl rfl)
theorem dX6_writeReason_11 : decode cX6_writeReason 11 = .ok (.aload_n 0, 1) := dk_42 (dk_at dksX6_writeReason_0 11 rfl rfl)
theorem dX6_writeReason_12 : decode cX6_writeReason 12 = .ok (.iload_n 1, 1) := dk_27 (dk_at dksX6_writeReason_0 12 rfl rfl)
theorem dX6_writeReason_13 : decode cX6_writeReason 13 = .ok (.invokevirtual 391, 3) := dk_182 1 135 (dk_at dksX6_writeReason_0 13 rfl rfl)
theorem dX6_writeReason_16 : decode cX6_writeReason 16 = .ok (.goto 4, 3) := dk_167 0 4 (dk_at dksX6_writeReason_0 16 rfl rfl)
theorem dX6_writeReason_19 : decode cX6_writeReason 19 = .ok (.iconst 0, 1) := dk_3 (dk_at dksX6_writeReason_0 19 rfl rfl)
theorem dX6_writeReason_20 : decode cX6_writeReason 20 = .ok (.ireturn, 1) := dk_172 (dk_at dksX6_writeReason_0 20 rfl rfl)
abbrev cX6_whyNotWrite : ByteArray := prog_14_method_54_code
def yX6_whyNotWrite : MethodName := ⟨RX6, "whyNotWrite", "(I)I"⟩
def dkwX6_whyNotWrite_2 : List UInt8 := [42, 27, 182, 0, 137, 2, 160, 0, 8, 16, 12, 167, 0, 4, 3, 172]
abbrev dktX6_whyNotWrite_2 : List UInt8 := dkwX6_whyNotWrite_2 ++ []
def dkwX6_whyNotWrite_1 : List UInt8 := [27, 182, 0, 134, 153, 0, 5, 3, 172, 42, 180, 0, 7, 16, 12, 27, 96, 46, 154, 0, 6, 16, 11, 172]
abbrev dktX6_whyNotWrite_1 : List UInt8 := dkwX6_whyNotWrite_1 ++ dktX6_whyNotWrite_2
def dkwX6_whyNotWrite_0 : List UInt8 := [27, 42, 182, 0, 173, 159, 0, 6, 16, 13, 172, 42, 180, 0, 7, 16, 7, 46, 154, 0, 5, 4, 172, 42]
abbrev dktX6_whyNotWrite_0 : List UInt8 := dkwX6_whyNotWrite_0 ++ dktX6_whyNotWrite_1
theorem dksX6_whyNotWrite_0 : cX6_whyNotWrite.data.toList.drop 0 = dktX6_whyNotWrite_0 := by decide +kernel
theorem dksX6_whyNotWrite_1 : cX6_whyNotWrite.data.toList.drop 24 = dktX6_whyNotWrite_1 := dk_seg dksX6_whyNotWrite_0 24 rfl rfl
theorem dksX6_whyNotWrite_2 : cX6_whyNotWrite.data.toList.drop 48 = dktX6_whyNotWrite_2 := dk_seg dksX6_whyNotWrite_1 24 rfl rfl
theorem dX6_whyNotWrite_0 : decode cX6_whyNotWrite 0 = .ok (.iload_n 1, 1) := dk_27 (dk_at dksX6_whyNotWrite_0 0 rfl rfl)
theorem dX6_whyNotWrite_1 : decode cX6_whyNotWrite 1 = .ok (.aload_n 0, 1) := dk_42 (dk_at dksX6_whyNotWrite_0 1 rfl rfl)
theorem dX6_whyNotWrite_2 : decode cX6_whyNotWrite 2 = .ok (.invokevirtual 173, 3) := dk_182 0 173 (dk_at dksX6_whyNotWrite_0 2 rfl rfl)
theorem dX6_whyNotWrite_5 : decode cX6_whyNotWrite 5 = .ok (.if_icmp .eq 6, 3) := dk_159 0 6 (dk_at dksX6_whyNotWrite_0 5 rfl rfl)
theorem dX6_whyNotWrite_8 : decode cX6_whyNotWrite 8 = .ok (.bipush 13, 2) := dk_16 13 (dk_at dksX6_whyNotWrite_0 8 rfl rfl)
theorem dX6_whyNotWrite_10 : decode cX6_whyNotWrite 10 = .ok (.ireturn, 1) := dk_172 (dk_at dksX6_whyNotWrite_0 10 rfl rfl)
theorem dX6_whyNotWrite_11 : decode cX6_whyNotWrite 11 = .ok (.aload_n 0, 1) := dk_42 (dk_at dksX6_whyNotWrite_0 11 rfl rfl)
theorem dX6_whyNotWrite_12 : decode cX6_whyNotWrite 12 = .ok (.getfield 7, 3) := dk_180 0 7 (dk_at dksX6_whyNotWrite_0 12 rfl rfl)
theorem dX6_whyNotWrite_15 : decode cX6_whyNotWrite 15 = .ok (.bipush 7, 2) := dk_16 7 (dk_at dksX6_whyNotWrite_0 15 rfl rfl)
theorem dX6_whyNotWrite_17 : decode cX6_whyNotWrite 17 = .ok (.iaload, 1) := dk_46 (dk_at dksX6_whyNotWrite_0 17 rfl rfl)
theorem dX6_whyNotWrite_18 : decode cX6_whyNotWrite 18 = .ok (.ifCond .ne 5, 3) := dk_154 0 5 (dk_at dksX6_whyNotWrite_0 18 rfl rfl)
theorem dX6_whyNotWrite_21 : decode cX6_whyNotWrite 21 = .ok (.iconst 1, 1) := dk_4 (dk_at dksX6_whyNotWrite_0 21 rfl rfl)
theorem dX6_whyNotWrite_22 : decode cX6_whyNotWrite 22 = .ok (.ireturn, 1) := dk_172 (dk_at dksX6_whyNotWrite_0 22 rfl rfl)
theorem dX6_whyNotWrite_23 : decode cX6_whyNotWrite 23 = .ok (.aload_n 0, 1) := dk_42 (dk_at dksX6_whyNotWrite_0 23 rfl rfl)
theorem dX6_whyNotWrite_24 : decode cX6_whyNotWrite 24 = .ok (.iload_n 1, 1) := dk_27 (dk_at dksX6_whyNotWrite_1 0 rfl rfl)
theorem dX6_whyNotWrite_25 : decode cX6_whyNotWrite 25 = .ok (.invokevirtual 134, 3) := dk_182 0 134 (dk_at dksX6_whyNotWrite_1 1 rfl rfl)
theorem dX6_whyNotWrite_28 : decode cX6_whyNotWrite 28 = .ok (.ifCond .eq 5, 3) := dk_153 0 5 (dk_at dksX6_whyNotWrite_1 4 rfl rfl)
theorem dX6_whyNotWrite_31 : decode cX6_whyNotWrite 31 = .ok (.iconst 0, 1) := dk_3 (dk_at dksX6_whyNotWrite_1 7 rfl rfl)
theorem dX6_whyNotWrite_32 : decode cX6_whyNotWrite 32 = .ok (.ireturn, 1) := dk_172 (dk_at dksX6_whyNotWrite_1 8 rfl rfl)
theorem dX6_whyNotWrite_33 : decode cX6_whyNotWrite 33 = .ok (.aload_n 0, 1) := dk_42 (dk_at dksX6_whyNotWrite_1 9 rfl rfl)
theorem dX6_whyNotWrite_34 : decode cX6_whyNotWrite 34 = .ok (.getfield 7, 3) := dk_180 0 7 (dk_at dksX6_whyNotWrite_1 10 rfl rfl)
theorem dX6_whyNotWrite_37 : decode cX6_whyNotWrite 37 = .ok (.bipush 12, 2) := dk_16 12 (dk_at dksX6_whyNotWrite_1 13 rfl rfl)
theorem dX6_whyNotWrite_39 : decode cX6_whyNotWrite 39 = .ok (.iload_n 1, 1) := dk_27 (dk_at dksX6_whyNotWrite_1 15 rfl rfl)
theorem dX6_whyNotWrite_40 : decode cX6_whyNotWrite 40 = .ok (.iadd, 1) := dk_96 (dk_at dksX6_whyNotWrite_1 16 rfl rfl)
theorem dX6_whyNotWrite_41 : decode cX6_whyNotWrite 41 = .ok (.iaload, 1) := dk_46 (dk_at dksX6_whyNotWrite_1 17 rfl rfl)
theorem dX6_whyNotWrite_42 : decode cX6_whyNotWrite 42 = .ok (.ifCond .ne 6, 3) := dk_154 0 6 (dk_at dksX6_whyNotWrite_1 18 rfl rfl)
theorem dX6_whyNotWrite_45 : decode cX6_whyNotWrite 45 = .ok (.bipush 11, 2) := dk_16 11 (dk_at dksX6_whyNotWrite_1 21 rfl rfl)
theorem dX6_whyNotWrite_47 : decode cX6_whyNotWrite 47 = .ok (.ireturn, 1) := dk_172 (dk_at dksX6_whyNotWrite_1 23 rfl rfl)
theorem dX6_whyNotWrite_48 : decode cX6_whyNotWrite 48 = .ok (.aload_n 0, 1) := dk_42 (dk_at dksX6_whyNotWrite_2 0 rfl rfl)
theorem dX6_whyNotWrite_49 : decode cX6_whyNotWrite 49 = .ok (.iload_n 1, 1) := dk_27 (dk_at dksX6_whyNotWrite_2 1 rfl rfl)
theorem dX6_whyNotWrite_50 : decode cX6_whyNotWrite 50 = .ok (.invokevirtual 137, 3) := dk_182 0 137 (dk_at dksX6_whyNotWrite_2 2 rfl rfl)
theorem dX6_whyNotWrite_53 : decode cX6_whyNotWrite 53 = .ok (.iconst (-1), 1) := dk_2 (dk_at dksX6_whyNotWrite_2 5 rfl rfl)
theorem dX6_whyNotWrite_54 : decode cX6_whyNotWrite 54 = .ok (.if_icmp .ne 8, 3) := dk_160 0 8 (dk_at dksX6_whyNotWrite_2 6 rfl rfl)
theorem dX6_whyNotWrite_57 : decode cX6_whyNotWrite 57 = .ok (.bipush 12, 2) := dk_16 12 (dk_at dksX6_whyNotWrite_2 9 rfl rfl)
theorem dX6_whyNotWrite_59 : decode cX6_whyNotWrite 59 = .ok (.goto 4, 3) := dk_167 0 4 (dk_at dksX6_whyNotWrite_2 11 rfl rfl)
theorem dX6_whyNotWrite_62 : decode cX6_whyNotWrite 62 = .ok (.iconst 0, 1) := dk_3 (dk_at dksX6_whyNotWrite_2 14 rfl rfl)
theorem dX6_whyNotWrite_63 : decode cX6_whyNotWrite 63 = .ok (.ireturn, 1) := dk_172 (dk_at dksX6_whyNotWrite_2 15 rfl rfl)
abbrev cX6_keepReason : ByteArray := prog_14_method_124_code
def yX6_keepReason : MethodName := ⟨RX6, "keepReason", "(I)I"⟩
def dkwX6_keepReason_0 : List UInt8 := [42, 42, 27, 182, 0, 73, 182, 0, 221, 153, 0, 11, 42, 27, 182, 1, 138, 167, 0, 4, 3, 172]
abbrev dktX6_keepReason_0 : List UInt8 := dkwX6_keepReason_0 ++ []
theorem dksX6_keepReason_0 : cX6_keepReason.data.toList.drop 0 = dktX6_keepReason_0 := by decide +kernel
theorem dX6_keepReason_0 : decode cX6_keepReason 0 = .ok (.aload_n 0, 1) := dk_42 (dk_at dksX6_keepReason_0 0 rfl rfl)
theorem dX6_keepReason_1 : decode cX6_keepReason 1 = .ok (.aload_n 0, 1) := dk_42 (dk_at dksX6_keepReason_0 1 rfl rfl)
theorem dX6_keepReason_2 : decode cX6_keepReason 2 = .ok (.iload_n 1, 1) := dk_27 (dk_at dksX6_keepReason_0 2 rfl rfl)
theorem dX6_keepReason_3 : decode cX6_keepReason 3 = .ok (.invokevirtual 73, 3) := dk_182 0 73 (dk_at dksX6_keepReason_0 3 rfl rfl)
theorem dX6_keepReason_6 : decode cX6_keepReason 6 = .ok (.invokevirtual 221, 3) := dk_182 0 221 (dk_at dksX6_keepReason_0 6 rfl rfl)
theorem dX6_keepReason_9 : decode cX6_keepReason 9 = .ok (.ifCond .eq 11, 3) := dk_153 0 11 (dk_at dksX6_keepReason_0 9 rfl rfl)
theorem dX6_keepReason_12 : decode cX6_keepReason 12 = .ok (.aload_n 0, 1) := dk_42 (dk_at dksX6_keepReason_0 12 rfl rfl)
theorem dX6_keepReason_13 : decode cX6_keepReason 13 = .ok (.iload_n 1, 1) := dk_27 (dk_at dksX6_keepReason_0 13 rfl rfl)
theorem dX6_keepReason_14 : decode cX6_keepReason 14 = .ok (.invokevirtual 394, 3) := dk_182 1 138 (dk_at dksX6_keepReason_0 14 rfl rfl)
theorem dX6_keepReason_17 : decode cX6_keepReason 17 = .ok (.goto 4, 3) := dk_167 0 4 (dk_at dksX6_keepReason_0 17 rfl rfl)
theorem dX6_keepReason_20 : decode cX6_keepReason 20 = .ok (.iconst 0, 1) := dk_3 (dk_at dksX6_keepReason_0 20 rfl rfl)
theorem dX6_keepReason_21 : decode cX6_keepReason 21 = .ok (.ireturn, 1) := dk_172 (dk_at dksX6_keepReason_0 21 rfl rfl)
abbrev cX6_whyKept : ByteArray := prog_14_method_55_code
def yX6_whyKept : MethodName := ⟨RX6, "whyKept", "(I)I"⟩
def dkwX6_whyKept_1 : List UInt8 := [163, 0, 6, 16, 14, 172, 42, 27, 182, 0, 158, 153, 0, 8, 16, 8, 167, 0, 4, 3, 172]
abbrev dktX6_whyKept_1 : List UInt8 := dkwX6_whyKept_1 ++ []
def dkwX6_whyKept_0 : List UInt8 := [42, 27, 182, 0, 84, 154, 0, 5, 8, 172, 42, 27, 5, 182, 0, 69, 42, 180, 0, 7, 6, 46]
abbrev dktX6_whyKept_0 : List UInt8 := dkwX6_whyKept_0 ++ dktX6_whyKept_1
theorem dksX6_whyKept_0 : cX6_whyKept.data.toList.drop 0 = dktX6_whyKept_0 := by decide +kernel
theorem dksX6_whyKept_1 : cX6_whyKept.data.toList.drop 22 = dktX6_whyKept_1 := dk_seg dksX6_whyKept_0 22 rfl rfl
theorem dX6_whyKept_0 : decode cX6_whyKept 0 = .ok (.aload_n 0, 1) := dk_42 (dk_at dksX6_whyKept_0 0 rfl rfl)
theorem dX6_whyKept_1 : decode cX6_whyKept 1 = .ok (.iload_n 1, 1) := dk_27 (dk_at dksX6_whyKept_0 1 rfl rfl)
theorem dX6_whyKept_2 : decode cX6_whyKept 2 = .ok (.invokevirtual 84, 3) := dk_182 0 84 (dk_at dksX6_whyKept_0 2 rfl rfl)
theorem dX6_whyKept_5 : decode cX6_whyKept 5 = .ok (.ifCond .ne 5, 3) := dk_154 0 5 (dk_at dksX6_whyKept_0 5 rfl rfl)
theorem dX6_whyKept_8 : decode cX6_whyKept 8 = .ok (.iconst 5, 1) := dk_8 (dk_at dksX6_whyKept_0 8 rfl rfl)
theorem dX6_whyKept_9 : decode cX6_whyKept 9 = .ok (.ireturn, 1) := dk_172 (dk_at dksX6_whyKept_0 9 rfl rfl)
theorem dX6_whyKept_10 : decode cX6_whyKept 10 = .ok (.aload_n 0, 1) := dk_42 (dk_at dksX6_whyKept_0 10 rfl rfl)
theorem dX6_whyKept_11 : decode cX6_whyKept 11 = .ok (.iload_n 1, 1) := dk_27 (dk_at dksX6_whyKept_0 11 rfl rfl)
theorem dX6_whyKept_12 : decode cX6_whyKept 12 = .ok (.iconst 2, 1) := dk_5 (dk_at dksX6_whyKept_0 12 rfl rfl)
theorem dX6_whyKept_13 : decode cX6_whyKept 13 = .ok (.invokevirtual 69, 3) := dk_182 0 69 (dk_at dksX6_whyKept_0 13 rfl rfl)
theorem dX6_whyKept_16 : decode cX6_whyKept 16 = .ok (.aload_n 0, 1) := dk_42 (dk_at dksX6_whyKept_0 16 rfl rfl)
theorem dX6_whyKept_17 : decode cX6_whyKept 17 = .ok (.getfield 7, 3) := dk_180 0 7 (dk_at dksX6_whyKept_0 17 rfl rfl)
theorem dX6_whyKept_20 : decode cX6_whyKept 20 = .ok (.iconst 3, 1) := dk_6 (dk_at dksX6_whyKept_0 20 rfl rfl)
theorem dX6_whyKept_21 : decode cX6_whyKept 21 = .ok (.iaload, 1) := dk_46 (dk_at dksX6_whyKept_0 21 rfl rfl)
theorem dX6_whyKept_22 : decode cX6_whyKept 22 = .ok (.if_icmp .gt 6, 3) := dk_163 0 6 (dk_at dksX6_whyKept_1 0 rfl rfl)
theorem dX6_whyKept_25 : decode cX6_whyKept 25 = .ok (.bipush 14, 2) := dk_16 14 (dk_at dksX6_whyKept_1 3 rfl rfl)
theorem dX6_whyKept_27 : decode cX6_whyKept 27 = .ok (.ireturn, 1) := dk_172 (dk_at dksX6_whyKept_1 5 rfl rfl)
theorem dX6_whyKept_28 : decode cX6_whyKept 28 = .ok (.aload_n 0, 1) := dk_42 (dk_at dksX6_whyKept_1 6 rfl rfl)
theorem dX6_whyKept_29 : decode cX6_whyKept 29 = .ok (.iload_n 1, 1) := dk_27 (dk_at dksX6_whyKept_1 7 rfl rfl)
theorem dX6_whyKept_30 : decode cX6_whyKept 30 = .ok (.invokevirtual 158, 3) := dk_182 0 158 (dk_at dksX6_whyKept_1 8 rfl rfl)
theorem dX6_whyKept_33 : decode cX6_whyKept 33 = .ok (.ifCond .eq 8, 3) := dk_153 0 8 (dk_at dksX6_whyKept_1 11 rfl rfl)
theorem dX6_whyKept_36 : decode cX6_whyKept 36 = .ok (.bipush 8, 2) := dk_16 8 (dk_at dksX6_whyKept_1 14 rfl rfl)
theorem dX6_whyKept_38 : decode cX6_whyKept 38 = .ok (.goto 4, 3) := dk_167 0 4 (dk_at dksX6_whyKept_1 16 rfl rfl)
theorem dX6_whyKept_41 : decode cX6_whyKept 41 = .ok (.iconst 0, 1) := dk_3 (dk_at dksX6_whyKept_1 19 rfl rfl)
theorem dX6_whyKept_42 : decode cX6_whyKept 42 = .ok (.ireturn, 1) := dk_172 (dk_at dksX6_whyKept_1 20 rfl rfl)
abbrev cX6_daysUntilInspection : ByteArray := prog_14_method_125_code
def yX6_daysUntilInspection : MethodName := ⟨RX6, "daysUntilInspection", "()I"⟩
def dkwX6_daysUntilInspection_1 : List UInt8 := [112, 100, 172]
abbrev dktX6_daysUntilInspection_1 : List UInt8 := dkwX6_daysUntilInspection_1 ++ []
def dkwX6_daysUntilInspection_0 : List UInt8 := [42, 3, 181, 0, 58, 42, 180, 0, 7, 7, 46, 42, 180, 0, 7, 16, 6, 46, 42, 180, 0, 7, 7, 46]
abbrev dktX6_daysUntilInspection_0 : List UInt8 := dkwX6_daysUntilInspection_0 ++ dktX6_daysUntilInspection_1
theorem dksX6_daysUntilInspection_0 : cX6_daysUntilInspection.data.toList.drop 0 = dktX6_daysUntilInspection_0 := by decide +kernel
theorem dksX6_daysUntilInspection_1 : cX6_daysUntilInspection.data.toList.drop 24 = dktX6_daysUntilInspection_1 := dk_seg dksX6_daysUntilInspection_0 24 rfl rfl
theorem dX6_daysUntilInspection_0 : decode cX6_daysUntilInspection 0 = .ok (.aload_n 0, 1) := dk_42 (dk_at dksX6_daysUntilInspection_0 0 rfl rfl)
theorem dX6_daysUntilInspection_1 : decode cX6_daysUntilInspection 1 = .ok (.iconst 0, 1) := dk_3 (dk_at dksX6_daysUntilInspection_0 1 rfl rfl)
theorem dX6_daysUntilInspection_2 : decode cX6_daysUntilInspection 2 = .ok (.putfield 58, 3) := dk_181 0 58 (dk_at dksX6_daysUntilInspection_0 2 rfl rfl)
theorem dX6_daysUntilInspection_5 : decode cX6_daysUntilInspection 5 = .ok (.aload_n 0, 1) := dk_42 (dk_at dksX6_daysUntilInspection_0 5 rfl rfl)
theorem dX6_daysUntilInspection_6 : decode cX6_daysUntilInspection 6 = .ok (.getfield 7, 3) := dk_180 0 7 (dk_at dksX6_daysUntilInspection_0 6 rfl rfl)
theorem dX6_daysUntilInspection_9 : decode cX6_daysUntilInspection 9 = .ok (.iconst 4, 1) := dk_7 (dk_at dksX6_daysUntilInspection_0 9 rfl rfl)
theorem dX6_daysUntilInspection_10 : decode cX6_daysUntilInspection 10 = .ok (.iaload, 1) := dk_46 (dk_at dksX6_daysUntilInspection_0 10 rfl rfl)
theorem dX6_daysUntilInspection_11 : decode cX6_daysUntilInspection 11 = .ok (.aload_n 0, 1) := dk_42 (dk_at dksX6_daysUntilInspection_0 11 rfl rfl)
theorem dX6_daysUntilInspection_12 : decode cX6_daysUntilInspection 12 = .ok (.getfield 7, 3) := dk_180 0 7 (dk_at dksX6_daysUntilInspection_0 12 rfl rfl)
theorem dX6_daysUntilInspection_15 : decode cX6_daysUntilInspection 15 = .ok (.bipush 6, 2) := dk_16 6 (dk_at dksX6_daysUntilInspection_0 15 rfl rfl)
theorem dX6_daysUntilInspection_17 : decode cX6_daysUntilInspection 17 = .ok (.iaload, 1) := dk_46 (dk_at dksX6_daysUntilInspection_0 17 rfl rfl)
theorem dX6_daysUntilInspection_18 : decode cX6_daysUntilInspection 18 = .ok (.aload_n 0, 1) := dk_42 (dk_at dksX6_daysUntilInspection_0 18 rfl rfl)
theorem dX6_daysUntilInspection_19 : decode cX6_daysUntilInspection 19 = .ok (.getfield 7, 3) := dk_180 0 7 (dk_at dksX6_daysUntilInspection_0 19 rfl rfl)
theorem dX6_daysUntilInspection_22 : decode cX6_daysUntilInspection 22 = .ok (.iconst 4, 1) := dk_7 (dk_at dksX6_daysUntilInspection_0 22 rfl rfl)
theorem dX6_daysUntilInspection_23 : decode cX6_daysUntilInspection 23 = .ok (.iaload, 1) := dk_46 (dk_at dksX6_daysUntilInspection_0 23 rfl rfl)
theorem dX6_daysUntilInspection_24 : decode cX6_daysUntilInspection 24 = .ok (.irem, 1) := dk_112 (dk_at dksX6_daysUntilInspection_1 0 rfl rfl)
theorem dX6_daysUntilInspection_25 : decode cX6_daysUntilInspection 25 = .ok (.isub, 1) := dk_100 (dk_at dksX6_daysUntilInspection_1 1 rfl rfl)
theorem dX6_daysUntilInspection_26 : decode cX6_daysUntilInspection 26 = .ok (.ireturn, 1) := dk_172 (dk_at dksX6_daysUntilInspection_1 2 rfl rfl)
abbrev cX6_daysUntilPruned : ByteArray := prog_14_method_126_code
def yX6_daysUntilPruned : MethodName := ⟨RX6, "daysUntilPruned", "(I)I"⟩
def dkwX6_daysUntilPruned_2 : List UInt8 := [167, 255, 229, 42, 2, 182, 1, 144, 172]
abbrev dktX6_daysUntilPruned_2 : List UInt8 := dkwX6_daysUntilPruned_2 ++ []
def dkwX6_daysUntilPruned_1 : List UInt8 := [163, 0, 27, 42, 27, 182, 0, 84, 154, 0, 9, 42, 28, 182, 1, 144, 172, 42, 182, 0, 188, 132, 2, 1]
abbrev dktX6_daysUntilPruned_1 : List UInt8 := dkwX6_daysUntilPruned_1 ++ dktX6_daysUntilPruned_2
def dkwX6_daysUntilPruned_0 : List UInt8 := [42, 42, 27, 182, 0, 73, 182, 0, 221, 154, 0, 5, 3, 172, 42, 182, 1, 141, 3, 61, 28, 16, 60]
abbrev dktX6_daysUntilPruned_0 : List UInt8 := dkwX6_daysUntilPruned_0 ++ dktX6_daysUntilPruned_1
theorem dksX6_daysUntilPruned_0 : cX6_daysUntilPruned.data.toList.drop 0 = dktX6_daysUntilPruned_0 := by decide +kernel
theorem dksX6_daysUntilPruned_1 : cX6_daysUntilPruned.data.toList.drop 23 = dktX6_daysUntilPruned_1 := dk_seg dksX6_daysUntilPruned_0 23 rfl rfl
theorem dksX6_daysUntilPruned_2 : cX6_daysUntilPruned.data.toList.drop 47 = dktX6_daysUntilPruned_2 := dk_seg dksX6_daysUntilPruned_1 24 rfl rfl
theorem dX6_daysUntilPruned_0 : decode cX6_daysUntilPruned 0 = .ok (.aload_n 0, 1) := dk_42 (dk_at dksX6_daysUntilPruned_0 0 rfl rfl)
theorem dX6_daysUntilPruned_1 : decode cX6_daysUntilPruned 1 = .ok (.aload_n 0, 1) := dk_42 (dk_at dksX6_daysUntilPruned_0 1 rfl rfl)
theorem dX6_daysUntilPruned_2 : decode cX6_daysUntilPruned 2 = .ok (.iload_n 1, 1) := dk_27 (dk_at dksX6_daysUntilPruned_0 2 rfl rfl)
theorem dX6_daysUntilPruned_3 : decode cX6_daysUntilPruned 3 = .ok (.invokevirtual 73, 3) := dk_182 0 73 (dk_at dksX6_daysUntilPruned_0 3 rfl rfl)
theorem dX6_daysUntilPruned_6 : decode cX6_daysUntilPruned 6 = .ok (.invokevirtual 221, 3) := dk_182 0 221 (dk_at dksX6_daysUntilPruned_0 6 rfl rfl)
theorem dX6_daysUntilPruned_9 : decode cX6_daysUntilPruned 9 = .ok (.ifCond .ne 5, 3) := dk_154 0 5 (dk_at dksX6_daysUntilPruned_0 9 rfl rfl)
theorem dX6_daysUntilPruned_12 : decode cX6_daysUntilPruned 12 = .ok (.iconst 0, 1) := dk_3 (dk_at dksX6_daysUntilPruned_0 12 rfl rfl)
theorem dX6_daysUntilPruned_13 : decode cX6_daysUntilPruned 13 = .ok (.ireturn, 1) := dk_172 (dk_at dksX6_daysUntilPruned_0 13 rfl rfl)
theorem dX6_daysUntilPruned_14 : decode cX6_daysUntilPruned 14 = .ok (.aload_n 0, 1) := dk_42 (dk_at dksX6_daysUntilPruned_0 14 rfl rfl)
theorem dX6_daysUntilPruned_15 : decode cX6_daysUntilPruned 15 = .ok (.invokevirtual 397, 3) := dk_182 1 141 (dk_at dksX6_daysUntilPruned_0 15 rfl rfl)
theorem dX6_daysUntilPruned_18 : decode cX6_daysUntilPruned 18 = .ok (.iconst 0, 1) := dk_3 (dk_at dksX6_daysUntilPruned_0 18 rfl rfl)
theorem dX6_daysUntilPruned_19 : decode cX6_daysUntilPruned 19 = .ok (.istore_n 2, 1) := dk_61 (dk_at dksX6_daysUntilPruned_0 19 rfl rfl)
theorem dX6_daysUntilPruned_20 : decode cX6_daysUntilPruned 20 = .ok (.iload_n 2, 1) := dk_28 (dk_at dksX6_daysUntilPruned_0 20 rfl rfl)
theorem dX6_daysUntilPruned_21 : decode cX6_daysUntilPruned 21 = .ok (.bipush 60, 2) := dk_16 60 (dk_at dksX6_daysUntilPruned_0 21 rfl rfl)
theorem dX6_daysUntilPruned_23 : decode cX6_daysUntilPruned 23 = .ok (.if_icmp .gt 27, 3) := dk_163 0 27 (dk_at dksX6_daysUntilPruned_1 0 rfl rfl)
theorem dX6_daysUntilPruned_26 : decode cX6_daysUntilPruned 26 = .ok (.aload_n 0, 1) := dk_42 (dk_at dksX6_daysUntilPruned_1 3 rfl rfl)
theorem dX6_daysUntilPruned_27 : decode cX6_daysUntilPruned 27 = .ok (.iload_n 1, 1) := dk_27 (dk_at dksX6_daysUntilPruned_1 4 rfl rfl)
theorem dX6_daysUntilPruned_28 : decode cX6_daysUntilPruned 28 = .ok (.invokevirtual 84, 3) := dk_182 0 84 (dk_at dksX6_daysUntilPruned_1 5 rfl rfl)
theorem dX6_daysUntilPruned_31 : decode cX6_daysUntilPruned 31 = .ok (.ifCond .ne 9, 3) := dk_154 0 9 (dk_at dksX6_daysUntilPruned_1 8 rfl rfl)
theorem dX6_daysUntilPruned_34 : decode cX6_daysUntilPruned 34 = .ok (.aload_n 0, 1) := dk_42 (dk_at dksX6_daysUntilPruned_1 11 rfl rfl)
theorem dX6_daysUntilPruned_35 : decode cX6_daysUntilPruned 35 = .ok (.iload_n 2, 1) := dk_28 (dk_at dksX6_daysUntilPruned_1 12 rfl rfl)
theorem dX6_daysUntilPruned_36 : decode cX6_daysUntilPruned 36 = .ok (.invokevirtual 400, 3) := dk_182 1 144 (dk_at dksX6_daysUntilPruned_1 13 rfl rfl)
theorem dX6_daysUntilPruned_39 : decode cX6_daysUntilPruned 39 = .ok (.ireturn, 1) := dk_172 (dk_at dksX6_daysUntilPruned_1 16 rfl rfl)
theorem dX6_daysUntilPruned_40 : decode cX6_daysUntilPruned 40 = .ok (.aload_n 0, 1) := dk_42 (dk_at dksX6_daysUntilPruned_1 17 rfl rfl)
theorem dX6_daysUntilPruned_41 : decode cX6_daysUntilPruned 41 = .ok (.invokevirtual 188, 3) := dk_182 0 188 (dk_at dksX6_daysUntilPruned_1 18 rfl rfl)
theorem dX6_daysUntilPruned_44 : decode cX6_daysUntilPruned 44 = .ok (.iinc 2 1, 3) := dk_132 2 1 (dk_at dksX6_daysUntilPruned_1 21 rfl rfl)
theorem dX6_daysUntilPruned_47 : decode cX6_daysUntilPruned 47 = .ok (.goto (-27), 3) := dk_167 255 229 (dk_at dksX6_daysUntilPruned_2 0 rfl rfl)
theorem dX6_daysUntilPruned_50 : decode cX6_daysUntilPruned 50 = .ok (.aload_n 0, 1) := dk_42 (dk_at dksX6_daysUntilPruned_2 3 rfl rfl)
theorem dX6_daysUntilPruned_51 : decode cX6_daysUntilPruned 51 = .ok (.iconst (-1), 1) := dk_2 (dk_at dksX6_daysUntilPruned_2 4 rfl rfl)
theorem dX6_daysUntilPruned_52 : decode cX6_daysUntilPruned 52 = .ok (.invokevirtual 400, 3) := dk_182 1 144 (dk_at dksX6_daysUntilPruned_2 5 rfl rfl)
theorem dX6_daysUntilPruned_55 : decode cX6_daysUntilPruned 55 = .ok (.ireturn, 1) := dk_172 (dk_at dksX6_daysUntilPruned_2 8 rfl rfl)
abbrev cX6_tries : ByteArray := prog_14_method_9_code
def yX6_tries : MethodName := ⟨RX6, "tries", "()V"⟩
def dkwX6_tries_0 : List UInt8 := [42, 180, 0, 7, 3, 42, 180, 0, 19, 3, 184, 0, 61, 177]
abbrev dktX6_tries_0 : List UInt8 := dkwX6_tries_0 ++ []
theorem dksX6_tries_0 : cX6_tries.data.toList.drop 0 = dktX6_tries_0 := by decide +kernel
theorem dX6_tries_0 : decode cX6_tries 0 = .ok (.aload_n 0, 1) := dk_42 (dk_at dksX6_tries_0 0 rfl rfl)
theorem dX6_tries_1 : decode cX6_tries 1 = .ok (.getfield 7, 3) := dk_180 0 7 (dk_at dksX6_tries_0 1 rfl rfl)
theorem dX6_tries_4 : decode cX6_tries 4 = .ok (.iconst 0, 1) := dk_3 (dk_at dksX6_tries_0 4 rfl rfl)
theorem dX6_tries_5 : decode cX6_tries 5 = .ok (.aload_n 0, 1) := dk_42 (dk_at dksX6_tries_0 5 rfl rfl)
theorem dX6_tries_6 : decode cX6_tries 6 = .ok (.getfield 19, 3) := dk_180 0 19 (dk_at dksX6_tries_0 6 rfl rfl)
theorem dX6_tries_9 : decode cX6_tries 9 = .ok (.iconst 0, 1) := dk_3 (dk_at dksX6_tries_0 9 rfl rfl)
theorem dX6_tries_10 : decode cX6_tries 10 = .ok (.invokestatic 61, 3) := dk_184 0 61 (dk_at dksX6_tries_0 10 rfl rfl)
theorem dX6_tries_13 : decode cX6_tries 13 = .ok (.return_, 1) := dk_177 (dk_at dksX6_tries_0 13 rfl rfl)
abbrev cX6_laidBack : ByteArray := prog_14_method_10_code
def yX6_laidBack : MethodName := ⟨RX6, "laidBack", "(I)I"⟩
def dkwX6_laidBack_0 : List UInt8 := [42, 180, 0, 19, 3, 42, 180, 0, 7, 3, 184, 0, 61, 27, 172]
abbrev dktX6_laidBack_0 : List UInt8 := dkwX6_laidBack_0 ++ []
theorem dksX6_laidBack_0 : cX6_laidBack.data.toList.drop 0 = dktX6_laidBack_0 := by decide +kernel
theorem dX6_laidBack_0 : decode cX6_laidBack 0 = .ok (.aload_n 0, 1) := dk_42 (dk_at dksX6_laidBack_0 0 rfl rfl)
theorem dX6_laidBack_1 : decode cX6_laidBack 1 = .ok (.getfield 19, 3) := dk_180 0 19 (dk_at dksX6_laidBack_0 1 rfl rfl)
theorem dX6_laidBack_4 : decode cX6_laidBack 4 = .ok (.iconst 0, 1) := dk_3 (dk_at dksX6_laidBack_0 4 rfl rfl)
theorem dX6_laidBack_5 : decode cX6_laidBack 5 = .ok (.aload_n 0, 1) := dk_42 (dk_at dksX6_laidBack_0 5 rfl rfl)
theorem dX6_laidBack_6 : decode cX6_laidBack 6 = .ok (.getfield 7, 3) := dk_180 0 7 (dk_at dksX6_laidBack_0 6 rfl rfl)
theorem dX6_laidBack_9 : decode cX6_laidBack 9 = .ok (.iconst 0, 1) := dk_3 (dk_at dksX6_laidBack_0 9 rfl rfl)
theorem dX6_laidBack_10 : decode cX6_laidBack 10 = .ok (.invokestatic 61, 3) := dk_184 0 61 (dk_at dksX6_laidBack_0 10 rfl rfl)
theorem dX6_laidBack_13 : decode cX6_laidBack 13 = .ok (.iload_n 1, 1) := dk_27 (dk_at dksX6_laidBack_0 13 rfl rfl)
theorem dX6_laidBack_14 : decode cX6_laidBack 14 = .ok (.ireturn, 1) := dk_172 (dk_at dksX6_laidBack_0 14 rfl rfl)
abbrev cX6_deliveredAfter : ByteArray := prog_14_method_128_code
def yX6_deliveredAfter : MethodName := ⟨RX6, "deliveredAfter", "(II)I"⟩
def dkwX6_deliveredAfter_2 : List UInt8 := [42, 42, 180, 0, 7, 16, 16, 27, 96, 46, 182, 1, 144, 29, 100, 172]
abbrev dktX6_deliveredAfter_2 : List UInt8 := dkwX6_deliveredAfter_2 ++ []
def dkwX6_deliveredAfter_1 : List UInt8 := [154, 0, 5, 3, 172, 42, 180, 0, 7, 16, 16, 27, 96, 46, 62, 42, 182, 1, 141, 42, 28, 182, 0, 218]
abbrev dktX6_deliveredAfter_1 : List UInt8 := dkwX6_deliveredAfter_1 ++ dktX6_deliveredAfter_2
def dkwX6_deliveredAfter_0 : List UInt8 := [42, 27, 184, 1, 129, 153, 0, 14, 28, 184, 1, 149, 153, 0, 7, 4, 167, 0, 4, 3, 182, 0, 221]
abbrev dktX6_deliveredAfter_0 : List UInt8 := dkwX6_deliveredAfter_0 ++ dktX6_deliveredAfter_1
theorem dksX6_deliveredAfter_0 : cX6_deliveredAfter.data.toList.drop 0 = dktX6_deliveredAfter_0 := by decide +kernel
theorem dksX6_deliveredAfter_1 : cX6_deliveredAfter.data.toList.drop 23 = dktX6_deliveredAfter_1 := dk_seg dksX6_deliveredAfter_0 23 rfl rfl
theorem dksX6_deliveredAfter_2 : cX6_deliveredAfter.data.toList.drop 47 = dktX6_deliveredAfter_2 := dk_seg dksX6_deliveredAfter_1 24 rfl rfl
theorem dX6_deliveredAfter_0 : decode cX6_deliveredAfter 0 = .ok (.aload_n 0, 1) := dk_42 (dk_at dksX6_deliveredAfter_0 0 rfl rfl)
theorem dX6_deliveredAfter_1 : decode cX6_deliveredAfter 1 = .ok (.iload_n 1, 1) := dk_27 (dk_at dksX6_deliveredAfter_0 1 rfl rfl)
theorem dX6_deliveredAfter_2 : decode cX6_deliveredAfter 2 = .ok (.invokestatic 385, 3) := dk_184 1 129 (dk_at dksX6_deliveredAfter_0 2 rfl rfl)
theorem dX6_deliveredAfter_5 : decode cX6_deliveredAfter 5 = .ok (.ifCond .eq 14, 3) := dk_153 0 14 (dk_at dksX6_deliveredAfter_0 5 rfl rfl)
theorem dX6_deliveredAfter_8 : decode cX6_deliveredAfter 8 = .ok (.iload_n 2, 1) := dk_28 (dk_at dksX6_deliveredAfter_0 8 rfl rfl)
theorem dX6_deliveredAfter_9 : decode cX6_deliveredAfter 9 = .ok (.invokestatic 405, 3) := dk_184 1 149 (dk_at dksX6_deliveredAfter_0 9 rfl rfl)
theorem dX6_deliveredAfter_12 : decode cX6_deliveredAfter 12 = .ok (.ifCond .eq 7, 3) := dk_153 0 7 (dk_at dksX6_deliveredAfter_0 12 rfl rfl)
theorem dX6_deliveredAfter_15 : decode cX6_deliveredAfter 15 = .ok (.iconst 1, 1) := dk_4 (dk_at dksX6_deliveredAfter_0 15 rfl rfl)
theorem dX6_deliveredAfter_16 : decode cX6_deliveredAfter 16 = .ok (.goto 4, 3) := dk_167 0 4 (dk_at dksX6_deliveredAfter_0 16 rfl rfl)
theorem dX6_deliveredAfter_19 : decode cX6_deliveredAfter 19 = .ok (.iconst 0, 1) := dk_3 (dk_at dksX6_deliveredAfter_0 19 rfl rfl)
theorem dX6_deliveredAfter_20 : decode cX6_deliveredAfter 20 = .ok (.invokevirtual 221, 3) := dk_182 0 221 (dk_at dksX6_deliveredAfter_0 20 rfl rfl)
theorem dX6_deliveredAfter_23 : decode cX6_deliveredAfter 23 = .ok (.ifCond .ne 5, 3) := dk_154 0 5 (dk_at dksX6_deliveredAfter_1 0 rfl rfl)
theorem dX6_deliveredAfter_26 : decode cX6_deliveredAfter 26 = .ok (.iconst 0, 1) := dk_3 (dk_at dksX6_deliveredAfter_1 3 rfl rfl)
theorem dX6_deliveredAfter_27 : decode cX6_deliveredAfter 27 = .ok (.ireturn, 1) := dk_172 (dk_at dksX6_deliveredAfter_1 4 rfl rfl)
theorem dX6_deliveredAfter_28 : decode cX6_deliveredAfter 28 = .ok (.aload_n 0, 1) := dk_42 (dk_at dksX6_deliveredAfter_1 5 rfl rfl)
theorem dX6_deliveredAfter_29 : decode cX6_deliveredAfter 29 = .ok (.getfield 7, 3) := dk_180 0 7 (dk_at dksX6_deliveredAfter_1 6 rfl rfl)
theorem dX6_deliveredAfter_32 : decode cX6_deliveredAfter 32 = .ok (.bipush 16, 2) := dk_16 16 (dk_at dksX6_deliveredAfter_1 9 rfl rfl)
theorem dX6_deliveredAfter_34 : decode cX6_deliveredAfter 34 = .ok (.iload_n 1, 1) := dk_27 (dk_at dksX6_deliveredAfter_1 11 rfl rfl)
theorem dX6_deliveredAfter_35 : decode cX6_deliveredAfter 35 = .ok (.iadd, 1) := dk_96 (dk_at dksX6_deliveredAfter_1 12 rfl rfl)
theorem dX6_deliveredAfter_36 : decode cX6_deliveredAfter 36 = .ok (.iaload, 1) := dk_46 (dk_at dksX6_deliveredAfter_1 13 rfl rfl)
theorem dX6_deliveredAfter_37 : decode cX6_deliveredAfter 37 = .ok (.istore_n 3, 1) := dk_62 (dk_at dksX6_deliveredAfter_1 14 rfl rfl)
theorem dX6_deliveredAfter_38 : decode cX6_deliveredAfter 38 = .ok (.aload_n 0, 1) := dk_42 (dk_at dksX6_deliveredAfter_1 15 rfl rfl)
theorem dX6_deliveredAfter_39 : decode cX6_deliveredAfter 39 = .ok (.invokevirtual 397, 3) := dk_182 1 141 (dk_at dksX6_deliveredAfter_1 16 rfl rfl)
theorem dX6_deliveredAfter_42 : decode cX6_deliveredAfter 42 = .ok (.aload_n 0, 1) := dk_42 (dk_at dksX6_deliveredAfter_1 19 rfl rfl)
theorem dX6_deliveredAfter_43 : decode cX6_deliveredAfter 43 = .ok (.iload_n 2, 1) := dk_28 (dk_at dksX6_deliveredAfter_1 20 rfl rfl)
theorem dX6_deliveredAfter_44 : decode cX6_deliveredAfter 44 = .ok (.invokevirtual 218, 3) := dk_182 0 218 (dk_at dksX6_deliveredAfter_1 21 rfl rfl)
theorem dX6_deliveredAfter_47 : decode cX6_deliveredAfter 47 = .ok (.aload_n 0, 1) := dk_42 (dk_at dksX6_deliveredAfter_2 0 rfl rfl)
theorem dX6_deliveredAfter_48 : decode cX6_deliveredAfter 48 = .ok (.aload_n 0, 1) := dk_42 (dk_at dksX6_deliveredAfter_2 1 rfl rfl)
theorem dX6_deliveredAfter_49 : decode cX6_deliveredAfter 49 = .ok (.getfield 7, 3) := dk_180 0 7 (dk_at dksX6_deliveredAfter_2 2 rfl rfl)
theorem dX6_deliveredAfter_52 : decode cX6_deliveredAfter 52 = .ok (.bipush 16, 2) := dk_16 16 (dk_at dksX6_deliveredAfter_2 5 rfl rfl)
theorem dX6_deliveredAfter_54 : decode cX6_deliveredAfter 54 = .ok (.iload_n 1, 1) := dk_27 (dk_at dksX6_deliveredAfter_2 7 rfl rfl)
theorem dX6_deliveredAfter_55 : decode cX6_deliveredAfter 55 = .ok (.iadd, 1) := dk_96 (dk_at dksX6_deliveredAfter_2 8 rfl rfl)
theorem dX6_deliveredAfter_56 : decode cX6_deliveredAfter 56 = .ok (.iaload, 1) := dk_46 (dk_at dksX6_deliveredAfter_2 9 rfl rfl)
theorem dX6_deliveredAfter_57 : decode cX6_deliveredAfter 57 = .ok (.invokevirtual 400, 3) := dk_182 1 144 (dk_at dksX6_deliveredAfter_2 10 rfl rfl)
theorem dX6_deliveredAfter_60 : decode cX6_deliveredAfter 60 = .ok (.iload_n 3, 1) := dk_29 (dk_at dksX6_deliveredAfter_2 13 rfl rfl)
theorem dX6_deliveredAfter_61 : decode cX6_deliveredAfter 61 = .ok (.isub, 1) := dk_100 (dk_at dksX6_deliveredAfter_2 14 rfl rfl)
theorem dX6_deliveredAfter_62 : decode cX6_deliveredAfter 62 = .ok (.ireturn, 1) := dk_172 (dk_at dksX6_deliveredAfter_2 15 rfl rfl)
abbrev cX6_areDays : ByteArray := prog_14_method_127_code
def yX6_areDays : MethodName := ⟨RX6, "areDays", "(I)Z"⟩
def dkwX6_areDays_0 : List UInt8 := [26, 133, 9, 20, 1, 147, 184, 0, 65, 172]
abbrev dktX6_areDays_0 : List UInt8 := dkwX6_areDays_0 ++ []
theorem dksX6_areDays_0 : cX6_areDays.data.toList.drop 0 = dktX6_areDays_0 := by decide +kernel
theorem dX6_areDays_0 : decode cX6_areDays 0 = .ok (.iload_n 0, 1) := dk_26 (dk_at dksX6_areDays_0 0 rfl rfl)
theorem dX6_areDays_1 : decode cX6_areDays 1 = .ok (.i2l, 1) := dk_133 (dk_at dksX6_areDays_0 1 rfl rfl)
theorem dX6_areDays_2 : decode cX6_areDays 2 = .ok (.lconst 0, 1) := dk_9 (dk_at dksX6_areDays_0 2 rfl rfl)
theorem dX6_areDays_3 : decode cX6_areDays 3 = .ok (.ldc2_w 403, 3) := dk_20 1 147 (dk_at dksX6_areDays_0 3 rfl rfl)
theorem dX6_areDays_6 : decode cX6_areDays 6 = .ok (.invokestatic 65, 3) := dk_184 0 65 (dk_at dksX6_areDays_0 6 rfl rfl)
theorem dX6_areDays_9 : decode cX6_areDays 9 = .ok (.ireturn, 1) := dk_172 (dk_at dksX6_areDays_0 9 rfl rfl)
abbrev cX6_pendingAfter : ByteArray := prog_14_method_129_code
def yX6_pendingAfter : MethodName := ⟨RX6, "pendingAfter", "(II)I"⟩
def dkwX6_pendingAfter_2 : List UInt8 := [182, 1, 144, 172]
abbrev dktX6_pendingAfter_2 : List UInt8 := dkwX6_pendingAfter_2 ++ []
def dkwX6_pendingAfter_1 : List UInt8 := [154, 0, 5, 3, 172, 42, 182, 1, 141, 42, 28, 182, 0, 218, 42, 42, 180, 0, 7, 16, 12, 27, 96, 46]
abbrev dktX6_pendingAfter_1 : List UInt8 := dkwX6_pendingAfter_1 ++ dktX6_pendingAfter_2
def dkwX6_pendingAfter_0 : List UInt8 := [42, 27, 184, 1, 129, 153, 0, 14, 28, 184, 1, 149, 153, 0, 7, 4, 167, 0, 4, 3, 182, 0, 221]
abbrev dktX6_pendingAfter_0 : List UInt8 := dkwX6_pendingAfter_0 ++ dktX6_pendingAfter_1
theorem dksX6_pendingAfter_0 : cX6_pendingAfter.data.toList.drop 0 = dktX6_pendingAfter_0 := by decide +kernel
theorem dksX6_pendingAfter_1 : cX6_pendingAfter.data.toList.drop 23 = dktX6_pendingAfter_1 := dk_seg dksX6_pendingAfter_0 23 rfl rfl
theorem dksX6_pendingAfter_2 : cX6_pendingAfter.data.toList.drop 47 = dktX6_pendingAfter_2 := dk_seg dksX6_pendingAfter_1 24 rfl rfl
theorem dX6_pendingAfter_0 : decode cX6_pendingAfter 0 = .ok (.aload_n 0, 1) := dk_42 (dk_at dksX6_pendingAfter_0 0 rfl rfl)
theorem dX6_pendingAfter_1 : decode cX6_pendingAfter 1 = .ok (.iload_n 1, 1) := dk_27 (dk_at dksX6_pendingAfter_0 1 rfl rfl)
theorem dX6_pendingAfter_2 : decode cX6_pendingAfter 2 = .ok (.invokestatic 385, 3) := dk_184 1 129 (dk_at dksX6_pendingAfter_0 2 rfl rfl)
theorem dX6_pendingAfter_5 : decode cX6_pendingAfter 5 = .ok (.ifCond .eq 14, 3) := dk_153 0 14 (dk_at dksX6_pendingAfter_0 5 rfl rfl)
theorem dX6_pendingAfter_8 : decode cX6_pendingAfter 8 = .ok (.iload_n 2, 1) := dk_28 (dk_at dksX6_pendingAfter_0 8 rfl rfl)
theorem dX6_pendingAfter_9 : decode cX6_pendingAfter 9 = .ok (.invokestatic 405, 3) := dk_184 1 149 (dk_at dksX6_pendingAfter_0 9 rfl rfl)
theorem dX6_pendingAfter_12 : decode cX6_pendingAfter 12 = .ok (.ifCond .eq 7, 3) := dk_153 0 7 (dk_at dksX6_pendingAfter_0 12 rfl rfl)
theorem dX6_pendingAfter_15 : decode cX6_pendingAfter 15 = .ok (.iconst 1, 1) := dk_4 (dk_at dksX6_pendingAfter_0 15 rfl rfl)
theorem dX6_pendingAfter_16 : decode cX6_pendingAfter 16 = .ok (.goto 4, 3) := dk_167 0 4 (dk_at dksX6_pendingAfter_0 16 rfl rfl)
theorem dX6_pendingAfter_19 : decode cX6_pendingAfter 19 = .ok (.iconst 0, 1) := dk_3 (dk_at dksX6_pendingAfter_0 19 rfl rfl)
theorem dX6_pendingAfter_20 : decode cX6_pendingAfter 20 = .ok (.invokevirtual 221, 3) := dk_182 0 221 (dk_at dksX6_pendingAfter_0 20 rfl rfl)
theorem dX6_pendingAfter_23 : decode cX6_pendingAfter 23 = .ok (.ifCond .ne 5, 3) := dk_154 0 5 (dk_at dksX6_pendingAfter_1 0 rfl rfl)
theorem dX6_pendingAfter_26 : decode cX6_pendingAfter 26 = .ok (.iconst 0, 1) := dk_3 (dk_at dksX6_pendingAfter_1 3 rfl rfl)
theorem dX6_pendingAfter_27 : decode cX6_pendingAfter 27 = .ok (.ireturn, 1) := dk_172 (dk_at dksX6_pendingAfter_1 4 rfl rfl)
theorem dX6_pendingAfter_28 : decode cX6_pendingAfter 28 = .ok (.aload_n 0, 1) := dk_42 (dk_at dksX6_pendingAfter_1 5 rfl rfl)
theorem dX6_pendingAfter_29 : decode cX6_pendingAfter 29 = .ok (.invokevirtual 397, 3) := dk_182 1 141 (dk_at dksX6_pendingAfter_1 6 rfl rfl)
theorem dX6_pendingAfter_32 : decode cX6_pendingAfter 32 = .ok (.aload_n 0, 1) := dk_42 (dk_at dksX6_pendingAfter_1 9 rfl rfl)
theorem dX6_pendingAfter_33 : decode cX6_pendingAfter 33 = .ok (.iload_n 2, 1) := dk_28 (dk_at dksX6_pendingAfter_1 10 rfl rfl)
theorem dX6_pendingAfter_34 : decode cX6_pendingAfter 34 = .ok (.invokevirtual 218, 3) := dk_182 0 218 (dk_at dksX6_pendingAfter_1 11 rfl rfl)
theorem dX6_pendingAfter_37 : decode cX6_pendingAfter 37 = .ok (.aload_n 0, 1) := dk_42 (dk_at dksX6_pendingAfter_1 14 rfl rfl)
theorem dX6_pendingAfter_38 : decode cX6_pendingAfter 38 = .ok (.aload_n 0, 1) := dk_42 (dk_at dksX6_pendingAfter_1 15 rfl rfl)
theorem dX6_pendingAfter_39 : decode cX6_pendingAfter 39 = .ok (.getfield 7, 3) := dk_180 0 7 (dk_at dksX6_pendingAfter_1 16 rfl rfl)
theorem dX6_pendingAfter_42 : decode cX6_pendingAfter 42 = .ok (.bipush 12, 2) := dk_16 12 (dk_at dksX6_pendingAfter_1 19 rfl rfl)
theorem dX6_pendingAfter_44 : decode cX6_pendingAfter 44 = .ok (.iload_n 1, 1) := dk_27 (dk_at dksX6_pendingAfter_1 21 rfl rfl)
theorem dX6_pendingAfter_45 : decode cX6_pendingAfter 45 = .ok (.iadd, 1) := dk_96 (dk_at dksX6_pendingAfter_1 22 rfl rfl)
theorem dX6_pendingAfter_46 : decode cX6_pendingAfter 46 = .ok (.iaload, 1) := dk_46 (dk_at dksX6_pendingAfter_1 23 rfl rfl)
theorem dX6_pendingAfter_47 : decode cX6_pendingAfter 47 = .ok (.invokevirtual 400, 3) := dk_182 1 144 (dk_at dksX6_pendingAfter_2 0 rfl rfl)
theorem dX6_pendingAfter_50 : decode cX6_pendingAfter 50 = .ok (.ireturn, 1) := dk_172 (dk_at dksX6_pendingAfter_2 3 rfl rfl)
abbrev cX6_bestNestSlot : ByteArray := prog_14_method_131_code
def yX6_bestNestSlot : MethodName := ⟨RX6, "bestNestSlot", "()I"⟩
def dkwX6_bestNestSlot_2 : List UInt8 := [164, 0, 11, 29, 60, 42, 29, 182, 1, 152, 61, 132, 3, 1, 167, 255, 218, 27, 172]
abbrev dktX6_bestNestSlot_2 : List UInt8 := dkwX6_bestNestSlot_2 ++ []
def dkwX6_bestNestSlot_1 : List UInt8 := [180, 0, 7, 3, 46, 162, 0, 34, 42, 29, 182, 0, 77, 154, 0, 20, 42, 29, 182, 1, 152, 28]
abbrev dktX6_bestNestSlot_1 : List UInt8 := dkwX6_bestNestSlot_1 ++ dktX6_bestNestSlot_2
def dkwX6_bestNestSlot_0 : List UInt8 := [42, 3, 181, 0, 58, 42, 182, 0, 209, 16, 6, 160, 0, 5, 2, 172, 2, 60, 2, 61, 3, 62, 29, 42]
abbrev dktX6_bestNestSlot_0 : List UInt8 := dkwX6_bestNestSlot_0 ++ dktX6_bestNestSlot_1
theorem dksX6_bestNestSlot_0 : cX6_bestNestSlot.data.toList.drop 0 = dktX6_bestNestSlot_0 := by decide +kernel
theorem dksX6_bestNestSlot_1 : cX6_bestNestSlot.data.toList.drop 24 = dktX6_bestNestSlot_1 := dk_seg dksX6_bestNestSlot_0 24 rfl rfl
theorem dksX6_bestNestSlot_2 : cX6_bestNestSlot.data.toList.drop 46 = dktX6_bestNestSlot_2 := dk_seg dksX6_bestNestSlot_1 22 rfl rfl
theorem dX6_bestNestSlot_0 : decode cX6_bestNestSlot 0 = .ok (.aload_n 0, 1) := dk_42 (dk_at dksX6_bestNestSlot_0 0 rfl rfl)
theorem dX6_bestNestSlot_1 : decode cX6_bestNestSlot 1 = .ok (.iconst 0, 1) := dk_3 (dk_at dksX6_bestNestSlot_0 1 rfl rfl)
theorem dX6_bestNestSlot_2 : decode cX6_bestNestSlot 2 = .ok (.putfield 58, 3) := dk_181 0 58 (dk_at dksX6_bestNestSlot_0 2 rfl rfl)
theorem dX6_bestNestSlot_5 : decode cX6_bestNestSlot 5 = .ok (.aload_n 0, 1) := dk_42 (dk_at dksX6_bestNestSlot_0 5 rfl rfl)
theorem dX6_bestNestSlot_6 : decode cX6_bestNestSlot 6 = .ok (.invokevirtual 209, 3) := dk_182 0 209 (dk_at dksX6_bestNestSlot_0 6 rfl rfl)
theorem dX6_bestNestSlot_9 : decode cX6_bestNestSlot 9 = .ok (.bipush 6, 2) := dk_16 6 (dk_at dksX6_bestNestSlot_0 9 rfl rfl)
theorem dX6_bestNestSlot_11 : decode cX6_bestNestSlot 11 = .ok (.if_icmp .ne 5, 3) := dk_160 0 5 (dk_at dksX6_bestNestSlot_0 11 rfl rfl)
theorem dX6_bestNestSlot_14 : decode cX6_bestNestSlot 14 = .ok (.iconst (-1), 1) := dk_2 (dk_at dksX6_bestNestSlot_0 14 rfl rfl)
theorem dX6_bestNestSlot_15 : decode cX6_bestNestSlot 15 = .ok (.ireturn, 1) := dk_172 (dk_at dksX6_bestNestSlot_0 15 rfl rfl)
theorem dX6_bestNestSlot_16 : decode cX6_bestNestSlot 16 = .ok (.iconst (-1), 1) := dk_2 (dk_at dksX6_bestNestSlot_0 16 rfl rfl)
theorem dX6_bestNestSlot_17 : decode cX6_bestNestSlot 17 = .ok (.istore_n 1, 1) := dk_60 (dk_at dksX6_bestNestSlot_0 17 rfl rfl)
theorem dX6_bestNestSlot_18 : decode cX6_bestNestSlot 18 = .ok (.iconst (-1), 1) := dk_2 (dk_at dksX6_bestNestSlot_0 18 rfl rfl)
theorem dX6_bestNestSlot_19 : decode cX6_bestNestSlot 19 = .ok (.istore_n 2, 1) := dk_61 (dk_at dksX6_bestNestSlot_0 19 rfl rfl)
theorem dX6_bestNestSlot_20 : decode cX6_bestNestSlot 20 = .ok (.iconst 0, 1) := dk_3 (dk_at dksX6_bestNestSlot_0 20 rfl rfl)
theorem dX6_bestNestSlot_21 : decode cX6_bestNestSlot 21 = .ok (.istore_n 3, 1) := dk_62 (dk_at dksX6_bestNestSlot_0 21 rfl rfl)
theorem dX6_bestNestSlot_22 : decode cX6_bestNestSlot 22 = .ok (.iload_n 3, 1) := dk_29 (dk_at dksX6_bestNestSlot_0 22 rfl rfl)
theorem dX6_bestNestSlot_23 : decode cX6_bestNestSlot 23 = .ok (.aload_n 0, 1) := dk_42 (dk_at dksX6_bestNestSlot_0 23 rfl rfl)
theorem dX6_bestNestSlot_24 : decode cX6_bestNestSlot 24 = .ok (.getfield 7, 3) := dk_180 0 7 (dk_at dksX6_bestNestSlot_1 0 rfl rfl)
theorem dX6_bestNestSlot_27 : decode cX6_bestNestSlot 27 = .ok (.iconst 0, 1) := dk_3 (dk_at dksX6_bestNestSlot_1 3 rfl rfl)
theorem dX6_bestNestSlot_28 : decode cX6_bestNestSlot 28 = .ok (.iaload, 1) := dk_46 (dk_at dksX6_bestNestSlot_1 4 rfl rfl)
theorem dX6_bestNestSlot_29 : decode cX6_bestNestSlot 29 = .ok (.if_icmp .ge 34, 3) := dk_162 0 34 (dk_at dksX6_bestNestSlot_1 5 rfl rfl)
theorem dX6_bestNestSlot_32 : decode cX6_bestNestSlot 32 = .ok (.aload_n 0, 1) := dk_42 (dk_at dksX6_bestNestSlot_1 8 rfl rfl)
theorem dX6_bestNestSlot_33 : decode cX6_bestNestSlot 33 = .ok (.iload_n 3, 1) := dk_29 (dk_at dksX6_bestNestSlot_1 9 rfl rfl)
theorem dX6_bestNestSlot_34 : decode cX6_bestNestSlot 34 = .ok (.invokevirtual 77, 3) := dk_182 0 77 (dk_at dksX6_bestNestSlot_1 10 rfl rfl)
theorem dX6_bestNestSlot_37 : decode cX6_bestNestSlot 37 = .ok (.ifCond .ne 20, 3) := dk_154 0 20 (dk_at dksX6_bestNestSlot_1 13 rfl rfl)
theorem dX6_bestNestSlot_40 : decode cX6_bestNestSlot 40 = .ok (.aload_n 0, 1) := dk_42 (dk_at dksX6_bestNestSlot_1 16 rfl rfl)
theorem dX6_bestNestSlot_41 : decode cX6_bestNestSlot 41 = .ok (.iload_n 3, 1) := dk_29 (dk_at dksX6_bestNestSlot_1 17 rfl rfl)
theorem dX6_bestNestSlot_42 : decode cX6_bestNestSlot 42 = .ok (.invokevirtual 408, 3) := dk_182 1 152 (dk_at dksX6_bestNestSlot_1 18 rfl rfl)
theorem dX6_bestNestSlot_45 : decode cX6_bestNestSlot 45 = .ok (.iload_n 2, 1) := dk_28 (dk_at dksX6_bestNestSlot_1 21 rfl rfl)
theorem dX6_bestNestSlot_46 : decode cX6_bestNestSlot 46 = .ok (.if_icmp .le 11, 3) := dk_164 0 11 (dk_at dksX6_bestNestSlot_2 0 rfl rfl)
theorem dX6_bestNestSlot_49 : decode cX6_bestNestSlot 49 = .ok (.iload_n 3, 1) := dk_29 (dk_at dksX6_bestNestSlot_2 3 rfl rfl)
theorem dX6_bestNestSlot_50 : decode cX6_bestNestSlot 50 = .ok (.istore_n 1, 1) := dk_60 (dk_at dksX6_bestNestSlot_2 4 rfl rfl)
theorem dX6_bestNestSlot_51 : decode cX6_bestNestSlot 51 = .ok (.aload_n 0, 1) := dk_42 (dk_at dksX6_bestNestSlot_2 5 rfl rfl)
theorem dX6_bestNestSlot_52 : decode cX6_bestNestSlot 52 = .ok (.iload_n 3, 1) := dk_29 (dk_at dksX6_bestNestSlot_2 6 rfl rfl)
theorem dX6_bestNestSlot_53 : decode cX6_bestNestSlot 53 = .ok (.invokevirtual 408, 3) := dk_182 1 152 (dk_at dksX6_bestNestSlot_2 7 rfl rfl)
theorem dX6_bestNestSlot_56 : decode cX6_bestNestSlot 56 = .ok (.istore_n 2, 1) := dk_61 (dk_at dksX6_bestNestSlot_2 10 rfl rfl)
theorem dX6_bestNestSlot_57 : decode cX6_bestNestSlot 57 = .ok (.iinc 3 1, 3) := dk_132 3 1 (dk_at dksX6_bestNestSlot_2 11 rfl rfl)
theorem dX6_bestNestSlot_60 : decode cX6_bestNestSlot 60 = .ok (.goto (-38), 3) := dk_167 255 218 (dk_at dksX6_bestNestSlot_2 14 rfl rfl)
theorem dX6_bestNestSlot_63 : decode cX6_bestNestSlot 63 = .ok (.iload_n 1, 1) := dk_27 (dk_at dksX6_bestNestSlot_2 17 rfl rfl)
theorem dX6_bestNestSlot_64 : decode cX6_bestNestSlot 64 = .ok (.ireturn, 1) := dk_172 (dk_at dksX6_bestNestSlot_2 18 rfl rfl)
abbrev cX6_savedBy : ByteArray := prog_14_method_130_code
def yX6_savedBy : MethodName := ⟨RX6, "savedBy", "(I)I"⟩
def dkwX6_savedBy_1 : List UInt8 := [182, 0, 164, 153, 0, 7, 4, 167, 0, 4, 3, 184, 0, 80, 96, 61, 132, 3, 1, 167, 255, 219, 28, 172]
abbrev dktX6_savedBy_1 : List UInt8 := dkwX6_savedBy_1 ++ []
def dkwX6_savedBy_0 : List UInt8 := [3, 61, 27, 4, 100, 62, 29, 27, 4, 96, 163, 0, 36, 28, 42, 29, 182, 0, 73, 153, 0, 15, 42, 29]
abbrev dktX6_savedBy_0 : List UInt8 := dkwX6_savedBy_0 ++ dktX6_savedBy_1
theorem dksX6_savedBy_0 : cX6_savedBy.data.toList.drop 0 = dktX6_savedBy_0 := by decide +kernel
theorem dksX6_savedBy_1 : cX6_savedBy.data.toList.drop 24 = dktX6_savedBy_1 := dk_seg dksX6_savedBy_0 24 rfl rfl
theorem dX6_savedBy_0 : decode cX6_savedBy 0 = .ok (.iconst 0, 1) := dk_3 (dk_at dksX6_savedBy_0 0 rfl rfl)
theorem dX6_savedBy_1 : decode cX6_savedBy 1 = .ok (.istore_n 2, 1) := dk_61 (dk_at dksX6_savedBy_0 1 rfl rfl)
theorem dX6_savedBy_2 : decode cX6_savedBy 2 = .ok (.iload_n 1, 1) := dk_27 (dk_at dksX6_savedBy_0 2 rfl rfl)
theorem dX6_savedBy_3 : decode cX6_savedBy 3 = .ok (.iconst 1, 1) := dk_4 (dk_at dksX6_savedBy_0 3 rfl rfl)
theorem dX6_savedBy_4 : decode cX6_savedBy 4 = .ok (.isub, 1) := dk_100 (dk_at dksX6_savedBy_0 4 rfl rfl)
theorem dX6_savedBy_5 : decode cX6_savedBy 5 = .ok (.istore_n 3, 1) := dk_62 (dk_at dksX6_savedBy_0 5 rfl rfl)
theorem dX6_savedBy_6 : decode cX6_savedBy 6 = .ok (.iload_n 3, 1) := dk_29 (dk_at dksX6_savedBy_0 6 rfl rfl)
theorem dX6_savedBy_7 : decode cX6_savedBy 7 = .ok (.iload_n 1, 1) := dk_27 (dk_at dksX6_savedBy_0 7 rfl rfl)
theorem dX6_savedBy_8 : decode cX6_savedBy 8 = .ok (.iconst 1, 1) := dk_4 (dk_at dksX6_savedBy_0 8 rfl rfl)
theorem dX6_savedBy_9 : decode cX6_savedBy 9 = .ok (.iadd, 1) := dk_96 (dk_at dksX6_savedBy_0 9 rfl rfl)
theorem dX6_savedBy_10 : decode cX6_savedBy 10 = .ok (.if_icmp .gt 36, 3) := dk_163 0 36 (dk_at dksX6_savedBy_0 10 rfl rfl)
theorem dX6_savedBy_13 : decode cX6_savedBy 13 = .ok (.iload_n 2, 1) := dk_28 (dk_at dksX6_savedBy_0 13 rfl rfl)
theorem dX6_savedBy_14 : decode cX6_savedBy 14 = .ok (.aload_n 0, 1) := dk_42 (dk_at dksX6_savedBy_0 14 rfl rfl)
theorem dX6_savedBy_15 : decode cX6_savedBy 15 = .ok (.iload_n 3, 1) := dk_29 (dk_at dksX6_savedBy_0 15 rfl rfl)
theorem dX6_savedBy_16 : decode cX6_savedBy 16 = .ok (.invokevirtual 73, 3) := dk_182 0 73 (dk_at dksX6_savedBy_0 16 rfl rfl)
theorem dX6_savedBy_19 : decode cX6_savedBy 19 = .ok (.ifCond .eq 15, 3) := dk_153 0 15 (dk_at dksX6_savedBy_0 19 rfl rfl)
theorem dX6_savedBy_22 : decode cX6_savedBy 22 = .ok (.aload_n 0, 1) := dk_42 (dk_at dksX6_savedBy_0 22 rfl rfl)
theorem dX6_savedBy_23 : decode cX6_savedBy 23 = .ok (.iload_n 3, 1) := dk_29 (dk_at dksX6_savedBy_0 23 rfl rfl)
theorem dX6_savedBy_24 : decode cX6_savedBy 24 = .ok (.invokevirtual 164, 3) := dk_182 0 164 (dk_at dksX6_savedBy_1 0 rfl rfl)
theorem dX6_savedBy_27 : decode cX6_savedBy 27 = .ok (.ifCond .eq 7, 3) := dk_153 0 7 (dk_at dksX6_savedBy_1 3 rfl rfl)
theorem dX6_savedBy_30 : decode cX6_savedBy 30 = .ok (.iconst 1, 1) := dk_4 (dk_at dksX6_savedBy_1 6 rfl rfl)
theorem dX6_savedBy_31 : decode cX6_savedBy 31 = .ok (.goto 4, 3) := dk_167 0 4 (dk_at dksX6_savedBy_1 7 rfl rfl)
theorem dX6_savedBy_34 : decode cX6_savedBy 34 = .ok (.iconst 0, 1) := dk_3 (dk_at dksX6_savedBy_1 10 rfl rfl)
theorem dX6_savedBy_35 : decode cX6_savedBy 35 = .ok (.invokestatic 80, 3) := dk_184 0 80 (dk_at dksX6_savedBy_1 11 rfl rfl)
theorem dX6_savedBy_38 : decode cX6_savedBy 38 = .ok (.iadd, 1) := dk_96 (dk_at dksX6_savedBy_1 14 rfl rfl)
theorem dX6_savedBy_39 : decode cX6_savedBy 39 = .ok (.istore_n 2, 1) := dk_61 (dk_at dksX6_savedBy_1 15 rfl rfl)
theorem dX6_savedBy_40 : decode cX6_savedBy 40 = .ok (.iinc 3 1, 3) := dk_132 3 1 (dk_at dksX6_savedBy_1 16 rfl rfl)
theorem dX6_savedBy_43 : decode cX6_savedBy 43 = .ok (.goto (-37), 3) := dk_167 255 219 (dk_at dksX6_savedBy_1 19 rfl rfl)
theorem dX6_savedBy_46 : decode cX6_savedBy 46 = .ok (.iload_n 2, 1) := dk_28 (dk_at dksX6_savedBy_1 22 rfl rfl)
theorem dX6_savedBy_47 : decode cX6_savedBy 47 = .ok (.ireturn, 1) := dk_172 (dk_at dksX6_savedBy_1 23 rfl rfl)
abbrev cX6_leastWorkLimit : ByteArray := prog_14_method_133_code
def yX6_leastWorkLimit : MethodName := ⟨RX6, "leastWorkLimit", "(II)I"⟩
def dkwX6_leastWorkLimit_3 : List UInt8 := [160, 0, 5, 29, 172, 132, 3, 1, 167, 255, 213, 2, 172]
abbrev dktX6_leastWorkLimit_3 : List UInt8 := dkwX6_leastWorkLimit_3 ++ []
def dkwX6_leastWorkLimit_2 : List UInt8 := [180, 0, 7, 4, 29, 79, 42, 28, 182, 0, 218, 42, 42, 27, 182, 1, 155, 184, 0, 80, 182, 1, 144, 4]
abbrev dktX6_leastWorkLimit_2 : List UInt8 := dkwX6_leastWorkLimit_2 ++ dktX6_leastWorkLimit_3
def dkwX6_leastWorkLimit_1 : List UInt8 := [3, 182, 0, 221, 154, 0, 5, 3, 172, 4, 62, 29, 16, 12, 163, 0, 43, 42, 182, 1, 141, 42]
abbrev dktX6_leastWorkLimit_1 : List UInt8 := dkwX6_leastWorkLimit_1 ++ dktX6_leastWorkLimit_2
def dkwX6_leastWorkLimit_0 : List UInt8 := [42, 27, 184, 1, 129, 153, 0, 19, 28, 133, 10, 20, 1, 147, 184, 0, 65, 153, 0, 7, 4, 167, 0, 4]
abbrev dktX6_leastWorkLimit_0 : List UInt8 := dkwX6_leastWorkLimit_0 ++ dktX6_leastWorkLimit_1
theorem dksX6_leastWorkLimit_0 : cX6_leastWorkLimit.data.toList.drop 0 = dktX6_leastWorkLimit_0 := by decide +kernel
theorem dksX6_leastWorkLimit_1 : cX6_leastWorkLimit.data.toList.drop 24 = dktX6_leastWorkLimit_1 := dk_seg dksX6_leastWorkLimit_0 24 rfl rfl
theorem dksX6_leastWorkLimit_2 : cX6_leastWorkLimit.data.toList.drop 46 = dktX6_leastWorkLimit_2 := dk_seg dksX6_leastWorkLimit_1 22 rfl rfl
theorem dksX6_leastWorkLimit_3 : cX6_leastWorkLimit.data.toList.drop 70 = dktX6_leastWorkLimit_3 := dk_seg dksX6_leastWorkLimit_2 24 rfl rfl
theorem dX6_leastWorkLimit_0 : decode cX6_leastWorkLimit 0 = .ok (.aload_n 0, 1) := dk_42 (dk_at dksX6_leastWorkLimit_0 0 rfl rfl)
theorem dX6_leastWorkLimit_1 : decode cX6_leastWorkLimit 1 = .ok (.iload_n 1, 1) := dk_27 (dk_at dksX6_leastWorkLimit_0 1 rfl rfl)
theorem dX6_leastWorkLimit_2 : decode cX6_leastWorkLimit 2 = .ok (.invokestatic 385, 3) := dk_184 1 129 (dk_at dksX6_leastWorkLimit_0 2 rfl rfl)
theorem dX6_leastWorkLimit_5 : decode cX6_leastWorkLimit 5 = .ok (.ifCond .eq 19, 3) := dk_153 0 19 (dk_at dksX6_leastWorkLimit_0 5 rfl rfl)
theorem dX6_leastWorkLimit_8 : decode cX6_leastWorkLimit 8 = .ok (.iload_n 2, 1) := dk_28 (dk_at dksX6_leastWorkLimit_0 8 rfl rfl)
theorem dX6_leastWorkLimit_9 : decode cX6_leastWorkLimit 9 = .ok (.i2l, 1) := dk_133 (dk_at dksX6_leastWorkLimit_0 9 rfl rfl)
theorem dX6_leastWorkLimit_10 : decode cX6_leastWorkLimit 10 = .ok (.lconst 1, 1) := dk_10 (dk_at dksX6_leastWorkLimit_0 10 rfl rfl)
theorem dX6_leastWorkLimit_11 : decode cX6_leastWorkLimit 11 = .ok (.ldc2_w 403, 3) := dk_20 1 147 (dk_at dksX6_leastWorkLimit_0 11 rfl rfl)
theorem dX6_leastWorkLimit_14 : decode cX6_leastWorkLimit 14 = .ok (.invokestatic 65, 3) := dk_184 0 65 (dk_at dksX6_leastWorkLimit_0 14 rfl rfl)
theorem dX6_leastWorkLimit_17 : decode cX6_leastWorkLimit 17 = .ok (.ifCond .eq 7, 3) := dk_153 0 7 (dk_at dksX6_leastWorkLimit_0 17 rfl rfl)
theorem dX6_leastWorkLimit_20 : decode cX6_leastWorkLimit 20 = .ok (.iconst 1, 1) := dk_4 (dk_at dksX6_leastWorkLimit_0 20 rfl rfl)
theorem dX6_leastWorkLimit_21 : decode cX6_leastWorkLimit 21 = .ok (.goto 4, 3) := dk_167 0 4 (dk_at dksX6_leastWorkLimit_0 21 rfl rfl)
theorem dX6_leastWorkLimit_24 : decode cX6_leastWorkLimit 24 = .ok (.iconst 0, 1) := dk_3 (dk_at dksX6_leastWorkLimit_1 0 rfl rfl)
theorem dX6_leastWorkLimit_25 : decode cX6_leastWorkLimit 25 = .ok (.invokevirtual 221, 3) := dk_182 0 221 (dk_at dksX6_leastWorkLimit_1 1 rfl rfl)
theorem dX6_leastWorkLimit_28 : decode cX6_leastWorkLimit 28 = .ok (.ifCond .ne 5, 3) := dk_154 0 5 (dk_at dksX6_leastWorkLimit_1 4 rfl rfl)
theorem dX6_leastWorkLimit_31 : decode cX6_leastWorkLimit 31 = .ok (.iconst 0, 1) := dk_3 (dk_at dksX6_leastWorkLimit_1 7 rfl rfl)
theorem dX6_leastWorkLimit_32 : decode cX6_leastWorkLimit 32 = .ok (.ireturn, 1) := dk_172 (dk_at dksX6_leastWorkLimit_1 8 rfl rfl)
theorem dX6_leastWorkLimit_33 : decode cX6_leastWorkLimit 33 = .ok (.iconst 1, 1) := dk_4 (dk_at dksX6_leastWorkLimit_1 9 rfl rfl)
theorem dX6_leastWorkLimit_34 : decode cX6_leastWorkLimit 34 = .ok (.istore_n 3, 1) := dk_62 (dk_at dksX6_leastWorkLimit_1 10 rfl rfl)
theorem dX6_leastWorkLimit_35 : decode cX6_leastWorkLimit 35 = .ok (.iload_n 3, 1) := dk_29 (dk_at dksX6_leastWorkLimit_1 11 rfl rfl)
theorem dX6_leastWorkLimit_36 : decode cX6_leastWorkLimit 36 = .ok (.bipush 12, 2) := dk_16 12 (dk_at dksX6_leastWorkLimit_1 12 rfl rfl)
theorem dX6_leastWorkLimit_38 : decode cX6_leastWorkLimit 38 = .ok (.if_icmp .gt 43, 3) := dk_163 0 43 (dk_at dksX6_leastWorkLimit_1 14 rfl rfl)
theorem dX6_leastWorkLimit_41 : decode cX6_leastWorkLimit 41 = .ok (.aload_n 0, 1) := dk_42 (dk_at dksX6_leastWorkLimit_1 17 rfl rfl)
theorem dX6_leastWorkLimit_42 : decode cX6_leastWorkLimit 42 = .ok (.invokevirtual 397, 3) := dk_182 1 141 (dk_at dksX6_leastWorkLimit_1 18 rfl rfl)
theorem dX6_leastWorkLimit_45 : decode cX6_leastWorkLimit 45 = .ok (.aload_n 0, 1) := dk_42 (dk_at dksX6_leastWorkLimit_1 21 rfl rfl)
theorem dX6_leastWorkLimit_46 : decode cX6_leastWorkLimit 46 = .ok (.getfield 7, 3) := dk_180 0 7 (dk_at dksX6_leastWorkLimit_2 0 rfl rfl)
theorem dX6_leastWorkLimit_49 : decode cX6_leastWorkLimit 49 = .ok (.iconst 1, 1) := dk_4 (dk_at dksX6_leastWorkLimit_2 3 rfl rfl)
theorem dX6_leastWorkLimit_50 : decode cX6_leastWorkLimit 50 = .ok (.iload_n 3, 1) := dk_29 (dk_at dksX6_leastWorkLimit_2 4 rfl rfl)
theorem dX6_leastWorkLimit_51 : decode cX6_leastWorkLimit 51 = .ok (.iastore, 1) := dk_79 (dk_at dksX6_leastWorkLimit_2 5 rfl rfl)
theorem dX6_leastWorkLimit_52 : decode cX6_leastWorkLimit 52 = .ok (.aload_n 0, 1) := dk_42 (dk_at dksX6_leastWorkLimit_2 6 rfl rfl)
theorem dX6_leastWorkLimit_53 : decode cX6_leastWorkLimit 53 = .ok (.iload_n 2, 1) := dk_28 (dk_at dksX6_leastWorkLimit_2 7 rfl rfl)
theorem dX6_leastWorkLimit_54 : decode cX6_leastWorkLimit 54 = .ok (.invokevirtual 218, 3) := dk_182 0 218 (dk_at dksX6_leastWorkLimit_2 8 rfl rfl)
theorem dX6_leastWorkLimit_57 : decode cX6_leastWorkLimit 57 = .ok (.aload_n 0, 1) := dk_42 (dk_at dksX6_leastWorkLimit_2 11 rfl rfl)
theorem dX6_leastWorkLimit_58 : decode cX6_leastWorkLimit 58 = .ok (.aload_n 0, 1) := dk_42 (dk_at dksX6_leastWorkLimit_2 12 rfl rfl)
theorem dX6_leastWorkLimit_59 : decode cX6_leastWorkLimit 59 = .ok (.iload_n 1, 1) := dk_27 (dk_at dksX6_leastWorkLimit_2 13 rfl rfl)
theorem dX6_leastWorkLimit_60 : decode cX6_leastWorkLimit 60 = .ok (.invokevirtual 411, 3) := dk_182 1 155 (dk_at dksX6_leastWorkLimit_2 14 rfl rfl)
theorem dX6_leastWorkLimit_63 : decode cX6_leastWorkLimit 63 = .ok (.invokestatic 80, 3) := dk_184 0 80 (dk_at dksX6_leastWorkLimit_2 17 rfl rfl)
theorem dX6_leastWorkLimit_66 : decode cX6_leastWorkLimit 66 = .ok (.invokevirtual 400, 3) := dk_182 1 144 (dk_at dksX6_leastWorkLimit_2 20 rfl rfl)
theorem dX6_leastWorkLimit_69 : decode cX6_leastWorkLimit 69 = .ok (.iconst 1, 1) := dk_4 (dk_at dksX6_leastWorkLimit_2 23 rfl rfl)
theorem dX6_leastWorkLimit_70 : decode cX6_leastWorkLimit 70 = .ok (.if_icmp .ne 5, 3) := dk_160 0 5 (dk_at dksX6_leastWorkLimit_3 0 rfl rfl)
theorem dX6_leastWorkLimit_73 : decode cX6_leastWorkLimit 73 = .ok (.iload_n 3, 1) := dk_29 (dk_at dksX6_leastWorkLimit_3 3 rfl rfl)
theorem dX6_leastWorkLimit_74 : decode cX6_leastWorkLimit 74 = .ok (.ireturn, 1) := dk_172 (dk_at dksX6_leastWorkLimit_3 4 rfl rfl)
theorem dX6_leastWorkLimit_75 : decode cX6_leastWorkLimit 75 = .ok (.iinc 3 1, 3) := dk_132 3 1 (dk_at dksX6_leastWorkLimit_3 5 rfl rfl)
theorem dX6_leastWorkLimit_78 : decode cX6_leastWorkLimit 78 = .ok (.goto (-43), 3) := dk_167 255 213 (dk_at dksX6_leastWorkLimit_3 8 rfl rfl)
theorem dX6_leastWorkLimit_81 : decode cX6_leastWorkLimit 81 = .ok (.iconst (-1), 1) := dk_2 (dk_at dksX6_leastWorkLimit_3 11 rfl rfl)
theorem dX6_leastWorkLimit_82 : decode cX6_leastWorkLimit 82 = .ok (.ireturn, 1) := dk_172 (dk_at dksX6_leastWorkLimit_3 12 rfl rfl)
abbrev cX6_hasNothingLeft : ByteArray := prog_14_method_132_code
def yX6_hasNothingLeft : MethodName := ⟨RX6, "hasNothingLeft", "(I)Z"⟩
def dkwX6_hasNothingLeft_1 : List UInt8 := [182, 1, 132, 154, 0, 7, 4, 167, 0, 4, 3, 172]
abbrev dktX6_hasNothingLeft_1 : List UInt8 := dkwX6_hasNothingLeft_1 ++ []
def dkwX6_hasNothingLeft_0 : List UInt8 := [42, 180, 0, 7, 16, 12, 27, 96, 46, 154, 0, 23, 42, 27, 182, 0, 134, 154, 0, 15, 42, 27]
abbrev dktX6_hasNothingLeft_0 : List UInt8 := dkwX6_hasNothingLeft_0 ++ dktX6_hasNothingLeft_1
theorem dksX6_hasNothingLeft_0 : cX6_hasNothingLeft.data.toList.drop 0 = dktX6_hasNothingLeft_0 := by decide +kernel
theorem dksX6_hasNothingLeft_1 : cX6_hasNothingLeft.data.toList.drop 22 = dktX6_hasNothingLeft_1 := dk_seg dksX6_hasNothingLeft_0 22 rfl rfl
theorem dX6_hasNothingLeft_0 : decode cX6_hasNothingLeft 0 = .ok (.aload_n 0, 1) := dk_42 (dk_at dksX6_hasNothingLeft_0 0 rfl rfl)
theorem dX6_hasNothingLeft_1 : decode cX6_hasNothingLeft 1 = .ok (.getfield 7, 3) := dk_180 0 7 (dk_at dksX6_hasNothingLeft_0 1 rfl rfl)
theorem dX6_hasNothingLeft_4 : decode cX6_hasNothingLeft 4 = .ok (.bipush 12, 2) := dk_16 12 (dk_at dksX6_hasNothingLeft_0 4 rfl rfl)
theorem dX6_hasNothingLeft_6 : decode cX6_hasNothingLeft 6 = .ok (.iload_n 1, 1) := dk_27 (dk_at dksX6_hasNothingLeft_0 6 rfl rfl)
theorem dX6_hasNothingLeft_7 : decode cX6_hasNothingLeft 7 = .ok (.iadd, 1) := dk_96 (dk_at dksX6_hasNothingLeft_0 7 rfl rfl)
theorem dX6_hasNothingLeft_8 : decode cX6_hasNothingLeft 8 = .ok (.iaload, 1) := dk_46 (dk_at dksX6_hasNothingLeft_0 8 rfl rfl)
theorem dX6_hasNothingLeft_9 : decode cX6_hasNothingLeft 9 = .ok (.ifCond .ne 23, 3) := dk_154 0 23 (dk_at dksX6_hasNothingLeft_0 9 rfl rfl)
theorem dX6_hasNothingLeft_12 : decode cX6_hasNothingLeft 12 = .ok (.aload_n 0, 1) := dk_42 (dk_at dksX6_hasNothingLeft_0 12 rfl rfl)
theorem dX6_hasNothingLeft_13 : decode cX6_hasNothingLeft 13 = .ok (.iload_n 1, 1) := dk_27 (dk_at dksX6_hasNothingLeft_0 13 rfl rfl)
theorem dX6_hasNothingLeft_14 : decode cX6_hasNothingLeft 14 = .ok (.invokevirtual 134, 3) := dk_182 0 134 (dk_at dksX6_hasNothingLeft_0 14 rfl rfl)
theorem dX6_hasNothingLeft_17 : decode cX6_hasNothingLeft 17 = .ok (.ifCond .ne 15, 3) := dk_154 0 15 (dk_at dksX6_hasNothingLeft_0 17 rfl rfl)
theorem dX6_hasNothingLeft_20 : decode cX6_hasNothingLeft 20 = .ok (.aload_n 0, 1) := dk_42 (dk_at dksX6_hasNothingLeft_0 20 rfl rfl)
theorem dX6_hasNothingLeft_21 : decode cX6_hasNothingLeft 21 = .ok (.iload_n 1, 1) := dk_27 (dk_at dksX6_hasNothingLeft_0 21 rfl rfl)
theorem dX6_hasNothingLeft_22 : decode cX6_hasNothingLeft 22 = .ok (.invokevirtual 388, 3) := dk_182 1 132 (dk_at dksX6_hasNothingLeft_1 0 rfl rfl)
theorem dX6_hasNothingLeft_25 : decode cX6_hasNothingLeft 25 = .ok (.ifCond .ne 7, 3) := dk_154 0 7 (dk_at dksX6_hasNothingLeft_1 3 rfl rfl)
theorem dX6_hasNothingLeft_28 : decode cX6_hasNothingLeft 28 = .ok (.iconst 1, 1) := dk_4 (dk_at dksX6_hasNothingLeft_1 6 rfl rfl)
theorem dX6_hasNothingLeft_29 : decode cX6_hasNothingLeft 29 = .ok (.goto 4, 3) := dk_167 0 4 (dk_at dksX6_hasNothingLeft_1 7 rfl rfl)
theorem dX6_hasNothingLeft_32 : decode cX6_hasNothingLeft 32 = .ok (.iconst 0, 1) := dk_3 (dk_at dksX6_hasNothingLeft_1 10 rfl rfl)
theorem dX6_hasNothingLeft_33 : decode cX6_hasNothingLeft 33 = .ok (.ireturn, 1) := dk_172 (dk_at dksX6_hasNothingLeft_1 11 rfl rfl)
abbrev cX6_messagesQueued : ByteArray := prog_14_method_135_code
def yX6_messagesQueued : MethodName := ⟨RX6, "messagesQueued", "(I)I"⟩
def dkwX6_messagesQueued_0 : List UInt8 := [42, 27, 16, 14, 182, 1, 158, 172]
abbrev dktX6_messagesQueued_0 : List UInt8 := dkwX6_messagesQueued_0 ++ []
theorem dksX6_messagesQueued_0 : cX6_messagesQueued.data.toList.drop 0 = dktX6_messagesQueued_0 := by decide +kernel
theorem dX6_messagesQueued_0 : decode cX6_messagesQueued 0 = .ok (.aload_n 0, 1) := dk_42 (dk_at dksX6_messagesQueued_0 0 rfl rfl)
theorem dX6_messagesQueued_1 : decode cX6_messagesQueued 1 = .ok (.iload_n 1, 1) := dk_27 (dk_at dksX6_messagesQueued_0 1 rfl rfl)
theorem dX6_messagesQueued_2 : decode cX6_messagesQueued 2 = .ok (.bipush 14, 2) := dk_16 14 (dk_at dksX6_messagesQueued_0 2 rfl rfl)
theorem dX6_messagesQueued_4 : decode cX6_messagesQueued 4 = .ok (.invokevirtual 414, 3) := dk_182 1 158 (dk_at dksX6_messagesQueued_0 4 rfl rfl)
theorem dX6_messagesQueued_7 : decode cX6_messagesQueued 7 = .ok (.ireturn, 1) := dk_172 (dk_at dksX6_messagesQueued_0 7 rfl rfl)
abbrev cX6_counter : ByteArray := prog_14_method_134_code
def yX6_counter : MethodName := ⟨RX6, "counter", "(II)I"⟩
def dkwX6_counter_0 : List UInt8 := [42, 27, 184, 1, 129, 182, 0, 221, 153, 0, 14, 42, 180, 0, 7, 28, 27, 96, 46, 167, 0, 4, 3, 172]
abbrev dktX6_counter_0 : List UInt8 := dkwX6_counter_0 ++ []
theorem dksX6_counter_0 : cX6_counter.data.toList.drop 0 = dktX6_counter_0 := by decide +kernel
theorem dX6_counter_0 : decode cX6_counter 0 = .ok (.aload_n 0, 1) := dk_42 (dk_at dksX6_counter_0 0 rfl rfl)
theorem dX6_counter_1 : decode cX6_counter 1 = .ok (.iload_n 1, 1) := dk_27 (dk_at dksX6_counter_0 1 rfl rfl)
theorem dX6_counter_2 : decode cX6_counter 2 = .ok (.invokestatic 385, 3) := dk_184 1 129 (dk_at dksX6_counter_0 2 rfl rfl)
theorem dX6_counter_5 : decode cX6_counter 5 = .ok (.invokevirtual 221, 3) := dk_182 0 221 (dk_at dksX6_counter_0 5 rfl rfl)
theorem dX6_counter_8 : decode cX6_counter 8 = .ok (.ifCond .eq 14, 3) := dk_153 0 14 (dk_at dksX6_counter_0 8 rfl rfl)
theorem dX6_counter_11 : decode cX6_counter 11 = .ok (.aload_n 0, 1) := dk_42 (dk_at dksX6_counter_0 11 rfl rfl)
theorem dX6_counter_12 : decode cX6_counter 12 = .ok (.getfield 7, 3) := dk_180 0 7 (dk_at dksX6_counter_0 12 rfl rfl)
theorem dX6_counter_15 : decode cX6_counter 15 = .ok (.iload_n 2, 1) := dk_28 (dk_at dksX6_counter_0 15 rfl rfl)
theorem dX6_counter_16 : decode cX6_counter 16 = .ok (.iload_n 1, 1) := dk_27 (dk_at dksX6_counter_0 16 rfl rfl)
theorem dX6_counter_17 : decode cX6_counter 17 = .ok (.iadd, 1) := dk_96 (dk_at dksX6_counter_0 17 rfl rfl)
theorem dX6_counter_18 : decode cX6_counter 18 = .ok (.iaload, 1) := dk_46 (dk_at dksX6_counter_0 18 rfl rfl)
theorem dX6_counter_19 : decode cX6_counter 19 = .ok (.goto 4, 3) := dk_167 0 4 (dk_at dksX6_counter_0 19 rfl rfl)
theorem dX6_counter_22 : decode cX6_counter 22 = .ok (.iconst 0, 1) := dk_3 (dk_at dksX6_counter_0 22 rfl rfl)
theorem dX6_counter_23 : decode cX6_counter 23 = .ok (.ireturn, 1) := dk_172 (dk_at dksX6_counter_0 23 rfl rfl)
abbrev cX6_messagesDelivered : ByteArray := prog_14_method_136_code
def yX6_messagesDelivered : MethodName := ⟨RX6, "messagesDelivered", "(I)I"⟩
def dkwX6_messagesDelivered_0 : List UInt8 := [42, 27, 16, 16, 182, 1, 158, 172]
abbrev dktX6_messagesDelivered_0 : List UInt8 := dkwX6_messagesDelivered_0 ++ []
theorem dksX6_messagesDelivered_0 : cX6_messagesDelivered.data.toList.drop 0 = dktX6_messagesDelivered_0 := by decide +kernel
theorem dX6_messagesDelivered_0 : decode cX6_messagesDelivered 0 = .ok (.aload_n 0, 1) := dk_42 (dk_at dksX6_messagesDelivered_0 0 rfl rfl)
theorem dX6_messagesDelivered_1 : decode cX6_messagesDelivered 1 = .ok (.iload_n 1, 1) := dk_27 (dk_at dksX6_messagesDelivered_0 1 rfl rfl)
theorem dX6_messagesDelivered_2 : decode cX6_messagesDelivered 2 = .ok (.bipush 16, 2) := dk_16 16 (dk_at dksX6_messagesDelivered_0 2 rfl rfl)
theorem dX6_messagesDelivered_4 : decode cX6_messagesDelivered 4 = .ok (.invokevirtual 414, 3) := dk_182 1 158 (dk_at dksX6_messagesDelivered_0 4 rfl rfl)
theorem dX6_messagesDelivered_7 : decode cX6_messagesDelivered 7 = .ok (.ireturn, 1) := dk_172 (dk_at dksX6_messagesDelivered_0 7 rfl rfl)
abbrev cX6_messagesFailed : ByteArray := prog_14_method_137_code
def yX6_messagesFailed : MethodName := ⟨RX6, "messagesFailed", "(I)I"⟩
def dkwX6_messagesFailed_0 : List UInt8 := [42, 27, 16, 18, 182, 1, 158, 172]
abbrev dktX6_messagesFailed_0 : List UInt8 := dkwX6_messagesFailed_0 ++ []
theorem dksX6_messagesFailed_0 : cX6_messagesFailed.data.toList.drop 0 = dktX6_messagesFailed_0 := by decide +kernel
theorem dX6_messagesFailed_0 : decode cX6_messagesFailed 0 = .ok (.aload_n 0, 1) := dk_42 (dk_at dksX6_messagesFailed_0 0 rfl rfl)
theorem dX6_messagesFailed_1 : decode cX6_messagesFailed 1 = .ok (.iload_n 1, 1) := dk_27 (dk_at dksX6_messagesFailed_0 1 rfl rfl)
theorem dX6_messagesFailed_2 : decode cX6_messagesFailed 2 = .ok (.bipush 18, 2) := dk_16 18 (dk_at dksX6_messagesFailed_0 2 rfl rfl)
theorem dX6_messagesFailed_4 : decode cX6_messagesFailed 4 = .ok (.invokevirtual 414, 3) := dk_182 1 158 (dk_at dksX6_messagesFailed_0 4 rfl rfl)
theorem dX6_messagesFailed_7 : decode cX6_messagesFailed 7 = .ok (.ireturn, 1) := dk_172 (dk_at dksX6_messagesFailed_0 7 rfl rfl)
abbrev cX6_messagesDropped : ByteArray := prog_14_method_138_code
def yX6_messagesDropped : MethodName := ⟨RX6, "messagesDropped", "(I)I"⟩
def dkwX6_messagesDropped_0 : List UInt8 := [42, 27, 16, 20, 182, 1, 158, 172]
abbrev dktX6_messagesDropped_0 : List UInt8 := dkwX6_messagesDropped_0 ++ []
theorem dksX6_messagesDropped_0 : cX6_messagesDropped.data.toList.drop 0 = dktX6_messagesDropped_0 := by decide +kernel
theorem dX6_messagesDropped_0 : decode cX6_messagesDropped 0 = .ok (.aload_n 0, 1) := dk_42 (dk_at dksX6_messagesDropped_0 0 rfl rfl)
theorem dX6_messagesDropped_1 : decode cX6_messagesDropped 1 = .ok (.iload_n 1, 1) := dk_27 (dk_at dksX6_messagesDropped_0 1 rfl rfl)
theorem dX6_messagesDropped_2 : decode cX6_messagesDropped 2 = .ok (.bipush 20, 2) := dk_16 20 (dk_at dksX6_messagesDropped_0 2 rfl rfl)
theorem dX6_messagesDropped_4 : decode cX6_messagesDropped 4 = .ok (.invokevirtual 414, 3) := dk_182 1 158 (dk_at dksX6_messagesDropped_0 4 rfl rfl)
theorem dX6_messagesDropped_7 : decode cX6_messagesDropped 7 = .ok (.ireturn, 1) := dk_172 (dk_at dksX6_messagesDropped_0 7 rfl rfl)
abbrev cX6_twigsPlanted : ByteArray := prog_14_method_139_code
def yX6_twigsPlanted : MethodName := ⟨RX6, "twigsPlanted", "()I"⟩
def dkwX6_twigsPlanted_0 : List UInt8 := [42, 3, 181, 0, 58, 42, 180, 0, 7, 16, 8, 46, 172]
abbrev dktX6_twigsPlanted_0 : List UInt8 := dkwX6_twigsPlanted_0 ++ []
theorem dksX6_twigsPlanted_0 : cX6_twigsPlanted.data.toList.drop 0 = dktX6_twigsPlanted_0 := by decide +kernel
theorem dX6_twigsPlanted_0 : decode cX6_twigsPlanted 0 = .ok (.aload_n 0, 1) := dk_42 (dk_at dksX6_twigsPlanted_0 0 rfl rfl)
theorem dX6_twigsPlanted_1 : decode cX6_twigsPlanted 1 = .ok (.iconst 0, 1) := dk_3 (dk_at dksX6_twigsPlanted_0 1 rfl rfl)
theorem dX6_twigsPlanted_2 : decode cX6_twigsPlanted 2 = .ok (.putfield 58, 3) := dk_181 0 58 (dk_at dksX6_twigsPlanted_0 2 rfl rfl)
theorem dX6_twigsPlanted_5 : decode cX6_twigsPlanted 5 = .ok (.aload_n 0, 1) := dk_42 (dk_at dksX6_twigsPlanted_0 5 rfl rfl)
theorem dX6_twigsPlanted_6 : decode cX6_twigsPlanted 6 = .ok (.getfield 7, 3) := dk_180 0 7 (dk_at dksX6_twigsPlanted_0 6 rfl rfl)
theorem dX6_twigsPlanted_9 : decode cX6_twigsPlanted 9 = .ok (.bipush 8, 2) := dk_16 8 (dk_at dksX6_twigsPlanted_0 9 rfl rfl)
theorem dX6_twigsPlanted_11 : decode cX6_twigsPlanted 11 = .ok (.iaload, 1) := dk_46 (dk_at dksX6_twigsPlanted_0 11 rfl rfl)
theorem dX6_twigsPlanted_12 : decode cX6_twigsPlanted 12 = .ok (.ireturn, 1) := dk_172 (dk_at dksX6_twigsPlanted_0 12 rfl rfl)
abbrev cX6_twigsPruned : ByteArray := prog_14_method_140_code
def yX6_twigsPruned : MethodName := ⟨RX6, "twigsPruned", "()I"⟩
def dkwX6_twigsPruned_0 : List UInt8 := [42, 3, 181, 0, 58, 42, 180, 0, 7, 16, 9, 46, 172]
abbrev dktX6_twigsPruned_0 : List UInt8 := dkwX6_twigsPruned_0 ++ []
theorem dksX6_twigsPruned_0 : cX6_twigsPruned.data.toList.drop 0 = dktX6_twigsPruned_0 := by decide +kernel
theorem dX6_twigsPruned_0 : decode cX6_twigsPruned 0 = .ok (.aload_n 0, 1) := dk_42 (dk_at dksX6_twigsPruned_0 0 rfl rfl)
theorem dX6_twigsPruned_1 : decode cX6_twigsPruned 1 = .ok (.iconst 0, 1) := dk_3 (dk_at dksX6_twigsPruned_0 1 rfl rfl)
theorem dX6_twigsPruned_2 : decode cX6_twigsPruned 2 = .ok (.putfield 58, 3) := dk_181 0 58 (dk_at dksX6_twigsPruned_0 2 rfl rfl)
theorem dX6_twigsPruned_5 : decode cX6_twigsPruned 5 = .ok (.aload_n 0, 1) := dk_42 (dk_at dksX6_twigsPruned_0 5 rfl rfl)
theorem dX6_twigsPruned_6 : decode cX6_twigsPruned 6 = .ok (.getfield 7, 3) := dk_180 0 7 (dk_at dksX6_twigsPruned_0 6 rfl rfl)
theorem dX6_twigsPruned_9 : decode cX6_twigsPruned 9 = .ok (.bipush 9, 2) := dk_16 9 (dk_at dksX6_twigsPruned_0 9 rfl rfl)
theorem dX6_twigsPruned_11 : decode cX6_twigsPruned 11 = .ok (.iaload, 1) := dk_46 (dk_at dksX6_twigsPruned_0 11 rfl rfl)
theorem dX6_twigsPruned_12 : decode cX6_twigsPruned 12 = .ok (.ireturn, 1) := dk_172 (dk_at dksX6_twigsPruned_0 12 rfl rfl)
abbrev cX6_twigsRemoved : ByteArray := prog_14_method_141_code
def yX6_twigsRemoved : MethodName := ⟨RX6, "twigsRemoved", "()I"⟩
def dkwX6_twigsRemoved_0 : List UInt8 := [42, 3, 181, 0, 58, 42, 180, 0, 7, 16, 10, 46, 172]
abbrev dktX6_twigsRemoved_0 : List UInt8 := dkwX6_twigsRemoved_0 ++ []
theorem dksX6_twigsRemoved_0 : cX6_twigsRemoved.data.toList.drop 0 = dktX6_twigsRemoved_0 := by decide +kernel
theorem dX6_twigsRemoved_0 : decode cX6_twigsRemoved 0 = .ok (.aload_n 0, 1) := dk_42 (dk_at dksX6_twigsRemoved_0 0 rfl rfl)
theorem dX6_twigsRemoved_1 : decode cX6_twigsRemoved 1 = .ok (.iconst 0, 1) := dk_3 (dk_at dksX6_twigsRemoved_0 1 rfl rfl)
theorem dX6_twigsRemoved_2 : decode cX6_twigsRemoved 2 = .ok (.putfield 58, 3) := dk_181 0 58 (dk_at dksX6_twigsRemoved_0 2 rfl rfl)
theorem dX6_twigsRemoved_5 : decode cX6_twigsRemoved 5 = .ok (.aload_n 0, 1) := dk_42 (dk_at dksX6_twigsRemoved_0 5 rfl rfl)
theorem dX6_twigsRemoved_6 : decode cX6_twigsRemoved 6 = .ok (.getfield 7, 3) := dk_180 0 7 (dk_at dksX6_twigsRemoved_0 6 rfl rfl)
theorem dX6_twigsRemoved_9 : decode cX6_twigsRemoved 9 = .ok (.bipush 10, 2) := dk_16 10 (dk_at dksX6_twigsRemoved_0 9 rfl rfl)
theorem dX6_twigsRemoved_11 : decode cX6_twigsRemoved 11 = .ok (.iaload, 1) := dk_46 (dk_at dksX6_twigsRemoved_0 11 rfl rfl)
theorem dX6_twigsRemoved_12 : decode cX6_twigsRemoved 12 = .ok (.ireturn, 1) := dk_172 (dk_at dksX6_twigsRemoved_0 12 rfl rfl)
abbrev cX6_twigImbalance : ByteArray := prog_14_method_142_code
def yX6_twigImbalance : MethodName := ⟨RX6, "twigImbalance", "()I"⟩
def dkwX6_twigImbalance_1 : List UInt8 := [16, 10, 46, 100, 42, 182, 0, 197, 100, 172]
abbrev dktX6_twigImbalance_1 : List UInt8 := dkwX6_twigImbalance_1 ++ []
def dkwX6_twigImbalance_0 : List UInt8 := [42, 3, 181, 0, 58, 42, 180, 0, 7, 16, 8, 46, 42, 180, 0, 7, 16, 9, 46, 100, 42, 180, 0, 7]
abbrev dktX6_twigImbalance_0 : List UInt8 := dkwX6_twigImbalance_0 ++ dktX6_twigImbalance_1
theorem dksX6_twigImbalance_0 : cX6_twigImbalance.data.toList.drop 0 = dktX6_twigImbalance_0 := by decide +kernel
theorem dksX6_twigImbalance_1 : cX6_twigImbalance.data.toList.drop 24 = dktX6_twigImbalance_1 := dk_seg dksX6_twigImbalance_0 24 rfl rfl
theorem dX6_twigImbalance_0 : decode cX6_twigImbalance 0 = .ok (.aload_n 0, 1) := dk_42 (dk_at dksX6_twigImbalance_0 0 rfl rfl)
theorem dX6_twigImbalance_1 : decode cX6_twigImbalance 1 = .ok (.iconst 0, 1) := dk_3 (dk_at dksX6_twigImbalance_0 1 rfl rfl)
theorem dX6_twigImbalance_2 : decode cX6_twigImbalance 2 = .ok (.putfield 58, 3) := dk_181 0 58 (dk_at dksX6_twigImbalance_0 2 rfl rfl)
theorem dX6_twigImbalance_5 : decode cX6_twigImbalance 5 = .ok (.aload_n 0, 1) := dk_42 (dk_at dksX6_twigImbalance_0 5 rfl rfl)
theorem dX6_twigImbalance_6 : decode cX6_twigImbalance 6 = .ok (.getfield 7, 3) := dk_180 0 7 (dk_at dksX6_twigImbalance_0 6 rfl rfl)
theorem dX6_twigImbalance_9 : decode cX6_twigImbalance 9 = .ok (.bipush 8, 2) := dk_16 8 (dk_at dksX6_twigImbalance_0 9 rfl rfl)
theorem dX6_twigImbalance_11 : decode cX6_twigImbalance 11 = .ok (.iaload, 1) := dk_46 (dk_at dksX6_twigImbalance_0 11 rfl rfl)
theorem dX6_twigImbalance_12 : decode cX6_twigImbalance 12 = .ok (.aload_n 0, 1) := dk_42 (dk_at dksX6_twigImbalance_0 12 rfl rfl)
theorem dX6_twigImbalance_13 : decode cX6_twigImbalance 13 = .ok (.getfield 7, 3) := dk_180 0 7 (dk_at dksX6_twigImbalance_0 13 rfl rfl)
theorem dX6_twigImbalance_16 : decode cX6_twigImbalance 16 = .ok (.bipush 9, 2) := dk_16 9 (dk_at dksX6_twigImbalance_0 16 rfl rfl)
theorem dX6_twigImbalance_18 : decode cX6_twigImbalance 18 = .ok (.iaload, 1) := dk_46 (dk_at dksX6_twigImbalance_0 18 rfl rfl)
theorem dX6_twigImbalance_19 : decode cX6_twigImbalance 19 = .ok (.isub, 1) := dk_100 (dk_at dksX6_twigImbalance_0 19 rfl rfl)
theorem dX6_twigImbalance_20 : decode cX6_twigImbalance 20 = .ok (.aload_n 0, 1) := dk_42 (dk_at dksX6_twigImbalance_0 20 rfl rfl)
theorem dX6_twigImbalance_21 : decode cX6_twigImbalance 21 = .ok (.getfield 7, 3) := dk_180 0 7 (dk_at dksX6_twigImbalance_0 21 rfl rfl)
theorem dX6_twigImbalance_24 : decode cX6_twigImbalance 24 = .ok (.bipush 10, 2) := dk_16 10 (dk_at dksX6_twigImbalance_1 0 rfl rfl)
theorem dX6_twigImbalance_26 : decode cX6_twigImbalance 26 = .ok (.iaload, 1) := dk_46 (dk_at dksX6_twigImbalance_1 2 rfl rfl)
theorem dX6_twigImbalance_27 : decode cX6_twigImbalance 27 = .ok (.isub, 1) := dk_100 (dk_at dksX6_twigImbalance_1 3 rfl rfl)
theorem dX6_twigImbalance_28 : decode cX6_twigImbalance 28 = .ok (.aload_n 0, 1) := dk_42 (dk_at dksX6_twigImbalance_1 4 rfl rfl)
theorem dX6_twigImbalance_29 : decode cX6_twigImbalance 29 = .ok (.invokevirtual 197, 3) := dk_182 0 197 (dk_at dksX6_twigImbalance_1 5 rfl rfl)
theorem dX6_twigImbalance_32 : decode cX6_twigImbalance 32 = .ok (.isub, 1) := dk_100 (dk_at dksX6_twigImbalance_1 8 rfl rfl)
theorem dX6_twigImbalance_33 : decode cX6_twigImbalance 33 = .ok (.ireturn, 1) := dk_172 (dk_at dksX6_twigImbalance_1 9 rfl rfl)
abbrev cX6_messageImbalance : ByteArray := prog_14_method_143_code
def yX6_messageImbalance : MethodName := ⟨RX6, "messageImbalance", "()I"⟩
def dkwX6_messageImbalance_3 : List UInt8 := [60, 132, 2, 1, 167, 255, 197, 27, 172]
abbrev dktX6_messageImbalance_3 : List UInt8 := dkwX6_messageImbalance_3 ++ []
def dkwX6_messageImbalance_2 : List UInt8 := [28, 96, 46, 100, 42, 180, 0, 7, 16, 12, 28, 96, 46, 100, 42, 28, 182, 0, 134, 184, 0, 80, 100, 96]
abbrev dktX6_messageImbalance_2 : List UInt8 := dkwX6_messageImbalance_2 ++ dktX6_messageImbalance_3
def dkwX6_messageImbalance_1 : List UInt8 := [180, 0, 7, 16, 14, 28, 96, 46, 42, 180, 0, 7, 16, 16, 28, 96, 46, 100, 42, 180, 0, 7, 16, 20]
abbrev dktX6_messageImbalance_1 : List UInt8 := dkwX6_messageImbalance_1 ++ dktX6_messageImbalance_2
def dkwX6_messageImbalance_0 : List UInt8 := [42, 3, 181, 0, 58, 42, 180, 0, 7, 16, 11, 46, 116, 60, 3, 61, 28, 5, 162, 0, 60, 27, 42]
abbrev dktX6_messageImbalance_0 : List UInt8 := dkwX6_messageImbalance_0 ++ dktX6_messageImbalance_1
theorem dksX6_messageImbalance_0 : cX6_messageImbalance.data.toList.drop 0 = dktX6_messageImbalance_0 := by decide +kernel
theorem dksX6_messageImbalance_1 : cX6_messageImbalance.data.toList.drop 23 = dktX6_messageImbalance_1 := dk_seg dksX6_messageImbalance_0 23 rfl rfl
theorem dksX6_messageImbalance_2 : cX6_messageImbalance.data.toList.drop 47 = dktX6_messageImbalance_2 := dk_seg dksX6_messageImbalance_1 24 rfl rfl
theorem dksX6_messageImbalance_3 : cX6_messageImbalance.data.toList.drop 71 = dktX6_messageImbalance_3 := dk_seg dksX6_messageImbalance_2 24 rfl rfl
theorem dX6_messageImbalance_0 : decode cX6_messageImbalance 0 = .ok (.aload_n 0, 1) := dk_42 (dk_at dksX6_messageImbalance_0 0 rfl rfl)
theorem dX6_messageImbalance_1 : decode cX6_messageImbalance 1 = .ok (.iconst 0, 1) := dk_3 (dk_at dksX6_messageImbalance_0 1 rfl rfl)
theorem dX6_messageImbalance_2 : decode cX6_messageImbalance 2 = .ok (.putfield 58, 3) := dk_181 0 58 (dk_at dksX6_messageImbalance_0 2 rfl rfl)
theorem dX6_messageImbalance_5 : decode cX6_messageImbalance 5 = .ok (.aload_n 0, 1) := dk_42 (dk_at dksX6_messageImbalance_0 5 rfl rfl)
theorem dX6_messageImbalance_6 : decode cX6_messageImbalance 6 = .ok (.getfield 7, 3) := dk_180 0 7 (dk_at dksX6_messageImbalance_0 6 rfl rfl)
theorem dX6_messageImbalance_9 : decode cX6_messageImbalance 9 = .ok (.bipush 11, 2) := dk_16 11 (dk_at dksX6_messageImbalance_0 9 rfl rfl)
theorem dX6_messageImbalance_11 : decode cX6_messageImbalance 11 = .ok (.iaload, 1) := dk_46 (dk_at dksX6_messageImbalance_0 11 rfl rfl)
theorem dX6_messageImbalance_12 : decode cX6_messageImbalance 12 = .ok (.ineg, 1) := dk_116 (dk_at dksX6_messageImbalance_0 12 rfl rfl)
theorem dX6_messageImbalance_13 : decode cX6_messageImbalance 13 = .ok (.istore_n 1, 1) := dk_60 (dk_at dksX6_messageImbalance_0 13 rfl rfl)
theorem dX6_messageImbalance_14 : decode cX6_messageImbalance 14 = .ok (.iconst 0, 1) := dk_3 (dk_at dksX6_messageImbalance_0 14 rfl rfl)
theorem dX6_messageImbalance_15 : decode cX6_messageImbalance 15 = .ok (.istore_n 2, 1) := dk_61 (dk_at dksX6_messageImbalance_0 15 rfl rfl)
theorem dX6_messageImbalance_16 : decode cX6_messageImbalance 16 = .ok (.iload_n 2, 1) := dk_28 (dk_at dksX6_messageImbalance_0 16 rfl rfl)
theorem dX6_messageImbalance_17 : decode cX6_messageImbalance 17 = .ok (.iconst 2, 1) := dk_5 (dk_at dksX6_messageImbalance_0 17 rfl rfl)
theorem dX6_messageImbalance_18 : decode cX6_messageImbalance 18 = .ok (.if_icmp .ge 60, 3) := dk_162 0 60 (dk_at dksX6_messageImbalance_0 18 rfl rfl)
theorem dX6_messageImbalance_21 : decode cX6_messageImbalance 21 = .ok (.iload_n 1, 1) := dk_27 (dk_at dksX6_messageImbalance_0 21 rfl rfl)
theorem dX6_messageImbalance_22 : decode cX6_messageImbalance 22 = .ok (.aload_n 0, 1) := dk_42 (dk_at dksX6_messageImbalance_0 22 rfl rfl)
theorem dX6_messageImbalance_23 : decode cX6_messageImbalance 23 = .ok (.getfield 7, 3) := dk_180 0 7 (dk_at dksX6_messageImbalance_1 0 rfl rfl)
theorem dX6_messageImbalance_26 : decode cX6_messageImbalance 26 = .ok (.bipush 14, 2) := dk_16 14 (dk_at dksX6_messageImbalance_1 3 rfl rfl)
theorem dX6_messageImbalance_28 : decode cX6_messageImbalance 28 = .ok (.iload_n 2, 1) := dk_28 (dk_at dksX6_messageImbalance_1 5 rfl rfl)
theorem dX6_messageImbalance_29 : decode cX6_messageImbalance 29 = .ok (.iadd, 1) := dk_96 (dk_at dksX6_messageImbalance_1 6 rfl rfl)
theorem dX6_messageImbalance_30 : decode cX6_messageImbalance 30 = .ok (.iaload, 1) := dk_46 (dk_at dksX6_messageImbalance_1 7 rfl rfl)
theorem dX6_messageImbalance_31 : decode cX6_messageImbalance 31 = .ok (.aload_n 0, 1) := dk_42 (dk_at dksX6_messageImbalance_1 8 rfl rfl)
theorem dX6_messageImbalance_32 : decode cX6_messageImbalance 32 = .ok (.getfield 7, 3) := dk_180 0 7 (dk_at dksX6_messageImbalance_1 9 rfl rfl)
theorem dX6_messageImbalance_35 : decode cX6_messageImbalance 35 = .ok (.bipush 16, 2) := dk_16 16 (dk_at dksX6_messageImbalance_1 12 rfl rfl)
theorem dX6_messageImbalance_37 : decode cX6_messageImbalance 37 = .ok (.iload_n 2, 1) := dk_28 (dk_at dksX6_messageImbalance_1 14 rfl rfl)
theorem dX6_messageImbalance_38 : decode cX6_messageImbalance 38 = .ok (.iadd, 1) := dk_96 (dk_at dksX6_messageImbalance_1 15 rfl rfl)
theorem dX6_messageImbalance_39 : decode cX6_messageImbalance 39 = .ok (.iaload, 1) := dk_46 (dk_at dksX6_messageImbalance_1 16 rfl rfl)
theorem dX6_messageImbalance_40 : decode cX6_messageImbalance 40 = .ok (.isub, 1) := dk_100 (dk_at dksX6_messageImbalance_1 17 rfl rfl)
theorem dX6_messageImbalance_41 : decode cX6_messageImbalance 41 = .ok (.aload_n 0, 1) := dk_42 (dk_at dksX6_messageImbalance_1 18 rfl rfl)
theorem dX6_messageImbalance_42 : decode cX6_messageImbalance 42 = .ok (.getfield 7, 3) := dk_180 0 7 (dk_at dksX6_messageImbalance_1 19 rfl rfl)
theorem dX6_messageImbalance_45 : decode cX6_messageImbalance 45 = .ok (.bipush 20, 2) := dk_16 20 (dk_at dksX6_messageImbalance_1 22 rfl rfl)
theorem dX6_messageImbalance_47 : decode cX6_messageImbalance 47 = .ok (.iload_n 2, 1) := dk_28 (dk_at dksX6_messageImbalance_2 0 rfl rfl)
theorem dX6_messageImbalance_48 : decode cX6_messageImbalance 48 = .ok (.iadd, 1) := dk_96 (dk_at dksX6_messageImbalance_2 1 rfl rfl)
theorem dX6_messageImbalance_49 : decode cX6_messageImbalance 49 = .ok (.iaload, 1) := dk_46 (dk_at dksX6_messageImbalance_2 2 rfl rfl)
theorem dX6_messageImbalance_50 : decode cX6_messageImbalance 50 = .ok (.isub, 1) := dk_100 (dk_at dksX6_messageImbalance_2 3 rfl rfl)
theorem dX6_messageImbalance_51 : decode cX6_messageImbalance 51 = .ok (.aload_n 0, 1) := dk_42 (dk_at dksX6_messageImbalance_2 4 rfl rfl)
theorem dX6_messageImbalance_52 : decode cX6_messageImbalance 52 = .ok (.getfield 7, 3) := dk_180 0 7 (dk_at dksX6_messageImbalance_2 5 rfl rfl)
theorem dX6_messageImbalance_55 : decode cX6_messageImbalance 55 = .ok (.bipush 12, 2) := dk_16 12 (dk_at dksX6_messageImbalance_2 8 rfl rfl)
theorem dX6_messageImbalance_57 : decode cX6_messageImbalance 57 = .ok (.iload_n 2, 1) := dk_28 (dk_at dksX6_messageImbalance_2 10 rfl rfl)
theorem dX6_messageImbalance_58 : decode cX6_messageImbalance 58 = .ok (.iadd, 1) := dk_96 (dk_at dksX6_messageImbalance_2 11 rfl rfl)
theorem dX6_messageImbalance_59 : decode cX6_messageImbalance 59 = .ok (.iaload, 1) := dk_46 (dk_at dksX6_messageImbalance_2 12 rfl rfl)
theorem dX6_messageImbalance_60 : decode cX6_messageImbalance 60 = .ok (.isub, 1) := dk_100 (dk_at dksX6_messageImbalance_2 13 rfl rfl)
theorem dX6_messageImbalance_61 : decode cX6_messageImbalance 61 = .ok (.aload_n 0, 1) := dk_42 (dk_at dksX6_messageImbalance_2 14 rfl rfl)
theorem dX6_messageImbalance_62 : decode cX6_messageImbalance 62 = .ok (.iload_n 2, 1) := dk_28 (dk_at dksX6_messageImbalance_2 15 rfl rfl)
theorem dX6_messageImbalance_63 : decode cX6_messageImbalance 63 = .ok (.invokevirtual 134, 3) := dk_182 0 134 (dk_at dksX6_messageImbalance_2 16 rfl rfl)
theorem dX6_messageImbalance_66 : decode cX6_messageImbalance 66 = .ok (.invokestatic 80, 3) := dk_184 0 80 (dk_at dksX6_messageImbalance_2 19 rfl rfl)
theorem dX6_messageImbalance_69 : decode cX6_messageImbalance 69 = .ok (.isub, 1) := dk_100 (dk_at dksX6_messageImbalance_2 22 rfl rfl)
theorem dX6_messageImbalance_70 : decode cX6_messageImbalance 70 = .ok (.iadd, 1) := dk_96 (dk_at dksX6_messageImbalance_2 23 rfl rfl)
theorem dX6_messageImbalance_71 : decode cX6_messageImbalance 71 = .ok (.istore_n 1, 1) := dk_60 (dk_at dksX6_messageImbalance_3 0 rfl rfl)
theorem dX6_messageImbalance_72 : decode cX6_messageImbalance 72 = .ok (.iinc 2 1, 3) := dk_132 2 1 (dk_at dksX6_messageImbalance_3 1 rfl rfl)
theorem dX6_messageImbalance_75 : decode cX6_messageImbalance 75 = .ok (.goto (-59), 3) := dk_167 255 197 (dk_at dksX6_messageImbalance_3 4 rfl rfl)
theorem dX6_messageImbalance_78 : decode cX6_messageImbalance 78 = .ok (.iload_n 1, 1) := dk_27 (dk_at dksX6_messageImbalance_3 7 rfl rfl)
theorem dX6_messageImbalance_79 : decode cX6_messageImbalance 79 = .ok (.ireturn, 1) := dk_172 (dk_at dksX6_messageImbalance_3 8 rfl rfl)
abbrev cX6_wrongLetters : ByteArray := prog_14_method_145_code
def yX6_wrongLetters : MethodName := ⟨RX6, "wrongLetters", "()I"⟩
def dkwX6_wrongLetters_4 : List UInt8 := [182, 1, 161, 96, 60, 132, 2, 1, 167, 255, 214, 27, 172]
abbrev dktX6_wrongLetters_4 : List UInt8 := dkwX6_wrongLetters_4 ++ []
def dkwX6_wrongLetters_3 : List UInt8 := [184, 0, 95, 62, 27, 42, 29, 42, 180, 0, 7, 29, 46, 42, 180, 0, 7, 29, 16, 14, 96, 46]
abbrev dktX6_wrongLetters_3 : List UInt8 := dkwX6_wrongLetters_3 ++ dktX6_wrongLetters_4
def dkwX6_wrongLetters_2 : List UInt8 := [3, 96, 60, 132, 2, 1, 167, 255, 213, 3, 61, 28, 42, 180, 0, 7, 16, 11, 46, 162, 0, 37, 28]
abbrev dktX6_wrongLetters_2 : List UInt8 := dkwX6_wrongLetters_2 ++ dktX6_wrongLetters_3
def dkwX6_wrongLetters_1 : List UInt8 := [182, 0, 134, 153, 0, 21, 42, 29, 42, 180, 0, 7, 29, 16, 14, 96, 46, 28, 182, 1, 161, 167, 0, 4]
abbrev dktX6_wrongLetters_1 : List UInt8 := dkwX6_wrongLetters_1 ++ dktX6_wrongLetters_2
def dkwX6_wrongLetters_0 : List UInt8 := [42, 3, 181, 0, 58, 3, 60, 3, 61, 28, 5, 162, 0, 44, 28, 184, 0, 91, 62, 27, 42, 28]
abbrev dktX6_wrongLetters_0 : List UInt8 := dkwX6_wrongLetters_0 ++ dktX6_wrongLetters_1
theorem dksX6_wrongLetters_0 : cX6_wrongLetters.data.toList.drop 0 = dktX6_wrongLetters_0 := by decide +kernel
theorem dksX6_wrongLetters_1 : cX6_wrongLetters.data.toList.drop 22 = dktX6_wrongLetters_1 := dk_seg dksX6_wrongLetters_0 22 rfl rfl
theorem dksX6_wrongLetters_2 : cX6_wrongLetters.data.toList.drop 46 = dktX6_wrongLetters_2 := dk_seg dksX6_wrongLetters_1 24 rfl rfl
theorem dksX6_wrongLetters_3 : cX6_wrongLetters.data.toList.drop 69 = dktX6_wrongLetters_3 := dk_seg dksX6_wrongLetters_2 23 rfl rfl
theorem dksX6_wrongLetters_4 : cX6_wrongLetters.data.toList.drop 91 = dktX6_wrongLetters_4 := dk_seg dksX6_wrongLetters_3 22 rfl rfl
theorem dX6_wrongLetters_0 : decode cX6_wrongLetters 0 = .ok (.aload_n 0, 1) := dk_42 (dk_at dksX6_wrongLetters_0 0 rfl rfl)
theorem dX6_wrongLetters_1 : decode cX6_wrongLetters 1 = .ok (.iconst 0, 1) := dk_3 (dk_at dksX6_wrongLetters_0 1 rfl rfl)
theorem dX6_wrongLetters_2 : decode cX6_wrongLetters 2 = .ok (.putfield 58, 3) := dk_181 0 58 (dk_at dksX6_wrongLetters_0 2 rfl rfl)
theorem dX6_wrongLetters_5 : decode cX6_wrongLetters 5 = .ok (.iconst 0, 1) := dk_3 (dk_at dksX6_wrongLetters_0 5 rfl rfl)
theorem dX6_wrongLetters_6 : decode cX6_wrongLetters 6 = .ok (.istore_n 1, 1) := dk_60 (dk_at dksX6_wrongLetters_0 6 rfl rfl)
theorem dX6_wrongLetters_7 : decode cX6_wrongLetters 7 = .ok (.iconst 0, 1) := dk_3 (dk_at dksX6_wrongLetters_0 7 rfl rfl)
theorem dX6_wrongLetters_8 : decode cX6_wrongLetters 8 = .ok (.istore_n 2, 1) := dk_61 (dk_at dksX6_wrongLetters_0 8 rfl rfl)
theorem dX6_wrongLetters_9 : decode cX6_wrongLetters 9 = .ok (.iload_n 2, 1) := dk_28 (dk_at dksX6_wrongLetters_0 9 rfl rfl)
theorem dX6_wrongLetters_10 : decode cX6_wrongLetters 10 = .ok (.iconst 2, 1) := dk_5 (dk_at dksX6_wrongLetters_0 10 rfl rfl)
theorem dX6_wrongLetters_11 : decode cX6_wrongLetters 11 = .ok (.if_icmp .ge 44, 3) := dk_162 0 44 (dk_at dksX6_wrongLetters_0 11 rfl rfl)
theorem dX6_wrongLetters_14 : decode cX6_wrongLetters 14 = .ok (.iload_n 2, 1) := dk_28 (dk_at dksX6_wrongLetters_0 14 rfl rfl)
theorem dX6_wrongLetters_15 : decode cX6_wrongLetters 15 = .ok (.invokestatic 91, 3) := dk_184 0 91 (dk_at dksX6_wrongLetters_0 15 rfl rfl)
theorem dX6_wrongLetters_18 : decode cX6_wrongLetters 18 = .ok (.istore_n 3, 1) := dk_62 (dk_at dksX6_wrongLetters_0 18 rfl rfl)
theorem dX6_wrongLetters_19 : decode cX6_wrongLetters 19 = .ok (.iload_n 1, 1) := dk_27 (dk_at dksX6_wrongLetters_0 19 rfl rfl)
theorem dX6_wrongLetters_20 : decode cX6_wrongLetters 20 = .ok (.aload_n 0, 1) := dk_42 (dk_at dksX6_wrongLetters_0 20 rfl rfl)
theorem dX6_wrongLetters_21 : decode cX6_wrongLetters 21 = .ok (.iload_n 2, 1) := dk_28 (dk_at dksX6_wrongLetters_0 21 rfl rfl)
theorem dX6_wrongLetters_22 : decode cX6_wrongLetters 22 = .ok (.invokevirtual 134, 3) := dk_182 0 134 (dk_at dksX6_wrongLetters_1 0 rfl rfl)
theorem dX6_wrongLetters_25 : decode cX6_wrongLetters 25 = .ok (.ifCond .eq 21, 3) := dk_153 0 21 (dk_at dksX6_wrongLetters_1 3 rfl rfl)
theorem dX6_wrongLetters_28 : decode cX6_wrongLetters 28 = .ok (.aload_n 0, 1) := dk_42 (dk_at dksX6_wrongLetters_1 6 rfl rfl)
theorem dX6_wrongLetters_29 : decode cX6_wrongLetters 29 = .ok (.iload_n 3, 1) := dk_29 (dk_at dksX6_wrongLetters_1 7 rfl rfl)
theorem dX6_wrongLetters_30 : decode cX6_wrongLetters 30 = .ok (.aload_n 0, 1) := dk_42 (dk_at dksX6_wrongLetters_1 8 rfl rfl)
theorem dX6_wrongLetters_31 : decode cX6_wrongLetters 31 = .ok (.getfield 7, 3) := dk_180 0 7 (dk_at dksX6_wrongLetters_1 9 rfl rfl)
theorem dX6_wrongLetters_34 : decode cX6_wrongLetters 34 = .ok (.iload_n 3, 1) := dk_29 (dk_at dksX6_wrongLetters_1 12 rfl rfl)
theorem dX6_wrongLetters_35 : decode cX6_wrongLetters 35 = .ok (.bipush 14, 2) := dk_16 14 (dk_at dksX6_wrongLetters_1 13 rfl rfl)
theorem dX6_wrongLetters_37 : decode cX6_wrongLetters 37 = .ok (.iadd, 1) := dk_96 (dk_at dksX6_wrongLetters_1 15 rfl rfl)
theorem dX6_wrongLetters_38 : decode cX6_wrongLetters 38 = .ok (.iaload, 1) := dk_46 (dk_at dksX6_wrongLetters_1 16 rfl rfl)
theorem dX6_wrongLetters_39 : decode cX6_wrongLetters 39 = .ok (.iload_n 2, 1) := dk_28 (dk_at dksX6_wrongLetters_1 17 rfl rfl)
theorem dX6_wrongLetters_40 : decode cX6_wrongLetters 40 = .ok (.invokevirtual 417, 3) := dk_182 1 161 (dk_at dksX6_wrongLetters_1 18 rfl rfl)
theorem dX6_wrongLetters_43 : decode cX6_wrongLetters 43 = .ok (.goto 4, 3) := dk_167 0 4 (dk_at dksX6_wrongLetters_1 21 rfl rfl)
theorem dX6_wrongLetters_46 : decode cX6_wrongLetters 46 = .ok (.iconst 0, 1) := dk_3 (dk_at dksX6_wrongLetters_2 0 rfl rfl)
theorem dX6_wrongLetters_47 : decode cX6_wrongLetters 47 = .ok (.iadd, 1) := dk_96 (dk_at dksX6_wrongLetters_2 1 rfl rfl)
theorem dX6_wrongLetters_48 : decode cX6_wrongLetters 48 = .ok (.istore_n 1, 1) := dk_60 (dk_at dksX6_wrongLetters_2 2 rfl rfl)
theorem dX6_wrongLetters_49 : decode cX6_wrongLetters 49 = .ok (.iinc 2 1, 3) := dk_132 2 1 (dk_at dksX6_wrongLetters_2 3 rfl rfl)
theorem dX6_wrongLetters_52 : decode cX6_wrongLetters 52 = .ok (.goto (-43), 3) := dk_167 255 213 (dk_at dksX6_wrongLetters_2 6 rfl rfl)
theorem dX6_wrongLetters_55 : decode cX6_wrongLetters 55 = .ok (.iconst 0, 1) := dk_3 (dk_at dksX6_wrongLetters_2 9 rfl rfl)
theorem dX6_wrongLetters_56 : decode cX6_wrongLetters 56 = .ok (.istore_n 2, 1) := dk_61 (dk_at dksX6_wrongLetters_2 10 rfl rfl)
theorem dX6_wrongLetters_57 : decode cX6_wrongLetters 57 = .ok (.iload_n 2, 1) := dk_28 (dk_at dksX6_wrongLetters_2 11 rfl rfl)
theorem dX6_wrongLetters_58 : decode cX6_wrongLetters 58 = .ok (.aload_n 0, 1) := dk_42 (dk_at dksX6_wrongLetters_2 12 rfl rfl)
theorem dX6_wrongLetters_59 : decode cX6_wrongLetters 59 = .ok (.getfield 7, 3) := dk_180 0 7 (dk_at dksX6_wrongLetters_2 13 rfl rfl)
theorem dX6_wrongLetters_62 : decode cX6_wrongLetters 62 = .ok (.bipush 11, 2) := dk_16 11 (dk_at dksX6_wrongLetters_2 16 rfl rfl)
theorem dX6_wrongLetters_64 : decode cX6_wrongLetters 64 = .ok (.iaload, 1) := dk_46 (dk_at dksX6_wrongLetters_2 18 rfl rfl)
theorem dX6_wrongLetters_65 : decode cX6_wrongLetters 65 = .ok (.if_icmp .ge 37, 3) := dk_162 0 37 (dk_at dksX6_wrongLetters_2 19 rfl rfl)
theorem dX6_wrongLetters_68 : decode cX6_wrongLetters 68 = .ok (.iload_n 2, 1) := dk_28 (dk_at dksX6_wrongLetters_2 22 rfl rfl)
theorem dX6_wrongLetters_69 : decode cX6_wrongLetters 69 = .ok (.invokestatic 95, 3) := dk_184 0 95 (dk_at dksX6_wrongLetters_3 0 rfl rfl)
theorem dX6_wrongLetters_72 : decode cX6_wrongLetters 72 = .ok (.istore_n 3, 1) := dk_62 (dk_at dksX6_wrongLetters_3 3 rfl rfl)
theorem dX6_wrongLetters_73 : decode cX6_wrongLetters 73 = .ok (.iload_n 1, 1) := dk_27 (dk_at dksX6_wrongLetters_3 4 rfl rfl)
theorem dX6_wrongLetters_74 : decode cX6_wrongLetters 74 = .ok (.aload_n 0, 1) := dk_42 (dk_at dksX6_wrongLetters_3 5 rfl rfl)
theorem dX6_wrongLetters_75 : decode cX6_wrongLetters 75 = .ok (.iload_n 3, 1) := dk_29 (dk_at dksX6_wrongLetters_3 6 rfl rfl)
theorem dX6_wrongLetters_76 : decode cX6_wrongLetters 76 = .ok (.aload_n 0, 1) := dk_42 (dk_at dksX6_wrongLetters_3 7 rfl rfl)
theorem dX6_wrongLetters_77 : decode cX6_wrongLetters 77 = .ok (.getfield 7, 3) := dk_180 0 7 (dk_at dksX6_wrongLetters_3 8 rfl rfl)
theorem dX6_wrongLetters_80 : decode cX6_wrongLetters 80 = .ok (.iload_n 3, 1) := dk_29 (dk_at dksX6_wrongLetters_3 11 rfl rfl)
theorem dX6_wrongLetters_81 : decode cX6_wrongLetters 81 = .ok (.iaload, 1) := dk_46 (dk_at dksX6_wrongLetters_3 12 rfl rfl)
theorem dX6_wrongLetters_82 : decode cX6_wrongLetters 82 = .ok (.aload_n 0, 1) := dk_42 (dk_at dksX6_wrongLetters_3 13 rfl rfl)
theorem dX6_wrongLetters_83 : decode cX6_wrongLetters 83 = .ok (.getfield 7, 3) := dk_180 0 7 (dk_at dksX6_wrongLetters_3 14 rfl rfl)
theorem dX6_wrongLetters_86 : decode cX6_wrongLetters 86 = .ok (.iload_n 3, 1) := dk_29 (dk_at dksX6_wrongLetters_3 17 rfl rfl)
theorem dX6_wrongLetters_87 : decode cX6_wrongLetters 87 = .ok (.bipush 14, 2) := dk_16 14 (dk_at dksX6_wrongLetters_3 18 rfl rfl)
theorem dX6_wrongLetters_89 : decode cX6_wrongLetters 89 = .ok (.iadd, 1) := dk_96 (dk_at dksX6_wrongLetters_3 20 rfl rfl)
theorem dX6_wrongLetters_90 : decode cX6_wrongLetters 90 = .ok (.iaload, 1) := dk_46 (dk_at dksX6_wrongLetters_3 21 rfl rfl)
theorem dX6_wrongLetters_91 : decode cX6_wrongLetters 91 = .ok (.invokevirtual 417, 3) := dk_182 1 161 (dk_at dksX6_wrongLetters_4 0 rfl rfl)
theorem dX6_wrongLetters_94 : decode cX6_wrongLetters 94 = .ok (.iadd, 1) := dk_96 (dk_at dksX6_wrongLetters_4 3 rfl rfl)
theorem dX6_wrongLetters_95 : decode cX6_wrongLetters 95 = .ok (.istore_n 1, 1) := dk_60 (dk_at dksX6_wrongLetters_4 4 rfl rfl)
theorem dX6_wrongLetters_96 : decode cX6_wrongLetters 96 = .ok (.iinc 2 1, 3) := dk_132 2 1 (dk_at dksX6_wrongLetters_4 5 rfl rfl)
theorem dX6_wrongLetters_99 : decode cX6_wrongLetters 99 = .ok (.goto (-42), 3) := dk_167 255 214 (dk_at dksX6_wrongLetters_4 8 rfl rfl)
theorem dX6_wrongLetters_102 : decode cX6_wrongLetters 102 = .ok (.iload_n 1, 1) := dk_27 (dk_at dksX6_wrongLetters_4 11 rfl rfl)
theorem dX6_wrongLetters_103 : decode cX6_wrongLetters 103 = .ok (.ireturn, 1) := dk_172 (dk_at dksX6_wrongLetters_4 12 rfl rfl)
abbrev cX6_wrongIn : ByteArray := prog_14_method_144_code
def yX6_wrongIn : MethodName := ⟨RX6, "wrongIn", "(III)I"⟩
def dkwX6_wrongIn_3 : List UInt8 := [54, 4, 132, 5, 1, 167, 255, 188, 21, 4, 172]
abbrev dktX6_wrongIn_3 : List UInt8 := dkwX6_wrongIn_3 ++ []
def dkwX6_wrongIn_2 : List UInt8 := [160, 0, 14, 42, 21, 6, 4, 182, 0, 69, 29, 159, 0, 7, 4, 167, 0, 4, 3, 184, 0, 80, 96]
abbrev dktX6_wrongIn_2 : List UInt8 := dkwX6_wrongIn_2 ++ dktX6_wrongIn_3
def dkwX6_wrongIn_1 : List UInt8 := [54, 6, 21, 4, 42, 21, 6, 3, 182, 0, 69, 42, 180, 0, 7, 27, 4, 96, 21, 5, 96, 46]
abbrev dktX6_wrongIn_1 : List UInt8 := dkwX6_wrongIn_1 ++ dktX6_wrongIn_2
def dkwX6_wrongIn_0 : List UInt8 := [3, 54, 4, 3, 54, 5, 21, 5, 28, 162, 0, 68, 42, 180, 0, 7, 27, 16, 13, 96, 46, 21, 5, 96]
abbrev dktX6_wrongIn_0 : List UInt8 := dkwX6_wrongIn_0 ++ dktX6_wrongIn_1
theorem dksX6_wrongIn_0 : cX6_wrongIn.data.toList.drop 0 = dktX6_wrongIn_0 := by decide +kernel
theorem dksX6_wrongIn_1 : cX6_wrongIn.data.toList.drop 24 = dktX6_wrongIn_1 := dk_seg dksX6_wrongIn_0 24 rfl rfl
theorem dksX6_wrongIn_2 : cX6_wrongIn.data.toList.drop 46 = dktX6_wrongIn_2 := dk_seg dksX6_wrongIn_1 22 rfl rfl
theorem dksX6_wrongIn_3 : cX6_wrongIn.data.toList.drop 69 = dktX6_wrongIn_3 := dk_seg dksX6_wrongIn_2 23 rfl rfl
theorem dX6_wrongIn_0 : decode cX6_wrongIn 0 = .ok (.iconst 0, 1) := dk_3 (dk_at dksX6_wrongIn_0 0 rfl rfl)
theorem dX6_wrongIn_1 : decode cX6_wrongIn 1 = .ok (.istore 4, 2) := dk_54 4 (dk_at dksX6_wrongIn_0 1 rfl rfl)
theorem dX6_wrongIn_3 : decode cX6_wrongIn 3 = .ok (.iconst 0, 1) := dk_3 (dk_at dksX6_wrongIn_0 3 rfl rfl)
theorem dX6_wrongIn_4 : decode cX6_wrongIn 4 = .ok (.istore 5, 2) := dk_54 5 (dk_at dksX6_wrongIn_0 4 rfl rfl)
theorem dX6_wrongIn_6 : decode cX6_wrongIn 6 = .ok (.iload 5, 2) := dk_21 5 (dk_at dksX6_wrongIn_0 6 rfl rfl)
theorem dX6_wrongIn_8 : decode cX6_wrongIn 8 = .ok (.iload_n 2, 1) := dk_28 (dk_at dksX6_wrongIn_0 8 rfl rfl)
theorem dX6_wrongIn_9 : decode cX6_wrongIn 9 = .ok (.if_icmp .ge 68, 3) := dk_162 0 68 (dk_at dksX6_wrongIn_0 9 rfl rfl)
theorem dX6_wrongIn_12 : decode cX6_wrongIn 12 = .ok (.aload_n 0, 1) := dk_42 (dk_at dksX6_wrongIn_0 12 rfl rfl)
theorem dX6_wrongIn_13 : decode cX6_wrongIn 13 = .ok (.getfield 7, 3) := dk_180 0 7 (dk_at dksX6_wrongIn_0 13 rfl rfl)
theorem dX6_wrongIn_16 : decode cX6_wrongIn 16 = .ok (.iload_n 1, 1) := dk_27 (dk_at dksX6_wrongIn_0 16 rfl rfl)
theorem dX6_wrongIn_17 : decode cX6_wrongIn 17 = .ok (.bipush 13, 2) := dk_16 13 (dk_at dksX6_wrongIn_0 17 rfl rfl)
theorem dX6_wrongIn_19 : decode cX6_wrongIn 19 = .ok (.iadd, 1) := dk_96 (dk_at dksX6_wrongIn_0 19 rfl rfl)
theorem dX6_wrongIn_20 : decode cX6_wrongIn 20 = .ok (.iaload, 1) := dk_46 (dk_at dksX6_wrongIn_0 20 rfl rfl)
theorem dX6_wrongIn_21 : decode cX6_wrongIn 21 = .ok (.iload 5, 2) := dk_21 5 (dk_at dksX6_wrongIn_0 21 rfl rfl)
theorem dX6_wrongIn_23 : decode cX6_wrongIn 23 = .ok (.iadd, 1) := dk_96 (dk_at dksX6_wrongIn_0 23 rfl rfl)
theorem dX6_wrongIn_24 : decode cX6_wrongIn 24 = .ok (.istore 6, 2) := dk_54 6 (dk_at dksX6_wrongIn_1 0 rfl rfl)
theorem dX6_wrongIn_26 : decode cX6_wrongIn 26 = .ok (.iload 4, 2) := dk_21 4 (dk_at dksX6_wrongIn_1 2 rfl rfl)
theorem dX6_wrongIn_28 : decode cX6_wrongIn 28 = .ok (.aload_n 0, 1) := dk_42 (dk_at dksX6_wrongIn_1 4 rfl rfl)
theorem dX6_wrongIn_29 : decode cX6_wrongIn 29 = .ok (.iload 6, 2) := dk_21 6 (dk_at dksX6_wrongIn_1 5 rfl rfl)
theorem dX6_wrongIn_31 : decode cX6_wrongIn 31 = .ok (.iconst 0, 1) := dk_3 (dk_at dksX6_wrongIn_1 7 rfl rfl)
theorem dX6_wrongIn_32 : decode cX6_wrongIn 32 = .ok (.invokevirtual 69, 3) := dk_182 0 69 (dk_at dksX6_wrongIn_1 8 rfl rfl)
theorem dX6_wrongIn_35 : decode cX6_wrongIn 35 = .ok (.aload_n 0, 1) := dk_42 (dk_at dksX6_wrongIn_1 11 rfl rfl)
theorem dX6_wrongIn_36 : decode cX6_wrongIn 36 = .ok (.getfield 7, 3) := dk_180 0 7 (dk_at dksX6_wrongIn_1 12 rfl rfl)
theorem dX6_wrongIn_39 : decode cX6_wrongIn 39 = .ok (.iload_n 1, 1) := dk_27 (dk_at dksX6_wrongIn_1 15 rfl rfl)
theorem dX6_wrongIn_40 : decode cX6_wrongIn 40 = .ok (.iconst 1, 1) := dk_4 (dk_at dksX6_wrongIn_1 16 rfl rfl)
theorem dX6_wrongIn_41 : decode cX6_wrongIn 41 = .ok (.iadd, 1) := dk_96 (dk_at dksX6_wrongIn_1 17 rfl rfl)
theorem dX6_wrongIn_42 : decode cX6_wrongIn 42 = .ok (.iload 5, 2) := dk_21 5 (dk_at dksX6_wrongIn_1 18 rfl rfl)
theorem dX6_wrongIn_44 : decode cX6_wrongIn 44 = .ok (.iadd, 1) := dk_96 (dk_at dksX6_wrongIn_1 20 rfl rfl)
theorem dX6_wrongIn_45 : decode cX6_wrongIn 45 = .ok (.iaload, 1) := dk_46 (dk_at dksX6_wrongIn_1 21 rfl rfl)
theorem dX6_wrongIn_46 : decode cX6_wrongIn 46 = .ok (.if_icmp .ne 14, 3) := dk_160 0 14 (dk_at dksX6_wrongIn_2 0 rfl rfl)
theorem dX6_wrongIn_49 : decode cX6_wrongIn 49 = .ok (.aload_n 0, 1) := dk_42 (dk_at dksX6_wrongIn_2 3 rfl rfl)
theorem dX6_wrongIn_50 : decode cX6_wrongIn 50 = .ok (.iload 6, 2) := dk_21 6 (dk_at dksX6_wrongIn_2 4 rfl rfl)
theorem dX6_wrongIn_52 : decode cX6_wrongIn 52 = .ok (.iconst 1, 1) := dk_4 (dk_at dksX6_wrongIn_2 6 rfl rfl)
theorem dX6_wrongIn_53 : decode cX6_wrongIn 53 = .ok (.invokevirtual 69, 3) := dk_182 0 69 (dk_at dksX6_wrongIn_2 7 rfl rfl)
theorem dX6_wrongIn_56 : decode cX6_wrongIn 56 = .ok (.iload_n 3, 1) := dk_29 (dk_at dksX6_wrongIn_2 10 rfl rfl)
theorem dX6_wrongIn_57 : decode cX6_wrongIn 57 = .ok (.if_icmp .eq 7, 3) := dk_159 0 7 (dk_at dksX6_wrongIn_2 11 rfl rfl)
theorem dX6_wrongIn_60 : decode cX6_wrongIn 60 = .ok (.iconst 1, 1) := dk_4 (dk_at dksX6_wrongIn_2 14 rfl rfl)
theorem dX6_wrongIn_61 : decode cX6_wrongIn 61 = .ok (.goto 4, 3) := dk_167 0 4 (dk_at dksX6_wrongIn_2 15 rfl rfl)
theorem dX6_wrongIn_64 : decode cX6_wrongIn 64 = .ok (.iconst 0, 1) := dk_3 (dk_at dksX6_wrongIn_2 18 rfl rfl)
theorem dX6_wrongIn_65 : decode cX6_wrongIn 65 = .ok (.invokestatic 80, 3) := dk_184 0 80 (dk_at dksX6_wrongIn_2 19 rfl rfl)
theorem dX6_wrongIn_68 : decode cX6_wrongIn 68 = .ok (.iadd, 1) := dk_96 (dk_at dksX6_wrongIn_2 22 rfl rfl)
theorem dX6_wrongIn_69 : decode cX6_wrongIn 69 = .ok (.istore 4, 2) := dk_54 4 (dk_at dksX6_wrongIn_3 0 rfl rfl)
theorem dX6_wrongIn_71 : decode cX6_wrongIn 71 = .ok (.iinc 5 1, 3) := dk_132 5 1 (dk_at dksX6_wrongIn_3 2 rfl rfl)
theorem dX6_wrongIn_74 : decode cX6_wrongIn 74 = .ok (.goto (-68), 3) := dk_167 255 188 (dk_at dksX6_wrongIn_3 5 rfl rfl)
theorem dX6_wrongIn_77 : decode cX6_wrongIn 77 = .ok (.iload 4, 2) := dk_21 4 (dk_at dksX6_wrongIn_3 8 rfl rfl)
theorem dX6_wrongIn_79 : decode cX6_wrongIn 79 = .ok (.ireturn, 1) := dk_172 (dk_at dksX6_wrongIn_3 10 rfl rfl)
abbrev cX6_meanLength : ByteArray := prog_14_method_146_code
def yX6_meanLength : MethodName := ⟨RX6, "meanLength", "()F"⟩
def dkwX6_meanLength_2 : List UInt8 := [42, 182, 0, 197, 134, 110, 174]
abbrev dktX6_meanLength_2 : List UInt8 := dkwX6_meanLength_2 ++ []
def dkwX6_meanLength_1 : List UInt8 := [182, 0, 69, 96, 60, 132, 2, 1, 167, 255, 234, 42, 182, 0, 197, 154, 0, 7, 11, 167, 0, 11, 27, 134]
abbrev dktX6_meanLength_1 : List UInt8 := dkwX6_meanLength_1 ++ dktX6_meanLength_2
def dkwX6_meanLength_0 : List UInt8 := [42, 3, 181, 0, 58, 3, 60, 3, 61, 28, 42, 180, 0, 7, 3, 46, 162, 0, 18, 27, 42, 28, 5]
abbrev dktX6_meanLength_0 : List UInt8 := dkwX6_meanLength_0 ++ dktX6_meanLength_1
theorem dksX6_meanLength_0 : cX6_meanLength.data.toList.drop 0 = dktX6_meanLength_0 := by decide +kernel
theorem dksX6_meanLength_1 : cX6_meanLength.data.toList.drop 23 = dktX6_meanLength_1 := dk_seg dksX6_meanLength_0 23 rfl rfl
theorem dksX6_meanLength_2 : cX6_meanLength.data.toList.drop 47 = dktX6_meanLength_2 := dk_seg dksX6_meanLength_1 24 rfl rfl
theorem dX6_meanLength_0 : decode cX6_meanLength 0 = .ok (.aload_n 0, 1) := dk_42 (dk_at dksX6_meanLength_0 0 rfl rfl)
theorem dX6_meanLength_1 : decode cX6_meanLength 1 = .ok (.iconst 0, 1) := dk_3 (dk_at dksX6_meanLength_0 1 rfl rfl)
theorem dX6_meanLength_2 : decode cX6_meanLength 2 = .ok (.putfield 58, 3) := dk_181 0 58 (dk_at dksX6_meanLength_0 2 rfl rfl)
theorem dX6_meanLength_5 : decode cX6_meanLength 5 = .ok (.iconst 0, 1) := dk_3 (dk_at dksX6_meanLength_0 5 rfl rfl)
theorem dX6_meanLength_6 : decode cX6_meanLength 6 = .ok (.istore_n 1, 1) := dk_60 (dk_at dksX6_meanLength_0 6 rfl rfl)
theorem dX6_meanLength_7 : decode cX6_meanLength 7 = .ok (.iconst 0, 1) := dk_3 (dk_at dksX6_meanLength_0 7 rfl rfl)
theorem dX6_meanLength_8 : decode cX6_meanLength 8 = .ok (.istore_n 2, 1) := dk_61 (dk_at dksX6_meanLength_0 8 rfl rfl)
theorem dX6_meanLength_9 : decode cX6_meanLength 9 = .ok (.iload_n 2, 1) := dk_28 (dk_at dksX6_meanLength_0 9 rfl rfl)
theorem dX6_meanLength_10 : decode cX6_meanLength 10 = .ok (.aload_n 0, 1) := dk_42 (dk_at dksX6_meanLength_0 10 rfl rfl)
theorem dX6_meanLength_11 : decode cX6_meanLength 11 = .ok (.getfield 7, 3) := dk_180 0 7 (dk_at dksX6_meanLength_0 11 rfl rfl)
theorem dX6_meanLength_14 : decode cX6_meanLength 14 = .ok (.iconst 0, 1) := dk_3 (dk_at dksX6_meanLength_0 14 rfl rfl)
theorem dX6_meanLength_15 : decode cX6_meanLength 15 = .ok (.iaload, 1) := dk_46 (dk_at dksX6_meanLength_0 15 rfl rfl)
theorem dX6_meanLength_16 : decode cX6_meanLength 16 = .ok (.if_icmp .ge 18, 3) := dk_162 0 18 (dk_at dksX6_meanLength_0 16 rfl rfl)
theorem dX6_meanLength_19 : decode cX6_meanLength 19 = .ok (.iload_n 1, 1) := dk_27 (dk_at dksX6_meanLength_0 19 rfl rfl)
theorem dX6_meanLength_20 : decode cX6_meanLength 20 = .ok (.aload_n 0, 1) := dk_42 (dk_at dksX6_meanLength_0 20 rfl rfl)
theorem dX6_meanLength_21 : decode cX6_meanLength 21 = .ok (.iload_n 2, 1) := dk_28 (dk_at dksX6_meanLength_0 21 rfl rfl)
theorem dX6_meanLength_22 : decode cX6_meanLength 22 = .ok (.iconst 2, 1) := dk_5 (dk_at dksX6_meanLength_0 22 rfl rfl)
theorem dX6_meanLength_23 : decode cX6_meanLength 23 = .ok (.invokevirtual 69, 3) := dk_182 0 69 (dk_at dksX6_meanLength_1 0 rfl rfl)
theorem dX6_meanLength_26 : decode cX6_meanLength 26 = .ok (.iadd, 1) := dk_96 (dk_at dksX6_meanLength_1 3 rfl rfl)
theorem dX6_meanLength_27 : decode cX6_meanLength 27 = .ok (.istore_n 1, 1) := dk_60 (dk_at dksX6_meanLength_1 4 rfl rfl)
theorem dX6_meanLength_28 : decode cX6_meanLength 28 = .ok (.iinc 2 1, 3) := dk_132 2 1 (dk_at dksX6_meanLength_1 5 rfl rfl)
theorem dX6_meanLength_31 : decode cX6_meanLength 31 = .ok (.goto (-22), 3) := dk_167 255 234 (dk_at dksX6_meanLength_1 8 rfl rfl)
theorem dX6_meanLength_34 : decode cX6_meanLength 34 = .ok (.aload_n 0, 1) := dk_42 (dk_at dksX6_meanLength_1 11 rfl rfl)
theorem dX6_meanLength_35 : decode cX6_meanLength 35 = .ok (.invokevirtual 197, 3) := dk_182 0 197 (dk_at dksX6_meanLength_1 12 rfl rfl)
theorem dX6_meanLength_38 : decode cX6_meanLength 38 = .ok (.ifCond .ne 7, 3) := dk_154 0 7 (dk_at dksX6_meanLength_1 15 rfl rfl)
theorem dX6_meanLength_41 : decode cX6_meanLength 41 = .ok (.fconst 0, 1) := dk_11 (dk_at dksX6_meanLength_1 18 rfl rfl)
theorem dX6_meanLength_42 : decode cX6_meanLength 42 = .ok (.goto 11, 3) := dk_167 0 11 (dk_at dksX6_meanLength_1 19 rfl rfl)
theorem dX6_meanLength_45 : decode cX6_meanLength 45 = .ok (.iload_n 1, 1) := dk_27 (dk_at dksX6_meanLength_1 22 rfl rfl)
theorem dX6_meanLength_46 : decode cX6_meanLength 46 = .ok (.i2f, 1) := dk_134 (dk_at dksX6_meanLength_1 23 rfl rfl)
theorem dX6_meanLength_47 : decode cX6_meanLength 47 = .ok (.aload_n 0, 1) := dk_42 (dk_at dksX6_meanLength_2 0 rfl rfl)
theorem dX6_meanLength_48 : decode cX6_meanLength 48 = .ok (.invokevirtual 197, 3) := dk_182 0 197 (dk_at dksX6_meanLength_2 1 rfl rfl)
theorem dX6_meanLength_51 : decode cX6_meanLength 51 = .ok (.i2f, 1) := dk_134 (dk_at dksX6_meanLength_2 4 rfl rfl)
theorem dX6_meanLength_52 : decode cX6_meanLength 52 = .ok (.fdiv, 1) := dk_110 (dk_at dksX6_meanLength_2 5 rfl rfl)
theorem dX6_meanLength_53 : decode cX6_meanLength 53 = .ok (.freturn, 1) := dk_174 (dk_at dksX6_meanLength_2 6 rfl rfl)
abbrev cX6_occupancy : ByteArray := prog_14_method_147_code
def yX6_occupancy : MethodName := ⟨RX6, "occupancy", "()D"⟩
def dkwX6_occupancy_0 : List UInt8 := [42, 3, 181, 0, 58, 42, 182, 0, 197, 135, 42, 180, 0, 7, 3, 46, 135, 111, 175]
abbrev dktX6_occupancy_0 : List UInt8 := dkwX6_occupancy_0 ++ []
theorem dksX6_occupancy_0 : cX6_occupancy.data.toList.drop 0 = dktX6_occupancy_0 := by decide +kernel
theorem dX6_occupancy_0 : decode cX6_occupancy 0 = .ok (.aload_n 0, 1) := dk_42 (dk_at dksX6_occupancy_0 0 rfl rfl)
theorem dX6_occupancy_1 : decode cX6_occupancy 1 = .ok (.iconst 0, 1) := dk_3 (dk_at dksX6_occupancy_0 1 rfl rfl)
theorem dX6_occupancy_2 : decode cX6_occupancy 2 = .ok (.putfield 58, 3) := dk_181 0 58 (dk_at dksX6_occupancy_0 2 rfl rfl)
theorem dX6_occupancy_5 : decode cX6_occupancy 5 = .ok (.aload_n 0, 1) := dk_42 (dk_at dksX6_occupancy_0 5 rfl rfl)
theorem dX6_occupancy_6 : decode cX6_occupancy 6 = .ok (.invokevirtual 197, 3) := dk_182 0 197 (dk_at dksX6_occupancy_0 6 rfl rfl)
theorem dX6_occupancy_9 : decode cX6_occupancy 9 = .ok (.i2d, 1) := dk_135 (dk_at dksX6_occupancy_0 9 rfl rfl)
theorem dX6_occupancy_10 : decode cX6_occupancy 10 = .ok (.aload_n 0, 1) := dk_42 (dk_at dksX6_occupancy_0 10 rfl rfl)
theorem dX6_occupancy_11 : decode cX6_occupancy 11 = .ok (.getfield 7, 3) := dk_180 0 7 (dk_at dksX6_occupancy_0 11 rfl rfl)
theorem dX6_occupancy_14 : decode cX6_occupancy 14 = .ok (.iconst 0, 1) := dk_3 (dk_at dksX6_occupancy_0 14 rfl rfl)
theorem dX6_occupancy_15 : decode cX6_occupancy 15 = .ok (.iaload, 1) := dk_46 (dk_at dksX6_occupancy_0 15 rfl rfl)
theorem dX6_occupancy_16 : decode cX6_occupancy 16 = .ok (.i2d, 1) := dk_135 (dk_at dksX6_occupancy_0 16 rfl rfl)
theorem dX6_occupancy_17 : decode cX6_occupancy 17 = .ok (.ddiv, 1) := dk_111 (dk_at dksX6_occupancy_0 17 rfl rfl)
theorem dX6_occupancy_18 : decode cX6_occupancy 18 = .ok (.dreturn, 1) := dk_175 (dk_at dksX6_occupancy_0 18 rfl rfl)
abbrev cX6_plant : ByteArray := prog_14_method_150_code
def yX6_plant : MethodName := ⟨RX6, "plant", "(II)I"⟩
def dkwX6_plant_2 : List UInt8 := [153, 0, 16, 42, 42, 27, 28, 182, 1, 98, 182, 1, 172, 167, 0, 4, 3, 172]
abbrev dktX6_plant_2 : List UInt8 := dkwX6_plant_2 ++ []
def dkwX6_plant_1 : List UInt8 := [42, 27, 182, 0, 73, 28, 133, 20, 0, 240, 20, 0, 242, 184, 0, 65, 29, 182, 1, 165, 182, 1, 169]
abbrev dktX6_plant_1 : List UInt8 := dkwX6_plant_1 ++ dktX6_plant_2
def dkwX6_plant_0 : List UInt8 := [42, 27, 182, 0, 73, 153, 0, 15, 42, 27, 182, 0, 194, 154, 0, 7, 4, 167, 0, 4, 3, 62, 42, 42]
abbrev dktX6_plant_0 : List UInt8 := dkwX6_plant_0 ++ dktX6_plant_1
theorem dksX6_plant_0 : cX6_plant.data.toList.drop 0 = dktX6_plant_0 := by decide +kernel
theorem dksX6_plant_1 : cX6_plant.data.toList.drop 24 = dktX6_plant_1 := dk_seg dksX6_plant_0 24 rfl rfl
theorem dksX6_plant_2 : cX6_plant.data.toList.drop 47 = dktX6_plant_2 := dk_seg dksX6_plant_1 23 rfl rfl
theorem dX6_plant_0 : decode cX6_plant 0 = .ok (.aload_n 0, 1) := dk_42 (dk_at dksX6_plant_0 0 rfl rfl)
theorem dX6_plant_1 : decode cX6_plant 1 = .ok (.iload_n 1, 1) := dk_27 (dk_at dksX6_plant_0 1 rfl rfl)
theorem dX6_plant_2 : decode cX6_plant 2 = .ok (.invokevirtual 73, 3) := dk_182 0 73 (dk_at dksX6_plant_0 2 rfl rfl)
theorem dX6_plant_5 : decode cX6_plant 5 = .ok (.ifCond .eq 15, 3) := dk_153 0 15 (dk_at dksX6_plant_0 5 rfl rfl)
theorem dX6_plant_8 : decode cX6_plant 8 = .ok (.aload_n 0, 1) := dk_42 (dk_at dksX6_plant_0 8 rfl rfl)
theorem dX6_plant_9 : decode cX6_plant 9 = .ok (.iload_n 1, 1) := dk_27 (dk_at dksX6_plant_0 9 rfl rfl)
theorem dX6_plant_10 : decode cX6_plant 10 = .ok (.invokevirtual 194, 3) := dk_182 0 194 (dk_at dksX6_plant_0 10 rfl rfl)
theorem dX6_plant_13 : decode cX6_plant 13 = .ok (.ifCond .ne 7, 3) := dk_154 0 7 (dk_at dksX6_plant_0 13 rfl rfl)
theorem dX6_plant_16 : decode cX6_plant 16 = .ok (.iconst 1, 1) := dk_4 (dk_at dksX6_plant_0 16 rfl rfl)
theorem dX6_plant_17 : decode cX6_plant 17 = .ok (.goto 4, 3) := dk_167 0 4 (dk_at dksX6_plant_0 17 rfl rfl)
theorem dX6_plant_20 : decode cX6_plant 20 = .ok (.iconst 0, 1) := dk_3 (dk_at dksX6_plant_0 20 rfl rfl)
theorem dX6_plant_21 : decode cX6_plant 21 = .ok (.istore_n 3, 1) := dk_62 (dk_at dksX6_plant_0 21 rfl rfl)
theorem dX6_plant_22 : decode cX6_plant 22 = .ok (.aload_n 0, 1) := dk_42 (dk_at dksX6_plant_0 22 rfl rfl)
theorem dX6_plant_23 : decode cX6_plant 23 = .ok (.aload_n 0, 1) := dk_42 (dk_at dksX6_plant_0 23 rfl rfl)
theorem dX6_plant_24 : decode cX6_plant 24 = .ok (.aload_n 0, 1) := dk_42 (dk_at dksX6_plant_1 0 rfl rfl)
theorem dX6_plant_25 : decode cX6_plant 25 = .ok (.iload_n 1, 1) := dk_27 (dk_at dksX6_plant_1 1 rfl rfl)
theorem dX6_plant_26 : decode cX6_plant 26 = .ok (.invokevirtual 73, 3) := dk_182 0 73 (dk_at dksX6_plant_1 2 rfl rfl)
theorem dX6_plant_29 : decode cX6_plant 29 = .ok (.iload_n 2, 1) := dk_28 (dk_at dksX6_plant_1 5 rfl rfl)
theorem dX6_plant_30 : decode cX6_plant 30 = .ok (.i2l, 1) := dk_133 (dk_at dksX6_plant_1 6 rfl rfl)
theorem dX6_plant_31 : decode cX6_plant 31 = .ok (.ldc2_w 240, 3) := dk_20 0 240 (dk_at dksX6_plant_1 7 rfl rfl)
theorem dX6_plant_34 : decode cX6_plant 34 = .ok (.ldc2_w 242, 3) := dk_20 0 242 (dk_at dksX6_plant_1 10 rfl rfl)
theorem dX6_plant_37 : decode cX6_plant 37 = .ok (.invokestatic 65, 3) := dk_184 0 65 (dk_at dksX6_plant_1 13 rfl rfl)
theorem dX6_plant_40 : decode cX6_plant 40 = .ok (.iload_n 3, 1) := dk_29 (dk_at dksX6_plant_1 16 rfl rfl)
theorem dX6_plant_41 : decode cX6_plant 41 = .ok (.invokevirtual 421, 3) := dk_182 1 165 (dk_at dksX6_plant_1 17 rfl rfl)
theorem dX6_plant_44 : decode cX6_plant 44 = .ok (.invokevirtual 425, 3) := dk_182 1 169 (dk_at dksX6_plant_1 20 rfl rfl)
theorem dX6_plant_47 : decode cX6_plant 47 = .ok (.ifCond .eq 16, 3) := dk_153 0 16 (dk_at dksX6_plant_2 0 rfl rfl)
theorem dX6_plant_50 : decode cX6_plant 50 = .ok (.aload_n 0, 1) := dk_42 (dk_at dksX6_plant_2 3 rfl rfl)
theorem dX6_plant_51 : decode cX6_plant 51 = .ok (.aload_n 0, 1) := dk_42 (dk_at dksX6_plant_2 4 rfl rfl)
theorem dX6_plant_52 : decode cX6_plant 52 = .ok (.iload_n 1, 1) := dk_27 (dk_at dksX6_plant_2 5 rfl rfl)
theorem dX6_plant_53 : decode cX6_plant 53 = .ok (.iload_n 2, 1) := dk_28 (dk_at dksX6_plant_2 6 rfl rfl)
theorem dX6_plant_54 : decode cX6_plant 54 = .ok (.invokevirtual 354, 3) := dk_182 1 98 (dk_at dksX6_plant_2 7 rfl rfl)
theorem dX6_plant_57 : decode cX6_plant 57 = .ok (.invokevirtual 428, 3) := dk_182 1 172 (dk_at dksX6_plant_2 10 rfl rfl)
theorem dX6_plant_60 : decode cX6_plant 60 = .ok (.goto 4, 3) := dk_167 0 4 (dk_at dksX6_plant_2 13 rfl rfl)
theorem dX6_plant_63 : decode cX6_plant 63 = .ok (.iconst 0, 1) := dk_3 (dk_at dksX6_plant_2 16 rfl rfl)
theorem dX6_plant_64 : decode cX6_plant 64 = .ok (.ireturn, 1) := dk_172 (dk_at dksX6_plant_2 17 rfl rfl)
abbrev cX6_passesAll : ByteArray := prog_14_method_7_code
def yX6_passesAll : MethodName := ⟨RX6, "passesAll", "(ZZZ)Z"⟩
def dkwX6_passesAll_1 : List UInt8 := [167, 0, 4, 3, 181, 0, 58, 42, 180, 0, 58, 154, 0, 7, 4, 167, 0, 4, 3, 172]
abbrev dktX6_passesAll_1 : List UInt8 := dkwX6_passesAll_1 ++ []
def dkwX6_passesAll_0 : List UInt8 := [42, 27, 154, 0, 7, 4, 167, 0, 20, 28, 154, 0, 7, 5, 167, 0, 12, 29, 154, 0, 7, 6]
abbrev dktX6_passesAll_0 : List UInt8 := dkwX6_passesAll_0 ++ dktX6_passesAll_1
theorem dksX6_passesAll_0 : cX6_passesAll.data.toList.drop 0 = dktX6_passesAll_0 := by decide +kernel
theorem dksX6_passesAll_1 : cX6_passesAll.data.toList.drop 22 = dktX6_passesAll_1 := dk_seg dksX6_passesAll_0 22 rfl rfl
theorem dX6_passesAll_0 : decode cX6_passesAll 0 = .ok (.aload_n 0, 1) := dk_42 (dk_at dksX6_passesAll_0 0 rfl rfl)
theorem dX6_passesAll_1 : decode cX6_passesAll 1 = .ok (.iload_n 1, 1) := dk_27 (dk_at dksX6_passesAll_0 1 rfl rfl)
theorem dX6_passesAll_2 : decode cX6_passesAll 2 = .ok (.ifCond .ne 7, 3) := dk_154 0 7 (dk_at dksX6_passesAll_0 2 rfl rfl)
theorem dX6_passesAll_5 : decode cX6_passesAll 5 = .ok (.iconst 1, 1) := dk_4 (dk_at dksX6_passesAll_0 5 rfl rfl)
theorem dX6_passesAll_6 : decode cX6_passesAll 6 = .ok (.goto 20, 3) := dk_167 0 20 (dk_at dksX6_passesAll_0 6 rfl rfl)
theorem dX6_passesAll_9 : decode cX6_passesAll 9 = .ok (.iload_n 2, 1) := dk_28 (dk_at dksX6_passesAll_0 9 rfl rfl)
theorem dX6_passesAll_10 : decode cX6_passesAll 10 = .ok (.ifCond .ne 7, 3) := dk_154 0 7 (dk_at dksX6_passesAll_0 10 rfl rfl)
theorem dX6_passesAll_13 : decode cX6_passesAll 13 = .ok (.iconst 2, 1) := dk_5 (dk_at dksX6_passesAll_0 13 rfl rfl)
theorem dX6_passesAll_14 : decode cX6_passesAll 14 = .ok (.goto 12, 3) := dk_167 0 12 (dk_at dksX6_passesAll_0 14 rfl rfl)
theorem dX6_passesAll_17 : decode cX6_passesAll 17 = .ok (.iload_n 3, 1) := dk_29 (dk_at dksX6_passesAll_0 17 rfl rfl)
theorem dX6_passesAll_18 : decode cX6_passesAll 18 = .ok (.ifCond .ne 7, 3) := dk_154 0 7 (dk_at dksX6_passesAll_0 18 rfl rfl)
theorem dX6_passesAll_21 : decode cX6_passesAll 21 = .ok (.iconst 3, 1) := dk_6 (dk_at dksX6_passesAll_0 21 rfl rfl)
theorem dX6_passesAll_22 : decode cX6_passesAll 22 = .ok (.goto 4, 3) := dk_167 0 4 (dk_at dksX6_passesAll_1 0 rfl rfl)
theorem dX6_passesAll_25 : decode cX6_passesAll 25 = .ok (.iconst 0, 1) := dk_3 (dk_at dksX6_passesAll_1 3 rfl rfl)
theorem dX6_passesAll_26 : decode cX6_passesAll 26 = .ok (.putfield 58, 3) := dk_181 0 58 (dk_at dksX6_passesAll_1 4 rfl rfl)
theorem dX6_passesAll_29 : decode cX6_passesAll 29 = .ok (.aload_n 0, 1) := dk_42 (dk_at dksX6_passesAll_1 7 rfl rfl)
theorem dX6_passesAll_30 : decode cX6_passesAll 30 = .ok (.getfield 58, 3) := dk_180 0 58 (dk_at dksX6_passesAll_1 8 rfl rfl)
theorem dX6_passesAll_33 : decode cX6_passesAll 33 = .ok (.ifCond .ne 7, 3) := dk_154 0 7 (dk_at dksX6_passesAll_1 11 rfl rfl)
theorem dX6_passesAll_36 : decode cX6_passesAll 36 = .ok (.iconst 1, 1) := dk_4 (dk_at dksX6_passesAll_1 14 rfl rfl)
theorem dX6_passesAll_37 : decode cX6_passesAll 37 = .ok (.goto 4, 3) := dk_167 0 4 (dk_at dksX6_passesAll_1 15 rfl rfl)
theorem dX6_passesAll_40 : decode cX6_passesAll 40 = .ok (.iconst 0, 1) := dk_3 (dk_at dksX6_passesAll_1 18 rfl rfl)
theorem dX6_passesAll_41 : decode cX6_passesAll 41 = .ok (.ireturn, 1) := dk_172 (dk_at dksX6_passesAll_1 19 rfl rfl)
abbrev cX6_tried : ByteArray := prog_14_method_149_code
def yX6_tried : MethodName := ⟨RX6, "tried", "(Z)Z"⟩
def dkwX6_tried_0 : List UInt8 := [27, 153, 0, 16, 42, 180, 0, 7, 3, 42, 180, 0, 16, 3, 184, 0, 61, 27, 172]
abbrev dktX6_tried_0 : List UInt8 := dkwX6_tried_0 ++ []
theorem dksX6_tried_0 : cX6_tried.data.toList.drop 0 = dktX6_tried_0 := by decide +kernel
theorem dX6_tried_0 : decode cX6_tried 0 = .ok (.iload_n 1, 1) := dk_27 (dk_at dksX6_tried_0 0 rfl rfl)
theorem dX6_tried_1 : decode cX6_tried 1 = .ok (.ifCond .eq 16, 3) := dk_153 0 16 (dk_at dksX6_tried_0 1 rfl rfl)
theorem dX6_tried_4 : decode cX6_tried 4 = .ok (.aload_n 0, 1) := dk_42 (dk_at dksX6_tried_0 4 rfl rfl)
theorem dX6_tried_5 : decode cX6_tried 5 = .ok (.getfield 7, 3) := dk_180 0 7 (dk_at dksX6_tried_0 5 rfl rfl)
theorem dX6_tried_8 : decode cX6_tried 8 = .ok (.iconst 0, 1) := dk_3 (dk_at dksX6_tried_0 8 rfl rfl)
theorem dX6_tried_9 : decode cX6_tried 9 = .ok (.aload_n 0, 1) := dk_42 (dk_at dksX6_tried_0 9 rfl rfl)
theorem dX6_tried_10 : decode cX6_tried 10 = .ok (.getfield 16, 3) := dk_180 0 16 (dk_at dksX6_tried_0 10 rfl rfl)
theorem dX6_tried_13 : decode cX6_tried 13 = .ok (.iconst 0, 1) := dk_3 (dk_at dksX6_tried_0 13 rfl rfl)
theorem dX6_tried_14 : decode cX6_tried 14 = .ok (.invokestatic 61, 3) := dk_184 0 61 (dk_at dksX6_tried_0 14 rfl rfl)
theorem dX6_tried_17 : decode cX6_tried 17 = .ok (.iload_n 1, 1) := dk_27 (dk_at dksX6_tried_0 17 rfl rfl)
theorem dX6_tried_18 : decode cX6_tried 18 = .ok (.ireturn, 1) := dk_172 (dk_at dksX6_tried_0 18 rfl rfl)
abbrev cX6_done : ByteArray := prog_14_method_148_code
def yX6_done : MethodName := ⟨RX6, "done", "(Z)I"⟩
def dkwX6_done_0 : List UInt8 := [42, 42, 180, 0, 16, 182, 1, 122, 42, 180, 0, 200, 172]
abbrev dktX6_done_0 : List UInt8 := dkwX6_done_0 ++ []
theorem dksX6_done_0 : cX6_done.data.toList.drop 0 = dktX6_done_0 := by decide +kernel
theorem dX6_done_0 : decode cX6_done 0 = .ok (.aload_n 0, 1) := dk_42 (dk_at dksX6_done_0 0 rfl rfl)
theorem dX6_done_1 : decode cX6_done 1 = .ok (.aload_n 0, 1) := dk_42 (dk_at dksX6_done_0 1 rfl rfl)
theorem dX6_done_2 : decode cX6_done 2 = .ok (.getfield 16, 3) := dk_180 0 16 (dk_at dksX6_done_0 2 rfl rfl)
theorem dX6_done_5 : decode cX6_done 5 = .ok (.invokevirtual 378, 3) := dk_182 1 122 (dk_at dksX6_done_0 5 rfl rfl)
theorem dX6_done_8 : decode cX6_done 8 = .ok (.aload_n 0, 1) := dk_42 (dk_at dksX6_done_0 8 rfl rfl)
theorem dX6_done_9 : decode cX6_done 9 = .ok (.getfield 200, 3) := dk_180 0 200 (dk_at dksX6_done_0 9 rfl rfl)
theorem dX6_done_12 : decode cX6_done 12 = .ok (.ireturn, 1) := dk_172 (dk_at dksX6_done_0 12 rfl rfl)
abbrev cX6_remove : ByteArray := prog_14_method_151_code
def yX6_remove : MethodName := ⟨RX6, "remove", "(I)I"⟩
def dkwX6_remove_2 : List UInt8 := [167, 0, 4, 3, 172]
abbrev dktX6_remove_2 : List UInt8 := dkwX6_remove_2 ++ []
def dkwX6_remove_1 : List UInt8 := [167, 0, 4, 3, 182, 1, 175, 182, 1, 169, 153, 0, 15, 42, 42, 27, 182, 1, 101, 182, 1, 172]
abbrev dktX6_remove_1 : List UInt8 := dkwX6_remove_1 ++ dktX6_remove_2
def dkwX6_remove_0 : List UInt8 := [42, 42, 42, 27, 182, 0, 73, 42, 27, 182, 0, 73, 153, 0, 15, 42, 27, 182, 0, 203, 154, 0, 7, 4]
abbrev dktX6_remove_0 : List UInt8 := dkwX6_remove_0 ++ dktX6_remove_1
theorem dksX6_remove_0 : cX6_remove.data.toList.drop 0 = dktX6_remove_0 := by decide +kernel
theorem dksX6_remove_1 : cX6_remove.data.toList.drop 24 = dktX6_remove_1 := dk_seg dksX6_remove_0 24 rfl rfl
theorem dksX6_remove_2 : cX6_remove.data.toList.drop 46 = dktX6_remove_2 := dk_seg dksX6_remove_1 22 rfl rfl
theorem dX6_remove_0 : decode cX6_remove 0 = .ok (.aload_n 0, 1) := dk_42 (dk_at dksX6_remove_0 0 rfl rfl)
theorem dX6_remove_1 : decode cX6_remove 1 = .ok (.aload_n 0, 1) := dk_42 (dk_at dksX6_remove_0 1 rfl rfl)
theorem dX6_remove_2 : decode cX6_remove 2 = .ok (.aload_n 0, 1) := dk_42 (dk_at dksX6_remove_0 2 rfl rfl)
theorem dX6_remove_3 : decode cX6_remove 3 = .ok (.iload_n 1, 1) := dk_27 (dk_at dksX6_remove_0 3 rfl rfl)
theorem dX6_remove_4 : decode cX6_remove 4 = .ok (.invokevirtual 73, 3) := dk_182 0 73 (dk_at dksX6_remove_0 4 rfl rfl)
theorem dX6_remove_7 : decode cX6_remove 7 = .ok (.aload_n 0, 1) := dk_42 (dk_at dksX6_remove_0 7 rfl rfl)
theorem dX6_remove_8 : decode cX6_remove 8 = .ok (.iload_n 1, 1) := dk_27 (dk_at dksX6_remove_0 8 rfl rfl)
theorem dX6_remove_9 : decode cX6_remove 9 = .ok (.invokevirtual 73, 3) := dk_182 0 73 (dk_at dksX6_remove_0 9 rfl rfl)
theorem dX6_remove_12 : decode cX6_remove 12 = .ok (.ifCond .eq 15, 3) := dk_153 0 15 (dk_at dksX6_remove_0 12 rfl rfl)
theorem dX6_remove_15 : decode cX6_remove 15 = .ok (.aload_n 0, 1) := dk_42 (dk_at dksX6_remove_0 15 rfl rfl)
theorem dX6_remove_16 : decode cX6_remove 16 = .ok (.iload_n 1, 1) := dk_27 (dk_at dksX6_remove_0 16 rfl rfl)
theorem dX6_remove_17 : decode cX6_remove 17 = .ok (.invokevirtual 203, 3) := dk_182 0 203 (dk_at dksX6_remove_0 17 rfl rfl)
theorem dX6_remove_20 : decode cX6_remove 20 = .ok (.ifCond .ne 7, 3) := dk_154 0 7 (dk_at dksX6_remove_0 20 rfl rfl)
theorem dX6_remove_23 : decode cX6_remove 23 = .ok (.iconst 1, 1) := dk_4 (dk_at dksX6_remove_0 23 rfl rfl)
theorem dX6_remove_24 : decode cX6_remove 24 = .ok (.goto 4, 3) := dk_167 0 4 (dk_at dksX6_remove_1 0 rfl rfl)
theorem dX6_remove_27 : decode cX6_remove 27 = .ok (.iconst 0, 1) := dk_3 (dk_at dksX6_remove_1 3 rfl rfl)
theorem dX6_remove_28 : decode cX6_remove 28 = .ok (.invokevirtual 431, 3) := dk_182 1 175 (dk_at dksX6_remove_1 4 rfl rfl)
theorem dX6_remove_31 : decode cX6_remove 31 = .ok (.invokevirtual 425, 3) := dk_182 1 169 (dk_at dksX6_remove_1 7 rfl rfl)
theorem dX6_remove_34 : decode cX6_remove 34 = .ok (.ifCond .eq 15, 3) := dk_153 0 15 (dk_at dksX6_remove_1 10 rfl rfl)
theorem dX6_remove_37 : decode cX6_remove 37 = .ok (.aload_n 0, 1) := dk_42 (dk_at dksX6_remove_1 13 rfl rfl)
theorem dX6_remove_38 : decode cX6_remove 38 = .ok (.aload_n 0, 1) := dk_42 (dk_at dksX6_remove_1 14 rfl rfl)
theorem dX6_remove_39 : decode cX6_remove 39 = .ok (.iload_n 1, 1) := dk_27 (dk_at dksX6_remove_1 15 rfl rfl)
theorem dX6_remove_40 : decode cX6_remove 40 = .ok (.invokevirtual 357, 3) := dk_182 1 101 (dk_at dksX6_remove_1 16 rfl rfl)
theorem dX6_remove_43 : decode cX6_remove 43 = .ok (.invokevirtual 428, 3) := dk_182 1 172 (dk_at dksX6_remove_1 19 rfl rfl)
theorem dX6_remove_46 : decode cX6_remove 46 = .ok (.goto 4, 3) := dk_167 0 4 (dk_at dksX6_remove_2 0 rfl rfl)
theorem dX6_remove_49 : decode cX6_remove 49 = .ok (.iconst 0, 1) := dk_3 (dk_at dksX6_remove_2 3 rfl rfl)
theorem dX6_remove_50 : decode cX6_remove 50 = .ok (.ireturn, 1) := dk_172 (dk_at dksX6_remove_2 4 rfl rfl)
abbrev cX6_passesBoth : ByteArray := prog_14_method_6_code
def yX6_passesBoth : MethodName := ⟨RX6, "passesBoth", "(ZZ)Z"⟩
def dkwX6_passesBoth_1 : List UInt8 := [180, 0, 58, 154, 0, 7, 4, 167, 0, 4, 3, 172]
abbrev dktX6_passesBoth_1 : List UInt8 := dkwX6_passesBoth_1 ++ []
def dkwX6_passesBoth_0 : List UInt8 := [42, 27, 154, 0, 7, 4, 167, 0, 12, 28, 154, 0, 7, 5, 167, 0, 4, 3, 181, 0, 58, 42]
abbrev dktX6_passesBoth_0 : List UInt8 := dkwX6_passesBoth_0 ++ dktX6_passesBoth_1
theorem dksX6_passesBoth_0 : cX6_passesBoth.data.toList.drop 0 = dktX6_passesBoth_0 := by decide +kernel
theorem dksX6_passesBoth_1 : cX6_passesBoth.data.toList.drop 22 = dktX6_passesBoth_1 := dk_seg dksX6_passesBoth_0 22 rfl rfl
theorem dX6_passesBoth_0 : decode cX6_passesBoth 0 = .ok (.aload_n 0, 1) := dk_42 (dk_at dksX6_passesBoth_0 0 rfl rfl)
theorem dX6_passesBoth_1 : decode cX6_passesBoth 1 = .ok (.iload_n 1, 1) := dk_27 (dk_at dksX6_passesBoth_0 1 rfl rfl)
theorem dX6_passesBoth_2 : decode cX6_passesBoth 2 = .ok (.ifCond .ne 7, 3) := dk_154 0 7 (dk_at dksX6_passesBoth_0 2 rfl rfl)
theorem dX6_passesBoth_5 : decode cX6_passesBoth 5 = .ok (.iconst 1, 1) := dk_4 (dk_at dksX6_passesBoth_0 5 rfl rfl)
theorem dX6_passesBoth_6 : decode cX6_passesBoth 6 = .ok (.goto 12, 3) := dk_167 0 12 (dk_at dksX6_passesBoth_0 6 rfl rfl)
theorem dX6_passesBoth_9 : decode cX6_passesBoth 9 = .ok (.iload_n 2, 1) := dk_28 (dk_at dksX6_passesBoth_0 9 rfl rfl)
theorem dX6_passesBoth_10 : decode cX6_passesBoth 10 = .ok (.ifCond .ne 7, 3) := dk_154 0 7 (dk_at dksX6_passesBoth_0 10 rfl rfl)
theorem dX6_passesBoth_13 : decode cX6_passesBoth 13 = .ok (.iconst 2, 1) := dk_5 (dk_at dksX6_passesBoth_0 13 rfl rfl)
theorem dX6_passesBoth_14 : decode cX6_passesBoth 14 = .ok (.goto 4, 3) := dk_167 0 4 (dk_at dksX6_passesBoth_0 14 rfl rfl)
theorem dX6_passesBoth_17 : decode cX6_passesBoth 17 = .ok (.iconst 0, 1) := dk_3 (dk_at dksX6_passesBoth_0 17 rfl rfl)
theorem dX6_passesBoth_18 : decode cX6_passesBoth 18 = .ok (.putfield 58, 3) := dk_181 0 58 (dk_at dksX6_passesBoth_0 18 rfl rfl)
theorem dX6_passesBoth_21 : decode cX6_passesBoth 21 = .ok (.aload_n 0, 1) := dk_42 (dk_at dksX6_passesBoth_0 21 rfl rfl)
theorem dX6_passesBoth_22 : decode cX6_passesBoth 22 = .ok (.getfield 58, 3) := dk_180 0 58 (dk_at dksX6_passesBoth_1 0 rfl rfl)
theorem dX6_passesBoth_25 : decode cX6_passesBoth 25 = .ok (.ifCond .ne 7, 3) := dk_154 0 7 (dk_at dksX6_passesBoth_1 3 rfl rfl)
theorem dX6_passesBoth_28 : decode cX6_passesBoth 28 = .ok (.iconst 1, 1) := dk_4 (dk_at dksX6_passesBoth_1 6 rfl rfl)
theorem dX6_passesBoth_29 : decode cX6_passesBoth 29 = .ok (.goto 4, 3) := dk_167 0 4 (dk_at dksX6_passesBoth_1 7 rfl rfl)
theorem dX6_passesBoth_32 : decode cX6_passesBoth 32 = .ok (.iconst 0, 1) := dk_3 (dk_at dksX6_passesBoth_1 10 rfl rfl)
theorem dX6_passesBoth_33 : decode cX6_passesBoth 33 = .ok (.ireturn, 1) := dk_172 (dk_at dksX6_passesBoth_1 11 rfl rfl)
abbrev cX6_trim : ByteArray := prog_14_method_152_code
def yX6_trim : MethodName := ⟨RX6, "trim", "(II)I"⟩
def dkwX6_trim_2 : List UInt8 := [42, 42, 27, 28, 182, 1, 104, 182, 1, 172, 167, 0, 4, 3, 172]
abbrev dktX6_trim_2 : List UInt8 := dkwX6_trim_2 ++ []
def dkwX6_trim_1 : List UInt8 := [42, 27, 182, 0, 73, 28, 133, 10, 20, 1, 179, 184, 0, 65, 29, 182, 1, 165, 182, 1, 169, 153, 0, 16]
abbrev dktX6_trim_1 : List UInt8 := dkwX6_trim_1 ++ dktX6_trim_2
def dkwX6_trim_0 : List UInt8 := [42, 27, 182, 0, 73, 153, 0, 15, 42, 27, 182, 0, 206, 154, 0, 7, 4, 167, 0, 4, 3, 62, 42, 42]
abbrev dktX6_trim_0 : List UInt8 := dkwX6_trim_0 ++ dktX6_trim_1
theorem dksX6_trim_0 : cX6_trim.data.toList.drop 0 = dktX6_trim_0 := by decide +kernel
theorem dksX6_trim_1 : cX6_trim.data.toList.drop 24 = dktX6_trim_1 := dk_seg dksX6_trim_0 24 rfl rfl
theorem dksX6_trim_2 : cX6_trim.data.toList.drop 48 = dktX6_trim_2 := dk_seg dksX6_trim_1 24 rfl rfl
theorem dX6_trim_0 : decode cX6_trim 0 = .ok (.aload_n 0, 1) := dk_42 (dk_at dksX6_trim_0 0 rfl rfl)
theorem dX6_trim_1 : decode cX6_trim 1 = .ok (.iload_n 1, 1) := dk_27 (dk_at dksX6_trim_0 1 rfl rfl)
theorem dX6_trim_2 : decode cX6_trim 2 = .ok (.invokevirtual 73, 3) := dk_182 0 73 (dk_at dksX6_trim_0 2 rfl rfl)
theorem dX6_trim_5 : decode cX6_trim 5 = .ok (.ifCond .eq 15, 3) := dk_153 0 15 (dk_at dksX6_trim_0 5 rfl rfl)
theorem dX6_trim_8 : decode cX6_trim 8 = .ok (.aload_n 0, 1) := dk_42 (dk_at dksX6_trim_0 8 rfl rfl)
theorem dX6_trim_9 : decode cX6_trim 9 = .ok (.iload_n 1, 1) := dk_27 (dk_at dksX6_trim_0 9 rfl rfl)
theorem dX6_trim_10 : decode cX6_trim 10 = .ok (.invokevirtual 206, 3) := dk_182 0 206 (dk_at dksX6_trim_0 10 rfl rfl)
theorem dX6_trim_13 : decode cX6_trim 13 = .ok (.ifCond .ne 7, 3) := dk_154 0 7 (dk_at dksX6_trim_0 13 rfl rfl)
theorem dX6_trim_16 : decode cX6_trim 16 = .ok (.iconst 1, 1) := dk_4 (dk_at dksX6_trim_0 16 rfl rfl)
theorem dX6_trim_17 : decode cX6_trim 17 = .ok (.goto 4, 3) := dk_167 0 4 (dk_at dksX6_trim_0 17 rfl rfl)
theorem dX6_trim_20 : decode cX6_trim 20 = .ok (.iconst 0, 1) := dk_3 (dk_at dksX6_trim_0 20 rfl rfl)
theorem dX6_trim_21 : decode cX6_trim 21 = .ok (.istore_n 3, 1) := dk_62 (dk_at dksX6_trim_0 21 rfl rfl)
theorem dX6_trim_22 : decode cX6_trim 22 = .ok (.aload_n 0, 1) := dk_42 (dk_at dksX6_trim_0 22 rfl rfl)
theorem dX6_trim_23 : decode cX6_trim 23 = .ok (.aload_n 0, 1) := dk_42 (dk_at dksX6_trim_0 23 rfl rfl)
theorem dX6_trim_24 : decode cX6_trim 24 = .ok (.aload_n 0, 1) := dk_42 (dk_at dksX6_trim_1 0 rfl rfl)
theorem dX6_trim_25 : decode cX6_trim 25 = .ok (.iload_n 1, 1) := dk_27 (dk_at dksX6_trim_1 1 rfl rfl)
theorem dX6_trim_26 : decode cX6_trim 26 = .ok (.invokevirtual 73, 3) := dk_182 0 73 (dk_at dksX6_trim_1 2 rfl rfl)
theorem dX6_trim_29 : decode cX6_trim 29 = .ok (.iload_n 2, 1) := dk_28 (dk_at dksX6_trim_1 5 rfl rfl)
theorem dX6_trim_30 : decode cX6_trim 30 = .ok (.i2l, 1) := dk_133 (dk_at dksX6_trim_1 6 rfl rfl)
theorem dX6_trim_31 : decode cX6_trim 31 = .ok (.lconst 1, 1) := dk_10 (dk_at dksX6_trim_1 7 rfl rfl)
theorem dX6_trim_32 : decode cX6_trim 32 = .ok (.ldc2_w 435, 3) := dk_20 1 179 (dk_at dksX6_trim_1 8 rfl rfl)
theorem dX6_trim_35 : decode cX6_trim 35 = .ok (.invokestatic 65, 3) := dk_184 0 65 (dk_at dksX6_trim_1 11 rfl rfl)
theorem dX6_trim_38 : decode cX6_trim 38 = .ok (.iload_n 3, 1) := dk_29 (dk_at dksX6_trim_1 14 rfl rfl)
theorem dX6_trim_39 : decode cX6_trim 39 = .ok (.invokevirtual 421, 3) := dk_182 1 165 (dk_at dksX6_trim_1 15 rfl rfl)
theorem dX6_trim_42 : decode cX6_trim 42 = .ok (.invokevirtual 425, 3) := dk_182 1 169 (dk_at dksX6_trim_1 18 rfl rfl)
theorem dX6_trim_45 : decode cX6_trim 45 = .ok (.ifCond .eq 16, 3) := dk_153 0 16 (dk_at dksX6_trim_1 21 rfl rfl)
theorem dX6_trim_48 : decode cX6_trim 48 = .ok (.aload_n 0, 1) := dk_42 (dk_at dksX6_trim_2 0 rfl rfl)
theorem dX6_trim_49 : decode cX6_trim 49 = .ok (.aload_n 0, 1) := dk_42 (dk_at dksX6_trim_2 1 rfl rfl)
theorem dX6_trim_50 : decode cX6_trim 50 = .ok (.iload_n 1, 1) := dk_27 (dk_at dksX6_trim_2 2 rfl rfl)
theorem dX6_trim_51 : decode cX6_trim 51 = .ok (.iload_n 2, 1) := dk_28 (dk_at dksX6_trim_2 3 rfl rfl)
theorem dX6_trim_52 : decode cX6_trim 52 = .ok (.invokevirtual 360, 3) := dk_182 1 104 (dk_at dksX6_trim_2 4 rfl rfl)
theorem dX6_trim_55 : decode cX6_trim 55 = .ok (.invokevirtual 428, 3) := dk_182 1 172 (dk_at dksX6_trim_2 7 rfl rfl)
theorem dX6_trim_58 : decode cX6_trim 58 = .ok (.goto 4, 3) := dk_167 0 4 (dk_at dksX6_trim_2 10 rfl rfl)
theorem dX6_trim_61 : decode cX6_trim 61 = .ok (.iconst 0, 1) := dk_3 (dk_at dksX6_trim_2 13 rfl rfl)
theorem dX6_trim_62 : decode cX6_trim 62 = .ok (.ireturn, 1) := dk_172 (dk_at dksX6_trim_2 14 rfl rfl)
abbrev cX6_addNest : ByteArray := prog_14_method_153_code
def yX6_addNest : MethodName := ⟨RX6, "addNest", "(II)I"⟩
def dkwX6_addNest_1 : List UInt8 := [182, 1, 169, 153, 0, 16, 42, 42, 27, 28, 182, 1, 107, 182, 1, 172, 167, 0, 4, 3, 172]
abbrev dktX6_addNest_1 : List UInt8 := dkwX6_addNest_1 ++ []
def dkwX6_addNest_0 : List UInt8 := [42, 42, 42, 27, 182, 0, 73, 28, 133, 10, 20, 1, 181, 184, 0, 65, 42, 27, 182, 0, 212, 182, 1, 165]
abbrev dktX6_addNest_0 : List UInt8 := dkwX6_addNest_0 ++ dktX6_addNest_1
theorem dksX6_addNest_0 : cX6_addNest.data.toList.drop 0 = dktX6_addNest_0 := by decide +kernel
theorem dksX6_addNest_1 : cX6_addNest.data.toList.drop 24 = dktX6_addNest_1 := dk_seg dksX6_addNest_0 24 rfl rfl
theorem dX6_addNest_0 : decode cX6_addNest 0 = .ok (.aload_n 0, 1) := dk_42 (dk_at dksX6_addNest_0 0 rfl rfl)
theorem dX6_addNest_1 : decode cX6_addNest 1 = .ok (.aload_n 0, 1) := dk_42 (dk_at dksX6_addNest_0 1 rfl rfl)
theorem dX6_addNest_2 : decode cX6_addNest 2 = .ok (.aload_n 0, 1) := dk_42 (dk_at dksX6_addNest_0 2 rfl rfl)
theorem dX6_addNest_3 : decode cX6_addNest 3 = .ok (.iload_n 1, 1) := dk_27 (dk_at dksX6_addNest_0 3 rfl rfl)
theorem dX6_addNest_4 : decode cX6_addNest 4 = .ok (.invokevirtual 73, 3) := dk_182 0 73 (dk_at dksX6_addNest_0 4 rfl rfl)
theorem dX6_addNest_7 : decode cX6_addNest 7 = .ok (.iload_n 2, 1) := dk_28 (dk_at dksX6_addNest_0 7 rfl rfl)
theorem dX6_addNest_8 : decode cX6_addNest 8 = .ok (.i2l, 1) := dk_133 (dk_at dksX6_addNest_0 8 rfl rfl)
theorem dX6_addNest_9 : decode cX6_addNest 9 = .ok (.lconst 1, 1) := dk_10 (dk_at dksX6_addNest_0 9 rfl rfl)
theorem dX6_addNest_10 : decode cX6_addNest 10 = .ok (.ldc2_w 437, 3) := dk_20 1 181 (dk_at dksX6_addNest_0 10 rfl rfl)
theorem dX6_addNest_13 : decode cX6_addNest 13 = .ok (.invokestatic 65, 3) := dk_184 0 65 (dk_at dksX6_addNest_0 13 rfl rfl)
theorem dX6_addNest_16 : decode cX6_addNest 16 = .ok (.aload_n 0, 1) := dk_42 (dk_at dksX6_addNest_0 16 rfl rfl)
theorem dX6_addNest_17 : decode cX6_addNest 17 = .ok (.iload_n 1, 1) := dk_27 (dk_at dksX6_addNest_0 17 rfl rfl)
theorem dX6_addNest_18 : decode cX6_addNest 18 = .ok (.invokevirtual 212, 3) := dk_182 0 212 (dk_at dksX6_addNest_0 18 rfl rfl)
theorem dX6_addNest_21 : decode cX6_addNest 21 = .ok (.invokevirtual 421, 3) := dk_182 1 165 (dk_at dksX6_addNest_0 21 rfl rfl)
theorem dX6_addNest_24 : decode cX6_addNest 24 = .ok (.invokevirtual 425, 3) := dk_182 1 169 (dk_at dksX6_addNest_1 0 rfl rfl)
theorem dX6_addNest_27 : decode cX6_addNest 27 = .ok (.ifCond .eq 16, 3) := dk_153 0 16 (dk_at dksX6_addNest_1 3 rfl rfl)
theorem dX6_addNest_30 : decode cX6_addNest 30 = .ok (.aload_n 0, 1) := dk_42 (dk_at dksX6_addNest_1 6 rfl rfl)
theorem dX6_addNest_31 : decode cX6_addNest 31 = .ok (.aload_n 0, 1) := dk_42 (dk_at dksX6_addNest_1 7 rfl rfl)
theorem dX6_addNest_32 : decode cX6_addNest 32 = .ok (.iload_n 1, 1) := dk_27 (dk_at dksX6_addNest_1 8 rfl rfl)
theorem dX6_addNest_33 : decode cX6_addNest 33 = .ok (.iload_n 2, 1) := dk_28 (dk_at dksX6_addNest_1 9 rfl rfl)
theorem dX6_addNest_34 : decode cX6_addNest 34 = .ok (.invokevirtual 363, 3) := dk_182 1 107 (dk_at dksX6_addNest_1 10 rfl rfl)
theorem dX6_addNest_37 : decode cX6_addNest 37 = .ok (.invokevirtual 428, 3) := dk_182 1 172 (dk_at dksX6_addNest_1 13 rfl rfl)
theorem dX6_addNest_40 : decode cX6_addNest 40 = .ok (.goto 4, 3) := dk_167 0 4 (dk_at dksX6_addNest_1 16 rfl rfl)
theorem dX6_addNest_43 : decode cX6_addNest 43 = .ok (.iconst 0, 1) := dk_3 (dk_at dksX6_addNest_1 19 rfl rfl)
theorem dX6_addNest_44 : decode cX6_addNest 44 = .ok (.ireturn, 1) := dk_172 (dk_at dksX6_addNest_1 20 rfl rfl)
abbrev cX6_queueMessage : ByteArray := prog_14_method_155_code
def yX6_queueMessage : MethodName := ⟨RX6, "queueMessage", "(I)I"⟩
def dkwX6_queueMessage_3 : List UInt8 := [182, 1, 172, 172]
abbrev dktX6_queueMessage_3 : List UInt8 := dkwX6_queueMessage_3 ++ []
def dkwX6_queueMessage_2 : List UInt8 := [182, 1, 175, 182, 1, 169, 154, 0, 5, 3, 172, 42, 3, 181, 0, 53, 42, 42, 27, 182, 1, 34]
abbrev dktX6_queueMessage_2 : List UInt8 := dkwX6_queueMessage_2 ++ dktX6_queueMessage_3
def dkwX6_queueMessage_1 : List UInt8 := [153, 0, 21, 42, 180, 0, 7, 16, 12, 27, 96, 46, 16, 8, 162, 0, 7, 4, 167, 0, 4, 3]
abbrev dktX6_queueMessage_1 : List UInt8 := dkwX6_queueMessage_1 ++ dktX6_queueMessage_2
def dkwX6_queueMessage_0 : List UInt8 := [27, 184, 1, 129, 153, 0, 14, 42, 182, 1, 183, 153, 0, 7, 4, 167, 0, 4, 3, 61, 42, 42, 28, 28]
abbrev dktX6_queueMessage_0 : List UInt8 := dkwX6_queueMessage_0 ++ dktX6_queueMessage_1
theorem dksX6_queueMessage_0 : cX6_queueMessage.data.toList.drop 0 = dktX6_queueMessage_0 := by decide +kernel
theorem dksX6_queueMessage_1 : cX6_queueMessage.data.toList.drop 24 = dktX6_queueMessage_1 := dk_seg dksX6_queueMessage_0 24 rfl rfl
theorem dksX6_queueMessage_2 : cX6_queueMessage.data.toList.drop 46 = dktX6_queueMessage_2 := dk_seg dksX6_queueMessage_1 22 rfl rfl
theorem dksX6_queueMessage_3 : cX6_queueMessage.data.toList.drop 68 = dktX6_queueMessage_3 := dk_seg dksX6_queueMessage_2 22 rfl rfl
theorem dX6_queueMessage_0 : decode cX6_queueMessage 0 = .ok (.iload_n 1, 1) := dk_27 (dk_at dksX6_queueMessage_0 0 rfl rfl)
theorem dX6_queueMessage_1 : decode cX6_queueMessage 1 = .ok (.invokestatic 385, 3) := dk_184 1 129 (dk_at dksX6_queueMessage_0 1 rfl rfl)
theorem dX6_queueMessage_4 : decode cX6_queueMessage 4 = .ok (.ifCond .eq 14, 3) := dk_153 0 14 (dk_at dksX6_queueMessage_0 4 rfl rfl)
theorem dX6_queueMessage_7 : decode cX6_queueMessage 7 = .ok (.aload_n 0, 1) := dk_42 (dk_at dksX6_queueMessage_0 7 rfl rfl)
theorem dX6_queueMessage_8 : decode cX6_queueMessage 8 = .ok (.invokevirtual 439, 3) := dk_182 1 183 (dk_at dksX6_queueMessage_0 8 rfl rfl)
theorem dX6_queueMessage_11 : decode cX6_queueMessage 11 = .ok (.ifCond .eq 7, 3) := dk_153 0 7 (dk_at dksX6_queueMessage_0 11 rfl rfl)
theorem dX6_queueMessage_14 : decode cX6_queueMessage 14 = .ok (.iconst 1, 1) := dk_4 (dk_at dksX6_queueMessage_0 14 rfl rfl)
theorem dX6_queueMessage_15 : decode cX6_queueMessage 15 = .ok (.goto 4, 3) := dk_167 0 4 (dk_at dksX6_queueMessage_0 15 rfl rfl)
theorem dX6_queueMessage_18 : decode cX6_queueMessage 18 = .ok (.iconst 0, 1) := dk_3 (dk_at dksX6_queueMessage_0 18 rfl rfl)
theorem dX6_queueMessage_19 : decode cX6_queueMessage 19 = .ok (.istore_n 2, 1) := dk_61 (dk_at dksX6_queueMessage_0 19 rfl rfl)
theorem dX6_queueMessage_20 : decode cX6_queueMessage 20 = .ok (.aload_n 0, 1) := dk_42 (dk_at dksX6_queueMessage_0 20 rfl rfl)
theorem dX6_queueMessage_21 : decode cX6_queueMessage 21 = .ok (.aload_n 0, 1) := dk_42 (dk_at dksX6_queueMessage_0 21 rfl rfl)
theorem dX6_queueMessage_22 : decode cX6_queueMessage 22 = .ok (.iload_n 2, 1) := dk_28 (dk_at dksX6_queueMessage_0 22 rfl rfl)
theorem dX6_queueMessage_23 : decode cX6_queueMessage 23 = .ok (.iload_n 2, 1) := dk_28 (dk_at dksX6_queueMessage_0 23 rfl rfl)
theorem dX6_queueMessage_24 : decode cX6_queueMessage 24 = .ok (.ifCond .eq 21, 3) := dk_153 0 21 (dk_at dksX6_queueMessage_1 0 rfl rfl)
theorem dX6_queueMessage_27 : decode cX6_queueMessage 27 = .ok (.aload_n 0, 1) := dk_42 (dk_at dksX6_queueMessage_1 3 rfl rfl)
theorem dX6_queueMessage_28 : decode cX6_queueMessage 28 = .ok (.getfield 7, 3) := dk_180 0 7 (dk_at dksX6_queueMessage_1 4 rfl rfl)
theorem dX6_queueMessage_31 : decode cX6_queueMessage 31 = .ok (.bipush 12, 2) := dk_16 12 (dk_at dksX6_queueMessage_1 7 rfl rfl)
theorem dX6_queueMessage_33 : decode cX6_queueMessage 33 = .ok (.iload_n 1, 1) := dk_27 (dk_at dksX6_queueMessage_1 9 rfl rfl)
theorem dX6_queueMessage_34 : decode cX6_queueMessage 34 = .ok (.iadd, 1) := dk_96 (dk_at dksX6_queueMessage_1 10 rfl rfl)
theorem dX6_queueMessage_35 : decode cX6_queueMessage 35 = .ok (.iaload, 1) := dk_46 (dk_at dksX6_queueMessage_1 11 rfl rfl)
theorem dX6_queueMessage_36 : decode cX6_queueMessage 36 = .ok (.bipush 8, 2) := dk_16 8 (dk_at dksX6_queueMessage_1 12 rfl rfl)
theorem dX6_queueMessage_38 : decode cX6_queueMessage 38 = .ok (.if_icmp .ge 7, 3) := dk_162 0 7 (dk_at dksX6_queueMessage_1 14 rfl rfl)
theorem dX6_queueMessage_41 : decode cX6_queueMessage 41 = .ok (.iconst 1, 1) := dk_4 (dk_at dksX6_queueMessage_1 17 rfl rfl)
theorem dX6_queueMessage_42 : decode cX6_queueMessage 42 = .ok (.goto 4, 3) := dk_167 0 4 (dk_at dksX6_queueMessage_1 18 rfl rfl)
theorem dX6_queueMessage_45 : decode cX6_queueMessage 45 = .ok (.iconst 0, 1) := dk_3 (dk_at dksX6_queueMessage_1 21 rfl rfl)
theorem dX6_queueMessage_46 : decode cX6_queueMessage 46 = .ok (.invokevirtual 431, 3) := dk_182 1 175 (dk_at dksX6_queueMessage_2 0 rfl rfl)
theorem dX6_queueMessage_49 : decode cX6_queueMessage 49 = .ok (.invokevirtual 425, 3) := dk_182 1 169 (dk_at dksX6_queueMessage_2 3 rfl rfl)
theorem dX6_queueMessage_52 : decode cX6_queueMessage 52 = .ok (.ifCond .ne 5, 3) := dk_154 0 5 (dk_at dksX6_queueMessage_2 6 rfl rfl)
theorem dX6_queueMessage_55 : decode cX6_queueMessage 55 = .ok (.iconst 0, 1) := dk_3 (dk_at dksX6_queueMessage_2 9 rfl rfl)
theorem dX6_queueMessage_56 : decode cX6_queueMessage 56 = .ok (.ireturn, 1) := dk_172 (dk_at dksX6_queueMessage_2 10 rfl rfl)
theorem dX6_queueMessage_57 : decode cX6_queueMessage 57 = .ok (.aload_n 0, 1) := dk_42 (dk_at dksX6_queueMessage_2 11 rfl rfl)
theorem dX6_queueMessage_58 : decode cX6_queueMessage 58 = .ok (.iconst 0, 1) := dk_3 (dk_at dksX6_queueMessage_2 12 rfl rfl)
theorem dX6_queueMessage_59 : decode cX6_queueMessage 59 = .ok (.putfield 53, 3) := dk_181 0 53 (dk_at dksX6_queueMessage_2 13 rfl rfl)
theorem dX6_queueMessage_62 : decode cX6_queueMessage 62 = .ok (.aload_n 0, 1) := dk_42 (dk_at dksX6_queueMessage_2 16 rfl rfl)
theorem dX6_queueMessage_63 : decode cX6_queueMessage 63 = .ok (.aload_n 0, 1) := dk_42 (dk_at dksX6_queueMessage_2 17 rfl rfl)
theorem dX6_queueMessage_64 : decode cX6_queueMessage 64 = .ok (.iload_n 1, 1) := dk_27 (dk_at dksX6_queueMessage_2 18 rfl rfl)
theorem dX6_queueMessage_65 : decode cX6_queueMessage 65 = .ok (.invokevirtual 290, 3) := dk_182 1 34 (dk_at dksX6_queueMessage_2 19 rfl rfl)
theorem dX6_queueMessage_68 : decode cX6_queueMessage 68 = .ok (.invokevirtual 428, 3) := dk_182 1 172 (dk_at dksX6_queueMessage_3 0 rfl rfl)
theorem dX6_queueMessage_71 : decode cX6_queueMessage 71 = .ok (.ireturn, 1) := dk_172 (dk_at dksX6_queueMessage_3 3 rfl rfl)
abbrev cX6_isBufferWord : ByteArray := prog_14_method_154_code
def yX6_isBufferWord : MethodName := ⟨RX6, "isBufferWord", "()Z"⟩
def dkwX6_isBufferWord_2 : List UInt8 := [167, 255, 224, 27, 153, 0, 12, 42, 3, 42, 180, 0, 53, 182, 1, 10, 27, 172]
abbrev dktX6_isBufferWord_2 : List UInt8 := dkwX6_isBufferWord_2 ++ []
def dkwX6_isBufferWord_1 : List UInt8 := [153, 0, 26, 42, 180, 0, 28, 28, 46, 133, 20, 0, 240, 20, 0, 242, 184, 0, 65, 60, 132, 2, 1]
abbrev dktX6_isBufferWord_1 : List UInt8 := dkwX6_isBufferWord_1 ++ dktX6_isBufferWord_2
def dkwX6_isBufferWord_0 : List UInt8 := [42, 180, 0, 53, 133, 10, 20, 1, 8, 184, 0, 65, 60, 3, 61, 28, 42, 180, 0, 53, 162, 0, 30, 27]
abbrev dktX6_isBufferWord_0 : List UInt8 := dkwX6_isBufferWord_0 ++ dktX6_isBufferWord_1
theorem dksX6_isBufferWord_0 : cX6_isBufferWord.data.toList.drop 0 = dktX6_isBufferWord_0 := by decide +kernel
theorem dksX6_isBufferWord_1 : cX6_isBufferWord.data.toList.drop 24 = dktX6_isBufferWord_1 := dk_seg dksX6_isBufferWord_0 24 rfl rfl
theorem dksX6_isBufferWord_2 : cX6_isBufferWord.data.toList.drop 47 = dktX6_isBufferWord_2 := dk_seg dksX6_isBufferWord_1 23 rfl rfl
theorem dX6_isBufferWord_0 : decode cX6_isBufferWord 0 = .ok (.aload_n 0, 1) := dk_42 (dk_at dksX6_isBufferWord_0 0 rfl rfl)
theorem dX6_isBufferWord_1 : decode cX6_isBufferWord 1 = .ok (.getfield 53, 3) := dk_180 0 53 (dk_at dksX6_isBufferWord_0 1 rfl rfl)
theorem dX6_isBufferWord_4 : decode cX6_isBufferWord 4 = .ok (.i2l, 1) := dk_133 (dk_at dksX6_isBufferWord_0 4 rfl rfl)
theorem dX6_isBufferWord_5 : decode cX6_isBufferWord 5 = .ok (.lconst 1, 1) := dk_10 (dk_at dksX6_isBufferWord_0 5 rfl rfl)
theorem dX6_isBufferWord_6 : decode cX6_isBufferWord 6 = .ok (.ldc2_w 264, 3) := dk_20 1 8 (dk_at dksX6_isBufferWord_0 6 rfl rfl)
theorem dX6_isBufferWord_9 : decode cX6_isBufferWord 9 = .ok (.invokestatic 65, 3) := dk_184 0 65 (dk_at dksX6_isBufferWord_0 9 rfl rfl)
theorem dX6_isBufferWord_12 : decode cX6_isBufferWord 12 = .ok (.istore_n 1, 1) := dk_60 (dk_at dksX6_isBufferWord_0 12 rfl rfl)
theorem dX6_isBufferWord_13 : decode cX6_isBufferWord 13 = .ok (.iconst 0, 1) := dk_3 (dk_at dksX6_isBufferWord_0 13 rfl rfl)
theorem dX6_isBufferWord_14 : decode cX6_isBufferWord 14 = .ok (.istore_n 2, 1) := dk_61 (dk_at dksX6_isBufferWord_0 14 rfl rfl)
theorem dX6_isBufferWord_15 : decode cX6_isBufferWord 15 = .ok (.iload_n 2, 1) := dk_28 (dk_at dksX6_isBufferWord_0 15 rfl rfl)
theorem dX6_isBufferWord_16 : decode cX6_isBufferWord 16 = .ok (.aload_n 0, 1) := dk_42 (dk_at dksX6_isBufferWord_0 16 rfl rfl)
theorem dX6_isBufferWord_17 : decode cX6_isBufferWord 17 = .ok (.getfield 53, 3) := dk_180 0 53 (dk_at dksX6_isBufferWord_0 17 rfl rfl)
theorem dX6_isBufferWord_20 : decode cX6_isBufferWord 20 = .ok (.if_icmp .ge 30, 3) := dk_162 0 30 (dk_at dksX6_isBufferWord_0 20 rfl rfl)
theorem dX6_isBufferWord_23 : decode cX6_isBufferWord 23 = .ok (.iload_n 1, 1) := dk_27 (dk_at dksX6_isBufferWord_0 23 rfl rfl)
theorem dX6_isBufferWord_24 : decode cX6_isBufferWord 24 = .ok (.ifCond .eq 26, 3) := dk_153 0 26 (dk_at dksX6_isBufferWord_1 0 rfl rfl)
theorem dX6_isBufferWord_27 : decode cX6_isBufferWord 27 = .ok (.aload_n 0, 1) := dk_42 (dk_at dksX6_isBufferWord_1 3 rfl rfl)
theorem dX6_isBufferWord_28 : decode cX6_isBufferWord 28 = .ok (.getfield 28, 3) := dk_180 0 28 (dk_at dksX6_isBufferWord_1 4 rfl rfl)
theorem dX6_isBufferWord_31 : decode cX6_isBufferWord 31 = .ok (.iload_n 2, 1) := dk_28 (dk_at dksX6_isBufferWord_1 7 rfl rfl)
theorem dX6_isBufferWord_32 : decode cX6_isBufferWord 32 = .ok (.iaload, 1) := dk_46 (dk_at dksX6_isBufferWord_1 8 rfl rfl)
theorem dX6_isBufferWord_33 : decode cX6_isBufferWord 33 = .ok (.i2l, 1) := dk_133 (dk_at dksX6_isBufferWord_1 9 rfl rfl)
theorem dX6_isBufferWord_34 : decode cX6_isBufferWord 34 = .ok (.ldc2_w 240, 3) := dk_20 0 240 (dk_at dksX6_isBufferWord_1 10 rfl rfl)
theorem dX6_isBufferWord_37 : decode cX6_isBufferWord 37 = .ok (.ldc2_w 242, 3) := dk_20 0 242 (dk_at dksX6_isBufferWord_1 13 rfl rfl)
theorem dX6_isBufferWord_40 : decode cX6_isBufferWord 40 = .ok (.invokestatic 65, 3) := dk_184 0 65 (dk_at dksX6_isBufferWord_1 16 rfl rfl)
theorem dX6_isBufferWord_43 : decode cX6_isBufferWord 43 = .ok (.istore_n 1, 1) := dk_60 (dk_at dksX6_isBufferWord_1 19 rfl rfl)
theorem dX6_isBufferWord_44 : decode cX6_isBufferWord 44 = .ok (.iinc 2 1, 3) := dk_132 2 1 (dk_at dksX6_isBufferWord_1 20 rfl rfl)
theorem dX6_isBufferWord_47 : decode cX6_isBufferWord 47 = .ok (.goto (-32), 3) := dk_167 255 224 (dk_at dksX6_isBufferWord_2 0 rfl rfl)
theorem dX6_isBufferWord_50 : decode cX6_isBufferWord 50 = .ok (.iload_n 1, 1) := dk_27 (dk_at dksX6_isBufferWord_2 3 rfl rfl)
theorem dX6_isBufferWord_51 : decode cX6_isBufferWord 51 = .ok (.ifCond .eq 12, 3) := dk_153 0 12 (dk_at dksX6_isBufferWord_2 4 rfl rfl)
theorem dX6_isBufferWord_54 : decode cX6_isBufferWord 54 = .ok (.aload_n 0, 1) := dk_42 (dk_at dksX6_isBufferWord_2 7 rfl rfl)
theorem dX6_isBufferWord_55 : decode cX6_isBufferWord 55 = .ok (.iconst 0, 1) := dk_3 (dk_at dksX6_isBufferWord_2 8 rfl rfl)
theorem dX6_isBufferWord_56 : decode cX6_isBufferWord 56 = .ok (.aload_n 0, 1) := dk_42 (dk_at dksX6_isBufferWord_2 9 rfl rfl)
theorem dX6_isBufferWord_57 : decode cX6_isBufferWord 57 = .ok (.getfield 53, 3) := dk_180 0 53 (dk_at dksX6_isBufferWord_2 10 rfl rfl)
theorem dX6_isBufferWord_60 : decode cX6_isBufferWord 60 = .ok (.invokevirtual 266, 3) := dk_182 1 10 (dk_at dksX6_isBufferWord_2 13 rfl rfl)
theorem dX6_isBufferWord_63 : decode cX6_isBufferWord 63 = .ok (.iload_n 1, 1) := dk_27 (dk_at dksX6_isBufferWord_2 16 rfl rfl)
theorem dX6_isBufferWord_64 : decode cX6_isBufferWord 64 = .ok (.ireturn, 1) := dk_172 (dk_at dksX6_isBufferWord_2 17 rfl rfl)
abbrev cX6_cancelMessage : ByteArray := prog_14_method_156_code
def yX6_cancelMessage : MethodName := ⟨RX6, "cancelMessage", "(II)I"⟩
def dkwX6_cancelMessage_2 : List UInt8 := [182, 1, 169, 153, 0, 16, 42, 42, 27, 28, 182, 1, 110, 182, 1, 172, 167, 0, 4, 3, 172]
abbrev dktX6_cancelMessage_2 : List UInt8 := dkwX6_cancelMessage_2 ++ []
def dkwX6_cancelMessage_1 : List UInt8 := [184, 0, 65, 153, 0, 7, 4, 167, 0, 4, 3, 62, 42, 42, 27, 184, 1, 129, 29, 182, 1, 175]
abbrev dktX6_cancelMessage_1 : List UInt8 := dkwX6_cancelMessage_1 ++ dktX6_cancelMessage_2
def dkwX6_cancelMessage_0 : List UInt8 := [27, 184, 1, 129, 153, 0, 28, 28, 133, 9, 42, 180, 0, 7, 16, 12, 27, 96, 46, 4, 100, 133]
abbrev dktX6_cancelMessage_0 : List UInt8 := dkwX6_cancelMessage_0 ++ dktX6_cancelMessage_1
theorem dksX6_cancelMessage_0 : cX6_cancelMessage.data.toList.drop 0 = dktX6_cancelMessage_0 := by decide +kernel
theorem dksX6_cancelMessage_1 : cX6_cancelMessage.data.toList.drop 22 = dktX6_cancelMessage_1 := dk_seg dksX6_cancelMessage_0 22 rfl rfl
theorem dksX6_cancelMessage_2 : cX6_cancelMessage.data.toList.drop 44 = dktX6_cancelMessage_2 := dk_seg dksX6_cancelMessage_1 22 rfl rfl
theorem dX6_cancelMessage_0 : decode cX6_cancelMessage 0 = .ok (.iload_n 1, 1) := dk_27 (dk_at dksX6_cancelMessage_0 0 rfl rfl)
theorem dX6_cancelMessage_1 : decode cX6_cancelMessage 1 = .ok (.invokestatic 385, 3) := dk_184 1 129 (dk_at dksX6_cancelMessage_0 1 rfl rfl)
theorem dX6_cancelMessage_4 : decode cX6_cancelMessage 4 = .ok (.ifCond .eq 28, 3) := dk_153 0 28 (dk_at dksX6_cancelMessage_0 4 rfl rfl)
theorem dX6_cancelMessage_7 : decode cX6_cancelMessage 7 = .ok (.iload_n 2, 1) := dk_28 (dk_at dksX6_cancelMessage_0 7 rfl rfl)
theorem dX6_cancelMessage_8 : decode cX6_cancelMessage 8 = .ok (.i2l, 1) := dk_133 (dk_at dksX6_cancelMessage_0 8 rfl rfl)
theorem dX6_cancelMessage_9 : decode cX6_cancelMessage 9 = .ok (.lconst 0, 1) := dk_9 (dk_at dksX6_cancelMessage_0 9 rfl rfl)
theorem dX6_cancelMessage_10 : decode cX6_cancelMessage 10 = .ok (.aload_n 0, 1) := dk_42 (dk_at dksX6_cancelMessage_0 10 rfl rfl)
theorem dX6_cancelMessage_11 : decode cX6_cancelMessage 11 = .ok (.getfield 7, 3) := dk_180 0 7 (dk_at dksX6_cancelMessage_0 11 rfl rfl)
theorem dX6_cancelMessage_14 : decode cX6_cancelMessage 14 = .ok (.bipush 12, 2) := dk_16 12 (dk_at dksX6_cancelMessage_0 14 rfl rfl)
theorem dX6_cancelMessage_16 : decode cX6_cancelMessage 16 = .ok (.iload_n 1, 1) := dk_27 (dk_at dksX6_cancelMessage_0 16 rfl rfl)
theorem dX6_cancelMessage_17 : decode cX6_cancelMessage 17 = .ok (.iadd, 1) := dk_96 (dk_at dksX6_cancelMessage_0 17 rfl rfl)
theorem dX6_cancelMessage_18 : decode cX6_cancelMessage 18 = .ok (.iaload, 1) := dk_46 (dk_at dksX6_cancelMessage_0 18 rfl rfl)
theorem dX6_cancelMessage_19 : decode cX6_cancelMessage 19 = .ok (.iconst 1, 1) := dk_4 (dk_at dksX6_cancelMessage_0 19 rfl rfl)
theorem dX6_cancelMessage_20 : decode cX6_cancelMessage 20 = .ok (.isub, 1) := dk_100 (dk_at dksX6_cancelMessage_0 20 rfl rfl)
theorem dX6_cancelMessage_21 : decode cX6_cancelMessage 21 = .ok (.i2l, 1) := dk_133 (dk_at dksX6_cancelMessage_0 21 rfl rfl)
theorem dX6_cancelMessage_22 : decode cX6_cancelMessage 22 = .ok (.invokestatic 65, 3) := dk_184 0 65 (dk_at dksX6_cancelMessage_1 0 rfl rfl)
theorem dX6_cancelMessage_25 : decode cX6_cancelMessage 25 = .ok (.ifCond .eq 7, 3) := dk_153 0 7 (dk_at dksX6_cancelMessage_1 3 rfl rfl)
theorem dX6_cancelMessage_28 : decode cX6_cancelMessage 28 = .ok (.iconst 1, 1) := dk_4 (dk_at dksX6_cancelMessage_1 6 rfl rfl)
theorem dX6_cancelMessage_29 : decode cX6_cancelMessage 29 = .ok (.goto 4, 3) := dk_167 0 4 (dk_at dksX6_cancelMessage_1 7 rfl rfl)
theorem dX6_cancelMessage_32 : decode cX6_cancelMessage 32 = .ok (.iconst 0, 1) := dk_3 (dk_at dksX6_cancelMessage_1 10 rfl rfl)
theorem dX6_cancelMessage_33 : decode cX6_cancelMessage 33 = .ok (.istore_n 3, 1) := dk_62 (dk_at dksX6_cancelMessage_1 11 rfl rfl)
theorem dX6_cancelMessage_34 : decode cX6_cancelMessage 34 = .ok (.aload_n 0, 1) := dk_42 (dk_at dksX6_cancelMessage_1 12 rfl rfl)
theorem dX6_cancelMessage_35 : decode cX6_cancelMessage 35 = .ok (.aload_n 0, 1) := dk_42 (dk_at dksX6_cancelMessage_1 13 rfl rfl)
theorem dX6_cancelMessage_36 : decode cX6_cancelMessage 36 = .ok (.iload_n 1, 1) := dk_27 (dk_at dksX6_cancelMessage_1 14 rfl rfl)
theorem dX6_cancelMessage_37 : decode cX6_cancelMessage 37 = .ok (.invokestatic 385, 3) := dk_184 1 129 (dk_at dksX6_cancelMessage_1 15 rfl rfl)
theorem dX6_cancelMessage_40 : decode cX6_cancelMessage 40 = .ok (.iload_n 3, 1) := dk_29 (dk_at dksX6_cancelMessage_1 18 rfl rfl)
theorem dX6_cancelMessage_41 : decode cX6_cancelMessage 41 = .ok (.invokevirtual 431, 3) := dk_182 1 175 (dk_at dksX6_cancelMessage_1 19 rfl rfl)
theorem dX6_cancelMessage_44 : decode cX6_cancelMessage 44 = .ok (.invokevirtual 425, 3) := dk_182 1 169 (dk_at dksX6_cancelMessage_2 0 rfl rfl)
theorem dX6_cancelMessage_47 : decode cX6_cancelMessage 47 = .ok (.ifCond .eq 16, 3) := dk_153 0 16 (dk_at dksX6_cancelMessage_2 3 rfl rfl)
theorem dX6_cancelMessage_50 : decode cX6_cancelMessage 50 = .ok (.aload_n 0, 1) := dk_42 (dk_at dksX6_cancelMessage_2 6 rfl rfl)
theorem dX6_cancelMessage_51 : decode cX6_cancelMessage 51 = .ok (.aload_n 0, 1) := dk_42 (dk_at dksX6_cancelMessage_2 7 rfl rfl)
theorem dX6_cancelMessage_52 : decode cX6_cancelMessage 52 = .ok (.iload_n 1, 1) := dk_27 (dk_at dksX6_cancelMessage_2 8 rfl rfl)
theorem dX6_cancelMessage_53 : decode cX6_cancelMessage 53 = .ok (.iload_n 2, 1) := dk_28 (dk_at dksX6_cancelMessage_2 9 rfl rfl)
theorem dX6_cancelMessage_54 : decode cX6_cancelMessage 54 = .ok (.invokevirtual 366, 3) := dk_182 1 110 (dk_at dksX6_cancelMessage_2 10 rfl rfl)
theorem dX6_cancelMessage_57 : decode cX6_cancelMessage 57 = .ok (.invokevirtual 428, 3) := dk_182 1 172 (dk_at dksX6_cancelMessage_2 13 rfl rfl)
theorem dX6_cancelMessage_60 : decode cX6_cancelMessage 60 = .ok (.goto 4, 3) := dk_167 0 4 (dk_at dksX6_cancelMessage_2 16 rfl rfl)
theorem dX6_cancelMessage_63 : decode cX6_cancelMessage 63 = .ok (.iconst 0, 1) := dk_3 (dk_at dksX6_cancelMessage_2 19 rfl rfl)
theorem dX6_cancelMessage_64 : decode cX6_cancelMessage 64 = .ok (.ireturn, 1) := dk_172 (dk_at dksX6_cancelMessage_2 20 rfl rfl)
abbrev cX6_setWorkLimit : ByteArray := prog_14_method_157_code
def yX6_setWorkLimit : MethodName := ⟨RX6, "setWorkLimit", "(I)I"⟩
def dkwX6_setWorkLimit_1 : List UInt8 := [182, 1, 113, 182, 1, 172, 167, 0, 4, 3, 172]
abbrev dktX6_setWorkLimit_1 : List UInt8 := dkwX6_setWorkLimit_1 ++ []
def dkwX6_setWorkLimit_0 : List UInt8 := [42, 42, 27, 133, 10, 20, 1, 8, 184, 0, 65, 182, 0, 221, 182, 1, 169, 153, 0, 15, 42, 42, 27]
abbrev dktX6_setWorkLimit_0 : List UInt8 := dkwX6_setWorkLimit_0 ++ dktX6_setWorkLimit_1
theorem dksX6_setWorkLimit_0 : cX6_setWorkLimit.data.toList.drop 0 = dktX6_setWorkLimit_0 := by decide +kernel
theorem dksX6_setWorkLimit_1 : cX6_setWorkLimit.data.toList.drop 23 = dktX6_setWorkLimit_1 := dk_seg dksX6_setWorkLimit_0 23 rfl rfl
theorem dX6_setWorkLimit_0 : decode cX6_setWorkLimit 0 = .ok (.aload_n 0, 1) := dk_42 (dk_at dksX6_setWorkLimit_0 0 rfl rfl)
theorem dX6_setWorkLimit_1 : decode cX6_setWorkLimit 1 = .ok (.aload_n 0, 1) := dk_42 (dk_at dksX6_setWorkLimit_0 1 rfl rfl)
theorem dX6_setWorkLimit_2 : decode cX6_setWorkLimit 2 = .ok (.iload_n 1, 1) := dk_27 (dk_at dksX6_setWorkLimit_0 2 rfl rfl)
theorem dX6_setWorkLimit_3 : decode cX6_setWorkLimit 3 = .ok (.i2l, 1) := dk_133 (dk_at dksX6_setWorkLimit_0 3 rfl rfl)
theorem dX6_setWorkLimit_4 : decode cX6_setWorkLimit 4 = .ok (.lconst 1, 1) := dk_10 (dk_at dksX6_setWorkLimit_0 4 rfl rfl)
theorem dX6_setWorkLimit_5 : decode cX6_setWorkLimit 5 = .ok (.ldc2_w 264, 3) := dk_20 1 8 (dk_at dksX6_setWorkLimit_0 5 rfl rfl)
theorem dX6_setWorkLimit_8 : decode cX6_setWorkLimit 8 = .ok (.invokestatic 65, 3) := dk_184 0 65 (dk_at dksX6_setWorkLimit_0 8 rfl rfl)
theorem dX6_setWorkLimit_11 : decode cX6_setWorkLimit 11 = .ok (.invokevirtual 221, 3) := dk_182 0 221 (dk_at dksX6_setWorkLimit_0 11 rfl rfl)
theorem dX6_setWorkLimit_14 : decode cX6_setWorkLimit 14 = .ok (.invokevirtual 425, 3) := dk_182 1 169 (dk_at dksX6_setWorkLimit_0 14 rfl rfl)
theorem dX6_setWorkLimit_17 : decode cX6_setWorkLimit 17 = .ok (.ifCond .eq 15, 3) := dk_153 0 15 (dk_at dksX6_setWorkLimit_0 17 rfl rfl)
theorem dX6_setWorkLimit_20 : decode cX6_setWorkLimit 20 = .ok (.aload_n 0, 1) := dk_42 (dk_at dksX6_setWorkLimit_0 20 rfl rfl)
theorem dX6_setWorkLimit_21 : decode cX6_setWorkLimit 21 = .ok (.aload_n 0, 1) := dk_42 (dk_at dksX6_setWorkLimit_0 21 rfl rfl)
theorem dX6_setWorkLimit_22 : decode cX6_setWorkLimit 22 = .ok (.iload_n 1, 1) := dk_27 (dk_at dksX6_setWorkLimit_0 22 rfl rfl)
theorem dX6_setWorkLimit_23 : decode cX6_setWorkLimit 23 = .ok (.invokevirtual 369, 3) := dk_182 1 113 (dk_at dksX6_setWorkLimit_1 0 rfl rfl)
theorem dX6_setWorkLimit_26 : decode cX6_setWorkLimit 26 = .ok (.invokevirtual 428, 3) := dk_182 1 172 (dk_at dksX6_setWorkLimit_1 3 rfl rfl)
theorem dX6_setWorkLimit_29 : decode cX6_setWorkLimit 29 = .ok (.goto 4, 3) := dk_167 0 4 (dk_at dksX6_setWorkLimit_1 6 rfl rfl)
theorem dX6_setWorkLimit_32 : decode cX6_setWorkLimit 32 = .ok (.iconst 0, 1) := dk_3 (dk_at dksX6_setWorkLimit_1 9 rfl rfl)
theorem dX6_setWorkLimit_33 : decode cX6_setWorkLimit 33 = .ok (.ireturn, 1) := dk_172 (dk_at dksX6_setWorkLimit_1 10 rfl rfl)
abbrev cX6_endDays : ByteArray := prog_14_method_158_code
def yX6_endDays : MethodName := ⟨RX6, "endDays", "(I)I"⟩
def dkwX6_endDays_1 : List UInt8 := [182, 1, 116, 182, 1, 172, 167, 0, 4, 3, 172]
abbrev dktX6_endDays_1 : List UInt8 := dkwX6_endDays_1 ++ []
def dkwX6_endDays_0 : List UInt8 := [42, 42, 27, 133, 10, 20, 1, 147, 184, 0, 65, 182, 0, 221, 182, 1, 169, 153, 0, 15, 42, 42, 27]
abbrev dktX6_endDays_0 : List UInt8 := dkwX6_endDays_0 ++ dktX6_endDays_1
theorem dksX6_endDays_0 : cX6_endDays.data.toList.drop 0 = dktX6_endDays_0 := by decide +kernel
theorem dksX6_endDays_1 : cX6_endDays.data.toList.drop 23 = dktX6_endDays_1 := dk_seg dksX6_endDays_0 23 rfl rfl
theorem dX6_endDays_0 : decode cX6_endDays 0 = .ok (.aload_n 0, 1) := dk_42 (dk_at dksX6_endDays_0 0 rfl rfl)
theorem dX6_endDays_1 : decode cX6_endDays 1 = .ok (.aload_n 0, 1) := dk_42 (dk_at dksX6_endDays_0 1 rfl rfl)
theorem dX6_endDays_2 : decode cX6_endDays 2 = .ok (.iload_n 1, 1) := dk_27 (dk_at dksX6_endDays_0 2 rfl rfl)
theorem dX6_endDays_3 : decode cX6_endDays 3 = .ok (.i2l, 1) := dk_133 (dk_at dksX6_endDays_0 3 rfl rfl)
theorem dX6_endDays_4 : decode cX6_endDays 4 = .ok (.lconst 1, 1) := dk_10 (dk_at dksX6_endDays_0 4 rfl rfl)
theorem dX6_endDays_5 : decode cX6_endDays 5 = .ok (.ldc2_w 403, 3) := dk_20 1 147 (dk_at dksX6_endDays_0 5 rfl rfl)
theorem dX6_endDays_8 : decode cX6_endDays 8 = .ok (.invokestatic 65, 3) := dk_184 0 65 (dk_at dksX6_endDays_0 8 rfl rfl)
theorem dX6_endDays_11 : decode cX6_endDays 11 = .ok (.invokevirtual 221, 3) := dk_182 0 221 (dk_at dksX6_endDays_0 11 rfl rfl)
theorem dX6_endDays_14 : decode cX6_endDays 14 = .ok (.invokevirtual 425, 3) := dk_182 1 169 (dk_at dksX6_endDays_0 14 rfl rfl)
theorem dX6_endDays_17 : decode cX6_endDays 17 = .ok (.ifCond .eq 15, 3) := dk_153 0 15 (dk_at dksX6_endDays_0 17 rfl rfl)
theorem dX6_endDays_20 : decode cX6_endDays 20 = .ok (.aload_n 0, 1) := dk_42 (dk_at dksX6_endDays_0 20 rfl rfl)
theorem dX6_endDays_21 : decode cX6_endDays 21 = .ok (.aload_n 0, 1) := dk_42 (dk_at dksX6_endDays_0 21 rfl rfl)
theorem dX6_endDays_22 : decode cX6_endDays 22 = .ok (.iload_n 1, 1) := dk_27 (dk_at dksX6_endDays_0 22 rfl rfl)
theorem dX6_endDays_23 : decode cX6_endDays 23 = .ok (.invokevirtual 372, 3) := dk_182 1 116 (dk_at dksX6_endDays_1 0 rfl rfl)
theorem dX6_endDays_26 : decode cX6_endDays 26 = .ok (.invokevirtual 428, 3) := dk_182 1 172 (dk_at dksX6_endDays_1 3 rfl rfl)
theorem dX6_endDays_29 : decode cX6_endDays 29 = .ok (.goto 4, 3) := dk_167 0 4 (dk_at dksX6_endDays_1 6 rfl rfl)
theorem dX6_endDays_32 : decode cX6_endDays 32 = .ok (.iconst 0, 1) := dk_3 (dk_at dksX6_endDays_1 9 rfl rfl)
theorem dX6_endDays_33 : decode cX6_endDays 33 = .ok (.ireturn, 1) := dk_172 (dk_at dksX6_endDays_1 10 rfl rfl)
abbrev cX6_undo : ByteArray := prog_14_method_159_code
def yX6_undo : MethodName := ⟨RX6, "undo", "()I"⟩
def dkwX6_undo_2 : List UInt8 := [3, 184, 0, 61, 42, 180, 1, 65, 172]
abbrev dktX6_undo_2 : List UInt8 := dkwX6_undo_2 ++ []
def dkwX6_undo_1 : List UInt8 := [180, 1, 65, 4, 100, 181, 1, 65, 42, 180, 0, 22, 17, 2, 248, 42, 180, 1, 65, 104, 42, 180, 0, 7]
abbrev dktX6_undo_1 : List UInt8 := dkwX6_undo_1 ++ dktX6_undo_2
def dkwX6_undo_0 : List UInt8 := [42, 42, 180, 1, 65, 158, 0, 7, 4, 167, 0, 4, 3, 182, 0, 221, 154, 0, 5, 3, 172, 42, 89]
abbrev dktX6_undo_0 : List UInt8 := dkwX6_undo_0 ++ dktX6_undo_1
theorem dksX6_undo_0 : cX6_undo.data.toList.drop 0 = dktX6_undo_0 := by decide +kernel
theorem dksX6_undo_1 : cX6_undo.data.toList.drop 23 = dktX6_undo_1 := dk_seg dksX6_undo_0 23 rfl rfl
theorem dksX6_undo_2 : cX6_undo.data.toList.drop 47 = dktX6_undo_2 := dk_seg dksX6_undo_1 24 rfl rfl
theorem dX6_undo_0 : decode cX6_undo 0 = .ok (.aload_n 0, 1) := dk_42 (dk_at dksX6_undo_0 0 rfl rfl)
theorem dX6_undo_1 : decode cX6_undo 1 = .ok (.aload_n 0, 1) := dk_42 (dk_at dksX6_undo_0 1 rfl rfl)
theorem dX6_undo_2 : decode cX6_undo 2 = .ok (.getfield 321, 3) := dk_180 1 65 (dk_at dksX6_undo_0 2 rfl rfl)
theorem dX6_undo_5 : decode cX6_undo 5 = .ok (.ifCond .le 7, 3) := dk_158 0 7 (dk_at dksX6_undo_0 5 rfl rfl)
theorem dX6_undo_8 : decode cX6_undo 8 = .ok (.iconst 1, 1) := dk_4 (dk_at dksX6_undo_0 8 rfl rfl)
theorem dX6_undo_9 : decode cX6_undo 9 = .ok (.goto 4, 3) := dk_167 0 4 (dk_at dksX6_undo_0 9 rfl rfl)
theorem dX6_undo_12 : decode cX6_undo 12 = .ok (.iconst 0, 1) := dk_3 (dk_at dksX6_undo_0 12 rfl rfl)
theorem dX6_undo_13 : decode cX6_undo 13 = .ok (.invokevirtual 221, 3) := dk_182 0 221 (dk_at dksX6_undo_0 13 rfl rfl)
theorem dX6_undo_16 : decode cX6_undo 16 = .ok (.ifCond .ne 5, 3) := dk_154 0 5 (dk_at dksX6_undo_0 16 rfl rfl)
theorem dX6_undo_19 : decode cX6_undo 19 = .ok (.iconst 0, 1) := dk_3 (dk_at dksX6_undo_0 19 rfl rfl)
theorem dX6_undo_20 : decode cX6_undo 20 = .ok (.ireturn, 1) := dk_172 (dk_at dksX6_undo_0 20 rfl rfl)
theorem dX6_undo_21 : decode cX6_undo 21 = .ok (.aload_n 0, 1) := dk_42 (dk_at dksX6_undo_0 21 rfl rfl)
theorem dX6_undo_22 : decode cX6_undo 22 = .ok (.dup, 1) := dk_89 (dk_at dksX6_undo_0 22 rfl rfl)
theorem dX6_undo_23 : decode cX6_undo 23 = .ok (.getfield 321, 3) := dk_180 1 65 (dk_at dksX6_undo_1 0 rfl rfl)
theorem dX6_undo_26 : decode cX6_undo 26 = .ok (.iconst 1, 1) := dk_4 (dk_at dksX6_undo_1 3 rfl rfl)
theorem dX6_undo_27 : decode cX6_undo 27 = .ok (.isub, 1) := dk_100 (dk_at dksX6_undo_1 4 rfl rfl)
theorem dX6_undo_28 : decode cX6_undo 28 = .ok (.putfield 321, 3) := dk_181 1 65 (dk_at dksX6_undo_1 5 rfl rfl)
theorem dX6_undo_31 : decode cX6_undo 31 = .ok (.aload_n 0, 1) := dk_42 (dk_at dksX6_undo_1 8 rfl rfl)
theorem dX6_undo_32 : decode cX6_undo 32 = .ok (.getfield 22, 3) := dk_180 0 22 (dk_at dksX6_undo_1 9 rfl rfl)
theorem dX6_undo_35 : decode cX6_undo 35 = .ok (.sipush 760, 3) := dk_17 2 248 (dk_at dksX6_undo_1 12 rfl rfl)
theorem dX6_undo_38 : decode cX6_undo 38 = .ok (.aload_n 0, 1) := dk_42 (dk_at dksX6_undo_1 15 rfl rfl)
theorem dX6_undo_39 : decode cX6_undo 39 = .ok (.getfield 321, 3) := dk_180 1 65 (dk_at dksX6_undo_1 16 rfl rfl)
theorem dX6_undo_42 : decode cX6_undo 42 = .ok (.imul, 1) := dk_104 (dk_at dksX6_undo_1 19 rfl rfl)
theorem dX6_undo_43 : decode cX6_undo 43 = .ok (.aload_n 0, 1) := dk_42 (dk_at dksX6_undo_1 20 rfl rfl)
theorem dX6_undo_44 : decode cX6_undo 44 = .ok (.getfield 7, 3) := dk_180 0 7 (dk_at dksX6_undo_1 21 rfl rfl)
theorem dX6_undo_47 : decode cX6_undo 47 = .ok (.iconst 0, 1) := dk_3 (dk_at dksX6_undo_2 0 rfl rfl)
theorem dX6_undo_48 : decode cX6_undo 48 = .ok (.invokestatic 61, 3) := dk_184 0 61 (dk_at dksX6_undo_2 1 rfl rfl)
theorem dX6_undo_51 : decode cX6_undo 51 = .ok (.aload_n 0, 1) := dk_42 (dk_at dksX6_undo_2 4 rfl rfl)
theorem dX6_undo_52 : decode cX6_undo 52 = .ok (.getfield 321, 3) := dk_180 1 65 (dk_at dksX6_undo_2 5 rfl rfl)
theorem dX6_undo_55 : decode cX6_undo 55 = .ok (.ireturn, 1) := dk_172 (dk_at dksX6_undo_2 8 rfl rfl)
abbrev cX6_save : ByteArray := prog_14_method_160_code
def yX6_save : MethodName := ⟨RX6, "save", "()I"⟩
def dkwX6_save_1 : List UInt8 := [180, 0, 7, 16, 6, 46, 172]
abbrev dktX6_save_1 : List UInt8 := dkwX6_save_1 ++ []
def dkwX6_save_0 : List UInt8 := [42, 3, 181, 0, 58, 42, 180, 0, 7, 3, 42, 180, 0, 13, 3, 184, 0, 61, 42, 4, 181, 1, 186, 42]
abbrev dktX6_save_0 : List UInt8 := dkwX6_save_0 ++ dktX6_save_1
theorem dksX6_save_0 : cX6_save.data.toList.drop 0 = dktX6_save_0 := by decide +kernel
theorem dksX6_save_1 : cX6_save.data.toList.drop 24 = dktX6_save_1 := dk_seg dksX6_save_0 24 rfl rfl
theorem dX6_save_0 : decode cX6_save 0 = .ok (.aload_n 0, 1) := dk_42 (dk_at dksX6_save_0 0 rfl rfl)
theorem dX6_save_1 : decode cX6_save 1 = .ok (.iconst 0, 1) := dk_3 (dk_at dksX6_save_0 1 rfl rfl)
theorem dX6_save_2 : decode cX6_save 2 = .ok (.putfield 58, 3) := dk_181 0 58 (dk_at dksX6_save_0 2 rfl rfl)
theorem dX6_save_5 : decode cX6_save 5 = .ok (.aload_n 0, 1) := dk_42 (dk_at dksX6_save_0 5 rfl rfl)
theorem dX6_save_6 : decode cX6_save 6 = .ok (.getfield 7, 3) := dk_180 0 7 (dk_at dksX6_save_0 6 rfl rfl)
theorem dX6_save_9 : decode cX6_save 9 = .ok (.iconst 0, 1) := dk_3 (dk_at dksX6_save_0 9 rfl rfl)
theorem dX6_save_10 : decode cX6_save 10 = .ok (.aload_n 0, 1) := dk_42 (dk_at dksX6_save_0 10 rfl rfl)
theorem dX6_save_11 : decode cX6_save 11 = .ok (.getfield 13, 3) := dk_180 0 13 (dk_at dksX6_save_0 11 rfl rfl)
theorem dX6_save_14 : decode cX6_save 14 = .ok (.iconst 0, 1) := dk_3 (dk_at dksX6_save_0 14 rfl rfl)
theorem dX6_save_15 : decode cX6_save 15 = .ok (.invokestatic 61, 3) := dk_184 0 61 (dk_at dksX6_save_0 15 rfl rfl)
theorem dX6_save_18 : decode cX6_save 18 = .ok (.aload_n 0, 1) := dk_42 (dk_at dksX6_save_0 18 rfl rfl)
theorem dX6_save_19 : decode cX6_save 19 = .ok (.iconst 1, 1) := dk_4 (dk_at dksX6_save_0 19 rfl rfl)
theorem dX6_save_20 : decode cX6_save 20 = .ok (.putfield 442, 3) := dk_181 1 186 (dk_at dksX6_save_0 20 rfl rfl)
theorem dX6_save_23 : decode cX6_save 23 = .ok (.aload_n 0, 1) := dk_42 (dk_at dksX6_save_0 23 rfl rfl)
theorem dX6_save_24 : decode cX6_save 24 = .ok (.getfield 7, 3) := dk_180 0 7 (dk_at dksX6_save_1 0 rfl rfl)
theorem dX6_save_27 : decode cX6_save 27 = .ok (.bipush 6, 2) := dk_16 6 (dk_at dksX6_save_1 3 rfl rfl)
theorem dX6_save_29 : decode cX6_save 29 = .ok (.iaload, 1) := dk_46 (dk_at dksX6_save_1 5 rfl rfl)
theorem dX6_save_30 : decode cX6_save 30 = .ok (.ireturn, 1) := dk_172 (dk_at dksX6_save_1 6 rfl rfl)
abbrev cX6_restore : ByteArray := prog_14_method_161_code
def yX6_restore : MethodName := ⟨RX6, "restore", "()I"⟩
def dkwX6_restore_1 : List UInt8 := [184, 0, 61, 42, 3, 181, 1, 65, 42, 180, 0, 7, 16, 6, 46, 172]
abbrev dktX6_restore_1 : List UInt8 := dkwX6_restore_1 ++ []
def dkwX6_restore_0 : List UInt8 := [42, 42, 180, 1, 186, 182, 0, 221, 154, 0, 5, 3, 172, 42, 180, 0, 13, 3, 42, 180, 0, 7, 3]
abbrev dktX6_restore_0 : List UInt8 := dkwX6_restore_0 ++ dktX6_restore_1
theorem dksX6_restore_0 : cX6_restore.data.toList.drop 0 = dktX6_restore_0 := by decide +kernel
theorem dksX6_restore_1 : cX6_restore.data.toList.drop 23 = dktX6_restore_1 := dk_seg dksX6_restore_0 23 rfl rfl
theorem dX6_restore_0 : decode cX6_restore 0 = .ok (.aload_n 0, 1) := dk_42 (dk_at dksX6_restore_0 0 rfl rfl)
theorem dX6_restore_1 : decode cX6_restore 1 = .ok (.aload_n 0, 1) := dk_42 (dk_at dksX6_restore_0 1 rfl rfl)
theorem dX6_restore_2 : decode cX6_restore 2 = .ok (.getfield 442, 3) := dk_180 1 186 (dk_at dksX6_restore_0 2 rfl rfl)
theorem dX6_restore_5 : decode cX6_restore 5 = .ok (.invokevirtual 221, 3) := dk_182 0 221 (dk_at dksX6_restore_0 5 rfl rfl)
theorem dX6_restore_8 : decode cX6_restore 8 = .ok (.ifCond .ne 5, 3) := dk_154 0 5 (dk_at dksX6_restore_0 8 rfl rfl)
theorem dX6_restore_11 : decode cX6_restore 11 = .ok (.iconst 0, 1) := dk_3 (dk_at dksX6_restore_0 11 rfl rfl)
theorem dX6_restore_12 : decode cX6_restore 12 = .ok (.ireturn, 1) := dk_172 (dk_at dksX6_restore_0 12 rfl rfl)
theorem dX6_restore_13 : decode cX6_restore 13 = .ok (.aload_n 0, 1) := dk_42 (dk_at dksX6_restore_0 13 rfl rfl)
theorem dX6_restore_14 : decode cX6_restore 14 = .ok (.getfield 13, 3) := dk_180 0 13 (dk_at dksX6_restore_0 14 rfl rfl)
theorem dX6_restore_17 : decode cX6_restore 17 = .ok (.iconst 0, 1) := dk_3 (dk_at dksX6_restore_0 17 rfl rfl)
theorem dX6_restore_18 : decode cX6_restore 18 = .ok (.aload_n 0, 1) := dk_42 (dk_at dksX6_restore_0 18 rfl rfl)
theorem dX6_restore_19 : decode cX6_restore 19 = .ok (.getfield 7, 3) := dk_180 0 7 (dk_at dksX6_restore_0 19 rfl rfl)
theorem dX6_restore_22 : decode cX6_restore 22 = .ok (.iconst 0, 1) := dk_3 (dk_at dksX6_restore_0 22 rfl rfl)
theorem dX6_restore_23 : decode cX6_restore 23 = .ok (.invokestatic 61, 3) := dk_184 0 61 (dk_at dksX6_restore_1 0 rfl rfl)
theorem dX6_restore_26 : decode cX6_restore 26 = .ok (.aload_n 0, 1) := dk_42 (dk_at dksX6_restore_1 3 rfl rfl)
theorem dX6_restore_27 : decode cX6_restore 27 = .ok (.iconst 0, 1) := dk_3 (dk_at dksX6_restore_1 4 rfl rfl)
theorem dX6_restore_28 : decode cX6_restore 28 = .ok (.putfield 321, 3) := dk_181 1 65 (dk_at dksX6_restore_1 5 rfl rfl)
theorem dX6_restore_31 : decode cX6_restore 31 = .ok (.aload_n 0, 1) := dk_42 (dk_at dksX6_restore_1 8 rfl rfl)
theorem dX6_restore_32 : decode cX6_restore 32 = .ok (.getfield 7, 3) := dk_180 0 7 (dk_at dksX6_restore_1 9 rfl rfl)
theorem dX6_restore_35 : decode cX6_restore 35 = .ok (.bipush 6, 2) := dk_16 6 (dk_at dksX6_restore_1 12 rfl rfl)
theorem dX6_restore_37 : decode cX6_restore 37 = .ok (.iaload, 1) := dk_46 (dk_at dksX6_restore_1 14 rfl rfl)
theorem dX6_restore_38 : decode cX6_restore 38 = .ok (.ireturn, 1) := dk_172 (dk_at dksX6_restore_1 15 rfl rfl)
abbrev cX6_formatHedge : ByteArray := prog_14_method_163_code
def yX6_formatHedge : MethodName := ⟨RX6, "formatHedge", "()I"⟩
def dkwX6_formatHedge_2 : List UInt8 := [172]
abbrev dktX6_formatHedge_2 : List UInt8 := dkwX6_formatHedge_2 ++ []
def dkwX6_formatHedge_1 : List UInt8 := [162, 0, 20, 42, 180, 0, 38, 27, 42, 27, 182, 1, 193, 79, 132, 1, 1, 167, 255, 232, 42, 180, 1, 190]
abbrev dktX6_formatHedge_1 : List UInt8 := dkwX6_formatHedge_1 ++ dktX6_formatHedge_2
def dkwX6_formatHedge_0 : List UInt8 := [42, 3, 181, 0, 58, 42, 42, 180, 0, 7, 3, 46, 181, 1, 190, 3, 60, 27, 42, 180, 0, 7, 3, 46]
abbrev dktX6_formatHedge_0 : List UInt8 := dkwX6_formatHedge_0 ++ dktX6_formatHedge_1
theorem dksX6_formatHedge_0 : cX6_formatHedge.data.toList.drop 0 = dktX6_formatHedge_0 := by decide +kernel
theorem dksX6_formatHedge_1 : cX6_formatHedge.data.toList.drop 24 = dktX6_formatHedge_1 := dk_seg dksX6_formatHedge_0 24 rfl rfl
theorem dksX6_formatHedge_2 : cX6_formatHedge.data.toList.drop 48 = dktX6_formatHedge_2 := dk_seg dksX6_formatHedge_1 24 rfl rfl
theorem dX6_formatHedge_0 : decode cX6_formatHedge 0 = .ok (.aload_n 0, 1) := dk_42 (dk_at dksX6_formatHedge_0 0 rfl rfl)
theorem dX6_formatHedge_1 : decode cX6_formatHedge 1 = .ok (.iconst 0, 1) := dk_3 (dk_at dksX6_formatHedge_0 1 rfl rfl)
theorem dX6_formatHedge_2 : decode cX6_formatHedge 2 = .ok (.putfield 58, 3) := dk_181 0 58 (dk_at dksX6_formatHedge_0 2 rfl rfl)
theorem dX6_formatHedge_5 : decode cX6_formatHedge 5 = .ok (.aload_n 0, 1) := dk_42 (dk_at dksX6_formatHedge_0 5 rfl rfl)
theorem dX6_formatHedge_6 : decode cX6_formatHedge 6 = .ok (.aload_n 0, 1) := dk_42 (dk_at dksX6_formatHedge_0 6 rfl rfl)
theorem dX6_formatHedge_7 : decode cX6_formatHedge 7 = .ok (.getfield 7, 3) := dk_180 0 7 (dk_at dksX6_formatHedge_0 7 rfl rfl)
theorem dX6_formatHedge_10 : decode cX6_formatHedge 10 = .ok (.iconst 0, 1) := dk_3 (dk_at dksX6_formatHedge_0 10 rfl rfl)
theorem dX6_formatHedge_11 : decode cX6_formatHedge 11 = .ok (.iaload, 1) := dk_46 (dk_at dksX6_formatHedge_0 11 rfl rfl)
theorem dX6_formatHedge_12 : decode cX6_formatHedge 12 = .ok (.putfield 446, 3) := dk_181 1 190 (dk_at dksX6_formatHedge_0 12 rfl rfl)
theorem dX6_formatHedge_15 : decode cX6_formatHedge 15 = .ok (.iconst 0, 1) := dk_3 (dk_at dksX6_formatHedge_0 15 rfl rfl)
theorem dX6_formatHedge_16 : decode cX6_formatHedge 16 = .ok (.istore_n 1, 1) := dk_60 (dk_at dksX6_formatHedge_0 16 rfl rfl)
theorem dX6_formatHedge_17 : decode cX6_formatHedge 17 = .ok (.iload_n 1, 1) := dk_27 (dk_at dksX6_formatHedge_0 17 rfl rfl)
theorem dX6_formatHedge_18 : decode cX6_formatHedge 18 = .ok (.aload_n 0, 1) := dk_42 (dk_at dksX6_formatHedge_0 18 rfl rfl)
theorem dX6_formatHedge_19 : decode cX6_formatHedge 19 = .ok (.getfield 7, 3) := dk_180 0 7 (dk_at dksX6_formatHedge_0 19 rfl rfl)
theorem dX6_formatHedge_22 : decode cX6_formatHedge 22 = .ok (.iconst 0, 1) := dk_3 (dk_at dksX6_formatHedge_0 22 rfl rfl)
theorem dX6_formatHedge_23 : decode cX6_formatHedge 23 = .ok (.iaload, 1) := dk_46 (dk_at dksX6_formatHedge_0 23 rfl rfl)
theorem dX6_formatHedge_24 : decode cX6_formatHedge 24 = .ok (.if_icmp .ge 20, 3) := dk_162 0 20 (dk_at dksX6_formatHedge_1 0 rfl rfl)
theorem dX6_formatHedge_27 : decode cX6_formatHedge 27 = .ok (.aload_n 0, 1) := dk_42 (dk_at dksX6_formatHedge_1 3 rfl rfl)
theorem dX6_formatHedge_28 : decode cX6_formatHedge 28 = .ok (.getfield 38, 3) := dk_180 0 38 (dk_at dksX6_formatHedge_1 4 rfl rfl)
theorem dX6_formatHedge_31 : decode cX6_formatHedge 31 = .ok (.iload_n 1, 1) := dk_27 (dk_at dksX6_formatHedge_1 7 rfl rfl)
theorem dX6_formatHedge_32 : decode cX6_formatHedge 32 = .ok (.aload_n 0, 1) := dk_42 (dk_at dksX6_formatHedge_1 8 rfl rfl)
theorem dX6_formatHedge_33 : decode cX6_formatHedge 33 = .ok (.iload_n 1, 1) := dk_27 (dk_at dksX6_formatHedge_1 9 rfl rfl)
theorem dX6_formatHedge_34 : decode cX6_formatHedge 34 = .ok (.invokevirtual 449, 3) := dk_182 1 193 (dk_at dksX6_formatHedge_1 10 rfl rfl)
theorem dX6_formatHedge_37 : decode cX6_formatHedge 37 = .ok (.iastore, 1) := dk_79 (dk_at dksX6_formatHedge_1 13 rfl rfl)
theorem dX6_formatHedge_38 : decode cX6_formatHedge 38 = .ok (.iinc 1 1, 3) := dk_132 1 1 (dk_at dksX6_formatHedge_1 14 rfl rfl)
theorem dX6_formatHedge_41 : decode cX6_formatHedge 41 = .ok (.goto (-24), 3) := dk_167 255 232 (dk_at dksX6_formatHedge_1 17 rfl rfl)
theorem dX6_formatHedge_44 : decode cX6_formatHedge 44 = .ok (.aload_n 0, 1) := dk_42 (dk_at dksX6_formatHedge_1 20 rfl rfl)
theorem dX6_formatHedge_45 : decode cX6_formatHedge 45 = .ok (.getfield 446, 3) := dk_180 1 190 (dk_at dksX6_formatHedge_1 21 rfl rfl)
theorem dX6_formatHedge_48 : decode cX6_formatHedge 48 = .ok (.ireturn, 1) := dk_172 (dk_at dksX6_formatHedge_2 0 rfl rfl)
abbrev cX6_markOf : ByteArray := prog_14_method_162_code
def yX6_markOf : MethodName := ⟨RX6, "markOf", "(I)I"⟩
def dkwX6_markOf_2 : List UInt8 := [42, 27, 182, 0, 77, 153, 0, 8, 16, 42, 167, 0, 5, 16, 46, 172]
abbrev dktX6_markOf_2 : List UInt8 := dkwX6_markOf_2 ++ []
def dkwX6_markOf_1 : List UInt8 := [16, 32, 100, 167, 0, 9, 42, 27, 3, 182, 0, 69, 172, 42, 27, 182, 0, 102, 153, 0, 6, 16, 61, 172]
abbrev dktX6_markOf_1 : List UInt8 := dkwX6_markOf_1 ++ dktX6_markOf_2
def dkwX6_markOf_0 : List UInt8 := [42, 27, 182, 0, 84, 153, 0, 32, 42, 27, 4, 182, 0, 69, 4, 160, 0, 15, 42, 27, 3, 182, 0, 69]
abbrev dktX6_markOf_0 : List UInt8 := dkwX6_markOf_0 ++ dktX6_markOf_1
theorem dksX6_markOf_0 : cX6_markOf.data.toList.drop 0 = dktX6_markOf_0 := by decide +kernel
theorem dksX6_markOf_1 : cX6_markOf.data.toList.drop 24 = dktX6_markOf_1 := dk_seg dksX6_markOf_0 24 rfl rfl
theorem dksX6_markOf_2 : cX6_markOf.data.toList.drop 48 = dktX6_markOf_2 := dk_seg dksX6_markOf_1 24 rfl rfl
theorem dX6_markOf_0 : decode cX6_markOf 0 = .ok (.aload_n 0, 1) := dk_42 (dk_at dksX6_markOf_0 0 rfl rfl)
theorem dX6_markOf_1 : decode cX6_markOf 1 = .ok (.iload_n 1, 1) := dk_27 (dk_at dksX6_markOf_0 1 rfl rfl)
theorem dX6_markOf_2 : decode cX6_markOf 2 = .ok (.invokevirtual 84, 3) := dk_182 0 84 (dk_at dksX6_markOf_0 2 rfl rfl)
theorem dX6_markOf_5 : decode cX6_markOf 5 = .ok (.ifCond .eq 32, 3) := dk_153 0 32 (dk_at dksX6_markOf_0 5 rfl rfl)
theorem dX6_markOf_8 : decode cX6_markOf 8 = .ok (.aload_n 0, 1) := dk_42 (dk_at dksX6_markOf_0 8 rfl rfl)
theorem dX6_markOf_9 : decode cX6_markOf 9 = .ok (.iload_n 1, 1) := dk_27 (dk_at dksX6_markOf_0 9 rfl rfl)
theorem dX6_markOf_10 : decode cX6_markOf 10 = .ok (.iconst 1, 1) := dk_4 (dk_at dksX6_markOf_0 10 rfl rfl)
theorem dX6_markOf_11 : decode cX6_markOf 11 = .ok (.invokevirtual 69, 3) := dk_182 0 69 (dk_at dksX6_markOf_0 11 rfl rfl)
theorem dX6_markOf_14 : decode cX6_markOf 14 = .ok (.iconst 1, 1) := dk_4 (dk_at dksX6_markOf_0 14 rfl rfl)
theorem dX6_markOf_15 : decode cX6_markOf 15 = .ok (.if_icmp .ne 15, 3) := dk_160 0 15 (dk_at dksX6_markOf_0 15 rfl rfl)
theorem dX6_markOf_18 : decode cX6_markOf 18 = .ok (.aload_n 0, 1) := dk_42 (dk_at dksX6_markOf_0 18 rfl rfl)
theorem dX6_markOf_19 : decode cX6_markOf 19 = .ok (.iload_n 1, 1) := dk_27 (dk_at dksX6_markOf_0 19 rfl rfl)
theorem dX6_markOf_20 : decode cX6_markOf 20 = .ok (.iconst 0, 1) := dk_3 (dk_at dksX6_markOf_0 20 rfl rfl)
theorem dX6_markOf_21 : decode cX6_markOf 21 = .ok (.invokevirtual 69, 3) := dk_182 0 69 (dk_at dksX6_markOf_0 21 rfl rfl)
theorem dX6_markOf_24 : decode cX6_markOf 24 = .ok (.bipush 32, 2) := dk_16 32 (dk_at dksX6_markOf_1 0 rfl rfl)
theorem dX6_markOf_26 : decode cX6_markOf 26 = .ok (.isub, 1) := dk_100 (dk_at dksX6_markOf_1 2 rfl rfl)
theorem dX6_markOf_27 : decode cX6_markOf 27 = .ok (.goto 9, 3) := dk_167 0 9 (dk_at dksX6_markOf_1 3 rfl rfl)
theorem dX6_markOf_30 : decode cX6_markOf 30 = .ok (.aload_n 0, 1) := dk_42 (dk_at dksX6_markOf_1 6 rfl rfl)
theorem dX6_markOf_31 : decode cX6_markOf 31 = .ok (.iload_n 1, 1) := dk_27 (dk_at dksX6_markOf_1 7 rfl rfl)
theorem dX6_markOf_32 : decode cX6_markOf 32 = .ok (.iconst 0, 1) := dk_3 (dk_at dksX6_markOf_1 8 rfl rfl)
theorem dX6_markOf_33 : decode cX6_markOf 33 = .ok (.invokevirtual 69, 3) := dk_182 0 69 (dk_at dksX6_markOf_1 9 rfl rfl)
theorem dX6_markOf_36 : decode cX6_markOf 36 = .ok (.ireturn, 1) := dk_172 (dk_at dksX6_markOf_1 12 rfl rfl)
theorem dX6_markOf_37 : decode cX6_markOf 37 = .ok (.aload_n 0, 1) := dk_42 (dk_at dksX6_markOf_1 13 rfl rfl)
theorem dX6_markOf_38 : decode cX6_markOf 38 = .ok (.iload_n 1, 1) := dk_27 (dk_at dksX6_markOf_1 14 rfl rfl)
theorem dX6_markOf_39 : decode cX6_markOf 39 = .ok (.invokevirtual 102, 3) := dk_182 0 102 (dk_at dksX6_markOf_1 15 rfl rfl)
theorem dX6_markOf_42 : decode cX6_markOf 42 = .ok (.ifCond .eq 6, 3) := dk_153 0 6 (dk_at dksX6_markOf_1 18 rfl rfl)
theorem dX6_markOf_45 : decode cX6_markOf 45 = .ok (.bipush 61, 2) := dk_16 61 (dk_at dksX6_markOf_1 21 rfl rfl)
theorem dX6_markOf_47 : decode cX6_markOf 47 = .ok (.ireturn, 1) := dk_172 (dk_at dksX6_markOf_1 23 rfl rfl)
theorem dX6_markOf_48 : decode cX6_markOf 48 = .ok (.aload_n 0, 1) := dk_42 (dk_at dksX6_markOf_2 0 rfl rfl)
theorem dX6_markOf_49 : decode cX6_markOf 49 = .ok (.iload_n 1, 1) := dk_27 (dk_at dksX6_markOf_2 1 rfl rfl)
theorem dX6_markOf_50 : decode cX6_markOf 50 = .ok (.invokevirtual 77, 3) := dk_182 0 77 (dk_at dksX6_markOf_2 2 rfl rfl)
theorem dX6_markOf_53 : decode cX6_markOf 53 = .ok (.ifCond .eq 8, 3) := dk_153 0 8 (dk_at dksX6_markOf_2 5 rfl rfl)
theorem dX6_markOf_56 : decode cX6_markOf 56 = .ok (.bipush 42, 2) := dk_16 42 (dk_at dksX6_markOf_2 8 rfl rfl)
theorem dX6_markOf_58 : decode cX6_markOf 58 = .ok (.goto 5, 3) := dk_167 0 5 (dk_at dksX6_markOf_2 10 rfl rfl)
theorem dX6_markOf_61 : decode cX6_markOf 61 = .ok (.bipush 46, 2) := dk_16 46 (dk_at dksX6_markOf_2 13 rfl rfl)
theorem dX6_markOf_63 : decode cX6_markOf 63 = .ok (.ireturn, 1) := dk_172 (dk_at dksX6_markOf_2 15 rfl rfl)
abbrev cX6_outputByte : ByteArray := prog_14_method_164_code
def yX6_outputByte : MethodName := ⟨RX6, "outputByte", "(I)I"⟩
def dkwX6_outputByte_1 : List UInt8 := [180, 0, 38, 27, 46, 167, 0, 4, 2, 172]
abbrev dktX6_outputByte_1 : List UInt8 := dkwX6_outputByte_1 ++ []
def dkwX6_outputByte_0 : List UInt8 := [42, 3, 181, 0, 58, 27, 133, 9, 42, 180, 1, 190, 4, 100, 133, 184, 0, 65, 153, 0, 12, 42]
abbrev dktX6_outputByte_0 : List UInt8 := dkwX6_outputByte_0 ++ dktX6_outputByte_1
theorem dksX6_outputByte_0 : cX6_outputByte.data.toList.drop 0 = dktX6_outputByte_0 := by decide +kernel
theorem dksX6_outputByte_1 : cX6_outputByte.data.toList.drop 22 = dktX6_outputByte_1 := dk_seg dksX6_outputByte_0 22 rfl rfl
theorem dX6_outputByte_0 : decode cX6_outputByte 0 = .ok (.aload_n 0, 1) := dk_42 (dk_at dksX6_outputByte_0 0 rfl rfl)
theorem dX6_outputByte_1 : decode cX6_outputByte 1 = .ok (.iconst 0, 1) := dk_3 (dk_at dksX6_outputByte_0 1 rfl rfl)
theorem dX6_outputByte_2 : decode cX6_outputByte 2 = .ok (.putfield 58, 3) := dk_181 0 58 (dk_at dksX6_outputByte_0 2 rfl rfl)
theorem dX6_outputByte_5 : decode cX6_outputByte 5 = .ok (.iload_n 1, 1) := dk_27 (dk_at dksX6_outputByte_0 5 rfl rfl)
theorem dX6_outputByte_6 : decode cX6_outputByte 6 = .ok (.i2l, 1) := dk_133 (dk_at dksX6_outputByte_0 6 rfl rfl)
theorem dX6_outputByte_7 : decode cX6_outputByte 7 = .ok (.lconst 0, 1) := dk_9 (dk_at dksX6_outputByte_0 7 rfl rfl)
theorem dX6_outputByte_8 : decode cX6_outputByte 8 = .ok (.aload_n 0, 1) := dk_42 (dk_at dksX6_outputByte_0 8 rfl rfl)
theorem dX6_outputByte_9 : decode cX6_outputByte 9 = .ok (.getfield 446, 3) := dk_180 1 190 (dk_at dksX6_outputByte_0 9 rfl rfl)
theorem dX6_outputByte_12 : decode cX6_outputByte 12 = .ok (.iconst 1, 1) := dk_4 (dk_at dksX6_outputByte_0 12 rfl rfl)
theorem dX6_outputByte_13 : decode cX6_outputByte 13 = .ok (.isub, 1) := dk_100 (dk_at dksX6_outputByte_0 13 rfl rfl)
theorem dX6_outputByte_14 : decode cX6_outputByte 14 = .ok (.i2l, 1) := dk_133 (dk_at dksX6_outputByte_0 14 rfl rfl)
theorem dX6_outputByte_15 : decode cX6_outputByte 15 = .ok (.invokestatic 65, 3) := dk_184 0 65 (dk_at dksX6_outputByte_0 15 rfl rfl)
theorem dX6_outputByte_18 : decode cX6_outputByte 18 = .ok (.ifCond .eq 12, 3) := dk_153 0 12 (dk_at dksX6_outputByte_0 18 rfl rfl)
theorem dX6_outputByte_21 : decode cX6_outputByte 21 = .ok (.aload_n 0, 1) := dk_42 (dk_at dksX6_outputByte_0 21 rfl rfl)
theorem dX6_outputByte_22 : decode cX6_outputByte 22 = .ok (.getfield 38, 3) := dk_180 0 38 (dk_at dksX6_outputByte_1 0 rfl rfl)
theorem dX6_outputByte_25 : decode cX6_outputByte 25 = .ok (.iload_n 1, 1) := dk_27 (dk_at dksX6_outputByte_1 3 rfl rfl)
theorem dX6_outputByte_26 : decode cX6_outputByte 26 = .ok (.iaload, 1) := dk_46 (dk_at dksX6_outputByte_1 4 rfl rfl)
theorem dX6_outputByte_27 : decode cX6_outputByte 27 = .ok (.goto 4, 3) := dk_167 0 4 (dk_at dksX6_outputByte_1 5 rfl rfl)
theorem dX6_outputByte_30 : decode cX6_outputByte 30 = .ok (.iconst (-1), 1) := dk_2 (dk_at dksX6_outputByte_1 8 rfl rfl)
theorem dX6_outputByte_31 : decode cX6_outputByte 31 = .ok (.ireturn, 1) := dk_172 (dk_at dksX6_outputByte_1 9 rfl rfl)
theorem q172 : (Jvm.Cond.initialized "HedgeMessagesModel") ∈ lw_all := lw_g (lw_at lw_m1 28 rfl) rfl
theorem q632 : (Jvm.Cond.selects "HedgeMessagesModel" ({ cls := "java/lang/Object", name := "getClass", desc := "()Ljava/lang/Class;" } : Jvm.MethodName) ({ cls := "java/lang/Object", name := "getClass", desc := "()Ljava/lang/Class;" } : Jvm.MethodName)) ∈ lw_all := lw_g (lw_at lw_m3 8 rfl) rfl
theorem q2369 : (Jvm.Cond.instantiable "HedgeMessagesModel" (23 : Nat)) ∈ lw_all := lw_g (lw_at lw_m10 65 rfl) rfl
theorem q2371 : (Jvm.Cond.instanceMethod ({ cls := "HedgeMessagesModel", name := "<init>", desc := "()V" } : Jvm.MethodName)) ∈ lw_all := lw_g (lw_at lw_m10 67 rfl) rfl
theorem q2372 : (Jvm.Cond.code ({ cls := "HedgeMessagesModel", name := "<init>", desc := "()V" } : Jvm.MethodName) prog_14_method_1_code (3 : Nat) (Option.none : Option Jvm.ClassFile.FieldType)) ∈ lw_all := lw_g (lw_at lw_m10 68 rfl) rfl
theorem q2373 : (Jvm.Cond.methodLink "HedgeMessagesModel" (1 : Nat) ({ cls := "java/lang/Object", name := "<init>", desc := "()V" } : Jvm.MethodName)) ∈ lw_all := lw_g (lw_at lw_m10 69 rfl) rfl
theorem q2374 : (Jvm.Cond.stringRef "HedgeMessagesModel" (41 : Nat) "hedge 16 4 2 5 3 4;twig 2 q 0 3;twig 9 r 1 6;nest 10 5;message 0 hello;message 1 yes;message 0 no;") ∈ lw_tbl := lw_at lw_m10 70 rfl
theorem q2375 : (Jvm.Cond.methodLink "HedgeMessagesModel" (43 : Nat) ({ cls := "java/lang/String", name := "length", desc := "()I" } : Jvm.MethodName)) ∈ lw_all := lw_g (lw_at lw_m10 71 rfl) rfl
theorem q2376 : (Jvm.Cond.methodLink "HedgeMessagesModel" (49 : Nat) ({ cls := "java/lang/String", name := "charAt", desc := "(I)C" } : Jvm.MethodName)) ∈ lw_all := lw_g (lw_at lw_m10 72 rfl) rfl
theorem q2377 : (Jvm.Cond.methodLink "HedgeMessagesModel" (55 : Nat) ({ cls := "HedgeMessagesModel", name := "load", desc := "()I" } : Jvm.MethodName)) ∈ lw_all := lw_g (lw_at lw_m10 73 rfl) rfl
theorem q2378 : (Jvm.Cond.instanceMethod ({ cls := "HedgeMessagesModel", name := "load", desc := "()I" } : Jvm.MethodName)) ∈ lw_all := lw_g (lw_at lw_m10 74 rfl) rfl
theorem q2379 : (Jvm.Cond.selects "HedgeMessagesModel" ({ cls := "HedgeMessagesModel", name := "load", desc := "()I" } : Jvm.MethodName) ({ cls := "HedgeMessagesModel", name := "load", desc := "()I" } : Jvm.MethodName)) ∈ lw_all := lw_g (lw_at lw_m10 75 rfl) rfl
theorem q2380 : (Jvm.Cond.code ({ cls := "HedgeMessagesModel", name := "load", desc := "()I" } : Jvm.MethodName) prog_14_method_88_code (2 : Nat) (Option.some Jvm.ClassFile.FieldType.int)) ∈ lw_all := lw_g (lw_at lw_m10 76 rfl) rfl
theorem q2381 : (Jvm.Cond.methodLink "HedgeMessagesModel" (61 : Nat) ({ cls := "HedgeMessagesModel", name := "copies", desc := "([II[II)V" } : Jvm.MethodName)) ∈ lw_all := lw_g (lw_at lw_m10 77 rfl) rfl
theorem q2382 : (Jvm.Cond.static ({ cls := "HedgeMessagesModel", name := "copies", desc := "([II[II)V" } : Jvm.MethodName)) ∈ lw_all := lw_g (lw_at lw_m10 78 rfl) rfl
theorem q2383 : (Jvm.Cond.code ({ cls := "HedgeMessagesModel", name := "copies", desc := "([II[II)V" } : Jvm.MethodName) prog_14_method_8_code (5 : Nat) (Option.none : Option Jvm.ClassFile.FieldType)) ∈ lw_all := lw_g (lw_at lw_m10 79 rfl) rfl
theorem q2384 : (Jvm.Cond.methodLink "HedgeMessagesModel" (308 : Nat) ({ cls := "HedgeMessagesModel", name := "startsText", desc := "()V" } : Jvm.MethodName)) ∈ lw_all := lw_g (lw_at lw_m10 80 rfl) rfl
theorem q2385 : (Jvm.Cond.privateMethod ({ cls := "HedgeMessagesModel", name := "startsText", desc := "()V" } : Jvm.MethodName)) ∈ lw_tbl := lw_at lw_m10 81 rfl
theorem q2386 : (Jvm.Cond.instanceMethod ({ cls := "HedgeMessagesModel", name := "startsText", desc := "()V" } : Jvm.MethodName)) ∈ lw_all := lw_g (lw_at lw_m10 82 rfl) rfl
theorem q2387 : (Jvm.Cond.code ({ cls := "HedgeMessagesModel", name := "startsText", desc := "()V" } : Jvm.MethodName) prog_14_method_79_code (1 : Nat) (Option.none : Option Jvm.ClassFile.FieldType)) ∈ lw_all := lw_g (lw_at lw_m10 83 rfl) rfl
theorem q2388 : (Jvm.Cond.methodLink "HedgeMessagesModel" (311 : Nat) ({ cls := "HedgeMessagesModel", name := "hedgeLine", desc := "()V" } : Jvm.MethodName)) ∈ lw_all := lw_g (lw_at lw_m10 84 rfl) rfl
theorem q2389 : (Jvm.Cond.privateMethod ({ cls := "HedgeMessagesModel", name := "hedgeLine", desc := "()V" } : Jvm.MethodName)) ∈ lw_tbl := lw_at lw_m10 85 rfl
theorem q2390 : (Jvm.Cond.instanceMethod ({ cls := "HedgeMessagesModel", name := "hedgeLine", desc := "()V" } : Jvm.MethodName)) ∈ lw_all := lw_g (lw_at lw_m10 86 rfl) rfl
theorem q2391 : (Jvm.Cond.code ({ cls := "HedgeMessagesModel", name := "hedgeLine", desc := "()V" } : Jvm.MethodName) prog_14_method_83_code (1 : Nat) (Option.none : Option Jvm.ClassFile.FieldType)) ∈ lw_all := lw_g (lw_at lw_m10 87 rfl) rfl
theorem q2392 : (Jvm.Cond.stringRef "HedgeMessagesModel" (272 : Nat) "hedge") ∈ lw_tbl := lw_at lw_m10 88 rfl
theorem q2393 : (Jvm.Cond.methodLink "HedgeMessagesModel" (274 : Nat) ({ cls := "HedgeMessagesModel", name := "sees", desc := "(Ljava/lang/String;)Z" } : Jvm.MethodName)) ∈ lw_all := lw_g (lw_at lw_m10 89 rfl) rfl
theorem q2394 : (Jvm.Cond.privateMethod ({ cls := "HedgeMessagesModel", name := "sees", desc := "(Ljava/lang/String;)Z" } : Jvm.MethodName)) ∈ lw_tbl := lw_at lw_m10 90 rfl
theorem q2395 : (Jvm.Cond.instanceMethod ({ cls := "HedgeMessagesModel", name := "sees", desc := "(Ljava/lang/String;)Z" } : Jvm.MethodName)) ∈ lw_all := lw_g (lw_at lw_m10 91 rfl) rfl
theorem q2396 : (Jvm.Cond.code ({ cls := "HedgeMessagesModel", name := "sees", desc := "(Ljava/lang/String;)Z" } : Jvm.MethodName) prog_14_method_72_code (4 : Nat) (Option.some Jvm.ClassFile.FieldType.boolean)) ∈ lw_all := lw_g (lw_at lw_m10 92 rfl) rfl
theorem q2397 : (Jvm.Cond.methodLink "HedgeMessagesModel" (250 : Nat) ({ cls := "HedgeMessagesModel", name := "next", desc := "()I" } : Jvm.MethodName)) ∈ lw_all := lw_g (lw_at lw_m10 93 rfl) rfl
theorem q2398 : (Jvm.Cond.privateMethod ({ cls := "HedgeMessagesModel", name := "next", desc := "()I" } : Jvm.MethodName)) ∈ lw_tbl := lw_at lw_m10 94 rfl
theorem q2399 : (Jvm.Cond.instanceMethod ({ cls := "HedgeMessagesModel", name := "next", desc := "()I" } : Jvm.MethodName)) ∈ lw_all := lw_g (lw_at lw_m10 95 rfl) rfl
theorem q2400 : (Jvm.Cond.code ({ cls := "HedgeMessagesModel", name := "next", desc := "()I" } : Jvm.MethodName) prog_14_method_70_code (1 : Nat) (Option.some Jvm.ClassFile.FieldType.int)) ∈ lw_all := lw_g (lw_at lw_m10 96 rfl) rfl
theorem q2401 : (Jvm.Cond.methodLink "HedgeMessagesModel" (231 : Nat) ({ cls := "HedgeMessagesModel", name := "byteAt", desc := "(I)I" } : Jvm.MethodName)) ∈ lw_all := lw_g (lw_at lw_m10 97 rfl) rfl
theorem q2402 : (Jvm.Cond.privateMethod ({ cls := "HedgeMessagesModel", name := "byteAt", desc := "(I)I" } : Jvm.MethodName)) ∈ lw_tbl := lw_at lw_m10 98 rfl
theorem q2403 : (Jvm.Cond.instanceMethod ({ cls := "HedgeMessagesModel", name := "byteAt", desc := "(I)I" } : Jvm.MethodName)) ∈ lw_all := lw_g (lw_at lw_m10 99 rfl) rfl
theorem q2404 : (Jvm.Cond.code ({ cls := "HedgeMessagesModel", name := "byteAt", desc := "(I)I" } : Jvm.MethodName) prog_14_method_69_code (2 : Nat) (Option.some Jvm.ClassFile.FieldType.int)) ∈ lw_all := lw_g (lw_at lw_m10 100 rfl) rfl
theorem q2405 : (Jvm.Cond.constantLong "HedgeMessagesModel" (240 : Nat) (97 : Int64)) ∈ lw_all := lw_g (lw_at lw_m10 101 rfl) rfl
theorem q2406 : (Jvm.Cond.constantLong "HedgeMessagesModel" (242 : Nat) (122 : Int64)) ∈ lw_all := lw_g (lw_at lw_m10 102 rfl) rfl
theorem q2407 : (Jvm.Cond.methodLink "HedgeMessagesModel" (65 : Nat) ({ cls := "HedgeMessagesModel", name := "in", desc := "(JJJ)Z" } : Jvm.MethodName)) ∈ lw_all := lw_g (lw_at lw_m10 103 rfl) rfl
theorem q2408 : (Jvm.Cond.static ({ cls := "HedgeMessagesModel", name := "in", desc := "(JJJ)Z" } : Jvm.MethodName)) ∈ lw_all := lw_g (lw_at lw_m10 104 rfl) rfl
theorem q2409 : (Jvm.Cond.code ({ cls := "HedgeMessagesModel", name := "in", desc := "(JJJ)Z" } : Jvm.MethodName) prog_14_method_3_code (6 : Nat) (Option.some Jvm.ClassFile.FieldType.boolean)) ∈ lw_all := lw_g (lw_at lw_m10 105 rfl) rfl
theorem q2410 : (Jvm.Cond.methodLink "HedgeMessagesModel" (253 : Nat) ({ cls := "HedgeMessagesModel", name := "must", desc := "(ZI)V" } : Jvm.MethodName)) ∈ lw_all := lw_g (lw_at lw_m10 106 rfl) rfl
theorem q2411 : (Jvm.Cond.privateMethod ({ cls := "HedgeMessagesModel", name := "must", desc := "(ZI)V" } : Jvm.MethodName)) ∈ lw_tbl := lw_at lw_m10 107 rfl
theorem q2412 : (Jvm.Cond.instanceMethod ({ cls := "HedgeMessagesModel", name := "must", desc := "(ZI)V" } : Jvm.MethodName)) ∈ lw_all := lw_g (lw_at lw_m10 108 rfl) rfl
theorem q2413 : (Jvm.Cond.code ({ cls := "HedgeMessagesModel", name := "must", desc := "(ZI)V" } : Jvm.MethodName) prog_14_method_71_code (3 : Nat) (Option.none : Option Jvm.ClassFile.FieldType)) ∈ lw_all := lw_g (lw_at lw_m10 109 rfl) rfl
theorem q2414 : (Jvm.Cond.methodLink "HedgeMessagesModel" (261 : Nat) ({ cls := "HedgeMessagesModel", name := "goesPast", desc := "()V" } : Jvm.MethodName)) ∈ lw_all := lw_g (lw_at lw_m10 110 rfl) rfl
theorem q2415 : (Jvm.Cond.privateMethod ({ cls := "HedgeMessagesModel", name := "goesPast", desc := "()V" } : Jvm.MethodName)) ∈ lw_tbl := lw_at lw_m10 111 rfl
theorem q2416 : (Jvm.Cond.instanceMethod ({ cls := "HedgeMessagesModel", name := "goesPast", desc := "()V" } : Jvm.MethodName)) ∈ lw_all := lw_g (lw_at lw_m10 112 rfl) rfl
theorem q2417 : (Jvm.Cond.code ({ cls := "HedgeMessagesModel", name := "goesPast", desc := "()V" } : Jvm.MethodName) prog_14_method_73_code (1 : Nat) (Option.none : Option Jvm.ClassFile.FieldType)) ∈ lw_all := lw_g (lw_at lw_m10 113 rfl) rfl
theorem q2418 : (Jvm.Cond.methodLink "HedgeMessagesModel" (278 : Nat) ({ cls := "HedgeMessagesModel", name := "number", desc := "(II)I" } : Jvm.MethodName)) ∈ lw_all := lw_g (lw_at lw_m10 114 rfl) rfl
theorem q2419 : (Jvm.Cond.privateMethod ({ cls := "HedgeMessagesModel", name := "number", desc := "(II)I" } : Jvm.MethodName)) ∈ lw_tbl := lw_at lw_m10 115 rfl
theorem q2420 : (Jvm.Cond.instanceMethod ({ cls := "HedgeMessagesModel", name := "number", desc := "(II)I" } : Jvm.MethodName)) ∈ lw_all := lw_g (lw_at lw_m10 116 rfl) rfl
theorem q2421 : (Jvm.Cond.code ({ cls := "HedgeMessagesModel", name := "number", desc := "(II)I" } : Jvm.MethodName) prog_14_method_75_code (4 : Nat) (Option.some Jvm.ClassFile.FieldType.int)) ∈ lw_all := lw_g (lw_at lw_m10 117 rfl) rfl
theorem q2422 : (Jvm.Cond.constantLong "HedgeMessagesModel" (257 : Nat) (48 : Int64)) ∈ lw_all := lw_g (lw_at lw_m10 118 rfl) rfl
theorem q2423 : (Jvm.Cond.constantLong "HedgeMessagesModel" (259 : Nat) (57 : Int64)) ∈ lw_all := lw_g (lw_at lw_m10 119 rfl) rfl
theorem q2424 : (Jvm.Cond.methodLink "HedgeMessagesModel" (281 : Nat) ({ cls := "HedgeMessagesModel", name := "semicolon", desc := "()V" } : Jvm.MethodName)) ∈ lw_all := lw_g (lw_at lw_m10 120 rfl) rfl
theorem q2425 : (Jvm.Cond.privateMethod ({ cls := "HedgeMessagesModel", name := "semicolon", desc := "()V" } : Jvm.MethodName)) ∈ lw_tbl := lw_at lw_m10 121 rfl
theorem q2426 : (Jvm.Cond.instanceMethod ({ cls := "HedgeMessagesModel", name := "semicolon", desc := "()V" } : Jvm.MethodName)) ∈ lw_all := lw_g (lw_at lw_m10 122 rfl) rfl
theorem q2427 : (Jvm.Cond.code ({ cls := "HedgeMessagesModel", name := "semicolon", desc := "()V" } : Jvm.MethodName) prog_14_method_74_code (1 : Nat) (Option.none : Option Jvm.ClassFile.FieldType)) ∈ lw_all := lw_g (lw_at lw_m10 123 rfl) rfl
theorem q2428 : (Jvm.Cond.methodLink "HedgeMessagesModel" (314 : Nat) ({ cls := "HedgeMessagesModel", name := "statement", desc := "()V" } : Jvm.MethodName)) ∈ lw_all := lw_g (lw_at lw_m10 124 rfl) rfl
theorem q2429 : (Jvm.Cond.privateMethod ({ cls := "HedgeMessagesModel", name := "statement", desc := "()V" } : Jvm.MethodName)) ∈ lw_tbl := lw_at lw_m10 125 rfl
theorem q2430 : (Jvm.Cond.instanceMethod ({ cls := "HedgeMessagesModel", name := "statement", desc := "()V" } : Jvm.MethodName)) ∈ lw_all := lw_g (lw_at lw_m10 126 rfl) rfl
theorem q2431 : (Jvm.Cond.code ({ cls := "HedgeMessagesModel", name := "statement", desc := "()V" } : Jvm.MethodName) prog_14_method_87_code (2 : Nat) (Option.none : Option Jvm.ClassFile.FieldType)) ∈ lw_all := lw_g (lw_at lw_m10 127 rfl) rfl
theorem q2432 : (Jvm.Cond.stringRef "HedgeMessagesModel" (293 : Nat) "twig") ∈ lw_tbl := lw_at lw_m10 128 rfl
theorem q2433 : (Jvm.Cond.methodLink "HedgeMessagesModel" (295 : Nat) ({ cls := "HedgeMessagesModel", name := "twigLine", desc := "()V" } : Jvm.MethodName)) ∈ lw_all := lw_g (lw_at lw_m10 129 rfl) rfl
theorem q2434 : (Jvm.Cond.privateMethod ({ cls := "HedgeMessagesModel", name := "twigLine", desc := "()V" } : Jvm.MethodName)) ∈ lw_tbl := lw_at lw_m10 130 rfl
theorem q2435 : (Jvm.Cond.instanceMethod ({ cls := "HedgeMessagesModel", name := "twigLine", desc := "()V" } : Jvm.MethodName)) ∈ lw_all := lw_g (lw_at lw_m10 131 rfl) rfl
theorem q2436 : (Jvm.Cond.code ({ cls := "HedgeMessagesModel", name := "twigLine", desc := "()V" } : Jvm.MethodName) prog_14_method_84_code (5 : Nat) (Option.none : Option Jvm.ClassFile.FieldType)) ∈ lw_all := lw_g (lw_at lw_m10 132 rfl) rfl
theorem q2437 : (Jvm.Cond.methodLink "HedgeMessagesModel" (84 : Nat) ({ cls := "HedgeMessagesModel", name := "hasTwig", desc := "(I)Z" } : Jvm.MethodName)) ∈ lw_all := lw_g (lw_at lw_m10 133 rfl) rfl
theorem q2438 : (Jvm.Cond.privateMethod ({ cls := "HedgeMessagesModel", name := "hasTwig", desc := "(I)Z" } : Jvm.MethodName)) ∈ lw_tbl := lw_at lw_m10 134 rfl
theorem q2439 : (Jvm.Cond.instanceMethod ({ cls := "HedgeMessagesModel", name := "hasTwig", desc := "(I)Z" } : Jvm.MethodName)) ∈ lw_all := lw_g (lw_at lw_m10 135 rfl) rfl
theorem q2440 : (Jvm.Cond.code ({ cls := "HedgeMessagesModel", name := "hasTwig", desc := "(I)Z" } : Jvm.MethodName) prog_14_method_15_code (2 : Nat) (Option.some Jvm.ClassFile.FieldType.boolean)) ∈ lw_all := lw_g (lw_at lw_m10 136 rfl) rfl
theorem q2441 : (Jvm.Cond.methodLink "HedgeMessagesModel" (69 : Nat) ({ cls := "HedgeMessagesModel", name := "of", desc := "(II)I" } : Jvm.MethodName)) ∈ lw_all := lw_g (lw_at lw_m10 137 rfl) rfl
theorem q2442 : (Jvm.Cond.privateMethod ({ cls := "HedgeMessagesModel", name := "of", desc := "(II)I" } : Jvm.MethodName)) ∈ lw_tbl := lw_at lw_m10 138 rfl
theorem q2443 : (Jvm.Cond.instanceMethod ({ cls := "HedgeMessagesModel", name := "of", desc := "(II)I" } : Jvm.MethodName)) ∈ lw_all := lw_g (lw_at lw_m10 139 rfl) rfl
theorem q2444 : (Jvm.Cond.code ({ cls := "HedgeMessagesModel", name := "of", desc := "(II)I" } : Jvm.MethodName) prog_14_method_11_code (3 : Nat) (Option.some Jvm.ClassFile.FieldType.int)) ∈ lw_all := lw_g (lw_at lw_m10 140 rfl) rfl
theorem q2445 : (Jvm.Cond.methodLink "HedgeMessagesModel" (284 : Nat) ({ cls := "HedgeMessagesModel", name := "letterHere", desc := "()I" } : Jvm.MethodName)) ∈ lw_all := lw_g (lw_at lw_m10 141 rfl) rfl
theorem q2446 : (Jvm.Cond.privateMethod ({ cls := "HedgeMessagesModel", name := "letterHere", desc := "()I" } : Jvm.MethodName)) ∈ lw_tbl := lw_at lw_m10 142 rfl
theorem q2447 : (Jvm.Cond.instanceMethod ({ cls := "HedgeMessagesModel", name := "letterHere", desc := "()I" } : Jvm.MethodName)) ∈ lw_all := lw_g (lw_at lw_m10 143 rfl) rfl
theorem q2448 : (Jvm.Cond.code ({ cls := "HedgeMessagesModel", name := "letterHere", desc := "()I" } : Jvm.MethodName) prog_14_method_76_code (2 : Nat) (Option.some Jvm.ClassFile.FieldType.int)) ∈ lw_all := lw_g (lw_at lw_m10 144 rfl) rfl
theorem q2449 : (Jvm.Cond.methodLink "HedgeMessagesModel" (143 : Nat) ({ cls := "HedgeMessagesModel", name := "twigComes", desc := "(IIIII)V" } : Jvm.MethodName)) ∈ lw_all := lw_g (lw_at lw_m10 145 rfl) rfl
theorem q2450 : (Jvm.Cond.privateMethod ({ cls := "HedgeMessagesModel", name := "twigComes", desc := "(IIIII)V" } : Jvm.MethodName)) ∈ lw_tbl := lw_at lw_m10 146 rfl
theorem q2451 : (Jvm.Cond.instanceMethod ({ cls := "HedgeMessagesModel", name := "twigComes", desc := "(IIIII)V" } : Jvm.MethodName)) ∈ lw_all := lw_g (lw_at lw_m10 147 rfl) rfl
theorem q2452 : (Jvm.Cond.code ({ cls := "HedgeMessagesModel", name := "twigComes", desc := "(IIIII)V" } : Jvm.MethodName) prog_14_method_20_code (6 : Nat) (Option.none : Option Jvm.ClassFile.FieldType)) ∈ lw_all := lw_g (lw_at lw_m10 148 rfl) rfl
theorem q2453 : (Jvm.Cond.methodLink "HedgeMessagesModel" (87 : Nat) ({ cls := "HedgeMessagesModel", name := "puts", desc := "(III)V" } : Jvm.MethodName)) ∈ lw_all := lw_g (lw_at lw_m10 149 rfl) rfl
theorem q2454 : (Jvm.Cond.privateMethod ({ cls := "HedgeMessagesModel", name := "puts", desc := "(III)V" } : Jvm.MethodName)) ∈ lw_tbl := lw_at lw_m10 150 rfl
theorem q2455 : (Jvm.Cond.instanceMethod ({ cls := "HedgeMessagesModel", name := "puts", desc := "(III)V" } : Jvm.MethodName)) ∈ lw_all := lw_g (lw_at lw_m10 151 rfl) rfl
theorem q2456 : (Jvm.Cond.code ({ cls := "HedgeMessagesModel", name := "puts", desc := "(III)V" } : Jvm.MethodName) prog_14_method_12_code (4 : Nat) (Option.none : Option Jvm.ClassFile.FieldType)) ∈ lw_all := lw_g (lw_at lw_m10 152 rfl) rfl
theorem q2457 : (Jvm.Cond.stringRef "HedgeMessagesModel" (298 : Nat) "nest") ∈ lw_tbl := lw_at lw_m10 153 rfl
theorem q2458 : (Jvm.Cond.methodLink "HedgeMessagesModel" (300 : Nat) ({ cls := "HedgeMessagesModel", name := "nestLine", desc := "()V" } : Jvm.MethodName)) ∈ lw_all := lw_g (lw_at lw_m10 154 rfl) rfl
theorem q2459 : (Jvm.Cond.privateMethod ({ cls := "HedgeMessagesModel", name := "nestLine", desc := "()V" } : Jvm.MethodName)) ∈ lw_tbl := lw_at lw_m10 155 rfl
theorem q2460 : (Jvm.Cond.instanceMethod ({ cls := "HedgeMessagesModel", name := "nestLine", desc := "()V" } : Jvm.MethodName)) ∈ lw_all := lw_g (lw_at lw_m10 156 rfl) rfl
theorem q2461 : (Jvm.Cond.code ({ cls := "HedgeMessagesModel", name := "nestLine", desc := "()V" } : Jvm.MethodName) prog_14_method_85_code (3 : Nat) (Option.none : Option Jvm.ClassFile.FieldType)) ∈ lw_all := lw_g (lw_at lw_m10 157 rfl) rfl
theorem q2462 : (Jvm.Cond.methodLink "HedgeMessagesModel" (77 : Nat) ({ cls := "HedgeMessagesModel", name := "hasNest", desc := "(I)Z" } : Jvm.MethodName)) ∈ lw_all := lw_g (lw_at lw_m10 158 rfl) rfl
theorem q2463 : (Jvm.Cond.privateMethod ({ cls := "HedgeMessagesModel", name := "hasNest", desc := "(I)Z" } : Jvm.MethodName)) ∈ lw_tbl := lw_at lw_m10 159 rfl
theorem q2464 : (Jvm.Cond.instanceMethod ({ cls := "HedgeMessagesModel", name := "hasNest", desc := "(I)Z" } : Jvm.MethodName)) ∈ lw_all := lw_g (lw_at lw_m10 160 rfl) rfl
theorem q2465 : (Jvm.Cond.code ({ cls := "HedgeMessagesModel", name := "hasNest", desc := "(I)Z" } : Jvm.MethodName) prog_14_method_16_code (2 : Nat) (Option.some Jvm.ClassFile.FieldType.boolean)) ∈ lw_all := lw_g (lw_at lw_m10 161 rfl) rfl
theorem q2466 : (Jvm.Cond.methodLink "HedgeMessagesModel" (73 : Nat) ({ cls := "HedgeMessagesModel", name := "isSlot", desc := "(I)Z" } : Jvm.MethodName)) ∈ lw_all := lw_g (lw_at lw_m10 162 rfl) rfl
theorem q2467 : (Jvm.Cond.privateMethod ({ cls := "HedgeMessagesModel", name := "isSlot", desc := "(I)Z" } : Jvm.MethodName)) ∈ lw_tbl := lw_at lw_m10 163 rfl
theorem q2468 : (Jvm.Cond.instanceMethod ({ cls := "HedgeMessagesModel", name := "isSlot", desc := "(I)Z" } : Jvm.MethodName)) ∈ lw_all := lw_g (lw_at lw_m10 164 rfl) rfl
theorem q2469 : (Jvm.Cond.code ({ cls := "HedgeMessagesModel", name := "isSlot", desc := "(I)Z" } : Jvm.MethodName) prog_14_method_13_code (2 : Nat) (Option.some Jvm.ClassFile.FieldType.boolean)) ∈ lw_all := lw_g (lw_at lw_m10 165 rfl) rfl
theorem q2470 : (Jvm.Cond.methodLink "HedgeMessagesModel" (209 : Nat) ({ cls := "HedgeMessagesModel", name := "nests", desc := "()I" } : Jvm.MethodName)) ∈ lw_all := lw_g (lw_at lw_m10 166 rfl) rfl
theorem q2471 : (Jvm.Cond.privateMethod ({ cls := "HedgeMessagesModel", name := "nests", desc := "()I" } : Jvm.MethodName)) ∈ lw_tbl := lw_at lw_m10 167 rfl
theorem q2472 : (Jvm.Cond.instanceMethod ({ cls := "HedgeMessagesModel", name := "nests", desc := "()I" } : Jvm.MethodName)) ∈ lw_all := lw_g (lw_at lw_m10 168 rfl) rfl
theorem q2473 : (Jvm.Cond.code ({ cls := "HedgeMessagesModel", name := "nests", desc := "()I" } : Jvm.MethodName) prog_14_method_18_code (3 : Nat) (Option.some Jvm.ClassFile.FieldType.int)) ∈ lw_all := lw_g (lw_at lw_m10 169 rfl) rfl
theorem q2474 : (Jvm.Cond.methodLink "HedgeMessagesModel" (80 : Nat) ({ cls := "HedgeMessagesModel", name := "truth", desc := "(Z)I" } : Jvm.MethodName)) ∈ lw_all := lw_g (lw_at lw_m10 170 rfl) rfl
theorem q2475 : (Jvm.Cond.static ({ cls := "HedgeMessagesModel", name := "truth", desc := "(Z)I" } : Jvm.MethodName)) ∈ lw_all := lw_g (lw_at lw_m10 171 rfl) rfl
theorem q2476 : (Jvm.Cond.code ({ cls := "HedgeMessagesModel", name := "truth", desc := "(Z)I" } : Jvm.MethodName) prog_14_method_4_code (1 : Nat) (Option.some Jvm.ClassFile.FieldType.int)) ∈ lw_all := lw_g (lw_at lw_m10 172 rfl) rfl
theorem q2477 : (Jvm.Cond.stringRef "HedgeMessagesModel" (303 : Nat) "message") ∈ lw_tbl := lw_at lw_m10 173 rfl
theorem q2478 : (Jvm.Cond.methodLink "HedgeMessagesModel" (305 : Nat) ({ cls := "HedgeMessagesModel", name := "messageLine", desc := "()V" } : Jvm.MethodName)) ∈ lw_all := lw_g (lw_at lw_m10 174 rfl) rfl
theorem q2479 : (Jvm.Cond.privateMethod ({ cls := "HedgeMessagesModel", name := "messageLine", desc := "()V" } : Jvm.MethodName)) ∈ lw_tbl := lw_at lw_m10 175 rfl
theorem q2480 : (Jvm.Cond.instanceMethod ({ cls := "HedgeMessagesModel", name := "messageLine", desc := "()V" } : Jvm.MethodName)) ∈ lw_all := lw_g (lw_at lw_m10 176 rfl) rfl
theorem q2481 : (Jvm.Cond.code ({ cls := "HedgeMessagesModel", name := "messageLine", desc := "()V" } : Jvm.MethodName) prog_14_method_86_code (3 : Nat) (Option.none : Option Jvm.ClassFile.FieldType)) ∈ lw_all := lw_g (lw_at lw_m10 177 rfl) rfl
theorem q2482 : (Jvm.Cond.methodLink "HedgeMessagesModel" (287 : Nat) ({ cls := "HedgeMessagesModel", name := "wordHere", desc := "()V" } : Jvm.MethodName)) ∈ lw_all := lw_g (lw_at lw_m10 178 rfl) rfl
theorem q2483 : (Jvm.Cond.privateMethod ({ cls := "HedgeMessagesModel", name := "wordHere", desc := "()V" } : Jvm.MethodName)) ∈ lw_tbl := lw_at lw_m10 179 rfl
theorem q2484 : (Jvm.Cond.instanceMethod ({ cls := "HedgeMessagesModel", name := "wordHere", desc := "()V" } : Jvm.MethodName)) ∈ lw_all := lw_g (lw_at lw_m10 180 rfl) rfl
theorem q2485 : (Jvm.Cond.code ({ cls := "HedgeMessagesModel", name := "wordHere", desc := "()V" } : Jvm.MethodName) prog_14_method_78_code (2 : Nat) (Option.none : Option Jvm.ClassFile.FieldType)) ∈ lw_all := lw_g (lw_at lw_m10 181 rfl) rfl
theorem q2486 : (Jvm.Cond.constantLong "HedgeMessagesModel" (264 : Nat) (12 : Int64)) ∈ lw_all := lw_g (lw_at lw_m10 182 rfl) rfl
theorem q2487 : (Jvm.Cond.methodLink "HedgeMessagesModel" (266 : Nat) ({ cls := "HedgeMessagesModel", name := "takesWord", desc := "(II)V" } : Jvm.MethodName)) ∈ lw_all := lw_g (lw_at lw_m10 183 rfl) rfl
theorem q2488 : (Jvm.Cond.privateMethod ({ cls := "HedgeMessagesModel", name := "takesWord", desc := "(II)V" } : Jvm.MethodName)) ∈ lw_tbl := lw_at lw_m10 184 rfl
theorem q2489 : (Jvm.Cond.instanceMethod ({ cls := "HedgeMessagesModel", name := "takesWord", desc := "(II)V" } : Jvm.MethodName)) ∈ lw_all := lw_g (lw_at lw_m10 185 rfl) rfl
theorem q2490 : (Jvm.Cond.code ({ cls := "HedgeMessagesModel", name := "takesWord", desc := "(II)V" } : Jvm.MethodName) prog_14_method_77_code (4 : Nat) (Option.none : Option Jvm.ClassFile.FieldType)) ∈ lw_all := lw_g (lw_at lw_m10 186 rfl) rfl
theorem q2491 : (Jvm.Cond.methodLink "HedgeMessagesModel" (290 : Nat) ({ cls := "HedgeMessagesModel", name := "messageNow", desc := "(I)Z" } : Jvm.MethodName)) ∈ lw_all := lw_g (lw_at lw_m10 187 rfl) rfl
theorem q2492 : (Jvm.Cond.privateMethod ({ cls := "HedgeMessagesModel", name := "messageNow", desc := "(I)Z" } : Jvm.MethodName)) ∈ lw_tbl := lw_at lw_m10 188 rfl
theorem q2493 : (Jvm.Cond.instanceMethod ({ cls := "HedgeMessagesModel", name := "messageNow", desc := "(I)Z" } : Jvm.MethodName)) ∈ lw_all := lw_g (lw_at lw_m10 189 rfl) rfl
theorem q2494 : (Jvm.Cond.code ({ cls := "HedgeMessagesModel", name := "messageNow", desc := "(I)Z" } : Jvm.MethodName) prog_14_method_61_code (4 : Nat) (Option.some Jvm.ClassFile.FieldType.boolean)) ∈ lw_all := lw_g (lw_at lw_m10 190 rfl) rfl
theorem q2495 : (Jvm.Cond.methodLink "HedgeMessagesModel" (114 : Nat) ({ cls := "HedgeMessagesModel", name := "waitingAt", desc := "(II)I" } : Jvm.MethodName)) ∈ lw_all := lw_g (lw_at lw_m10 191 rfl) rfl
theorem q2496 : (Jvm.Cond.static ({ cls := "HedgeMessagesModel", name := "waitingAt", desc := "(II)I" } : Jvm.MethodName)) ∈ lw_all := lw_g (lw_at lw_m10 192 rfl) rfl
theorem q2497 : (Jvm.Cond.code ({ cls := "HedgeMessagesModel", name := "waitingAt", desc := "(II)I" } : Jvm.MethodName) prog_14_method_25_code (2 : Nat) (Option.some Jvm.ClassFile.FieldType.int)) ∈ lw_all := lw_g (lw_at lw_m10 193 rfl) rfl
theorem q2498 : (Jvm.Cond.methodLink "HedgeMessagesModel" (317 : Nat) ({ cls := "HedgeMessagesModel", name := "endsText", desc := "()Z" } : Jvm.MethodName)) ∈ lw_all := lw_g (lw_at lw_m10 194 rfl) rfl
theorem q2499 : (Jvm.Cond.privateMethod ({ cls := "HedgeMessagesModel", name := "endsText", desc := "()Z" } : Jvm.MethodName)) ∈ lw_tbl := lw_at lw_m10 195 rfl
theorem q2500 : (Jvm.Cond.instanceMethod ({ cls := "HedgeMessagesModel", name := "endsText", desc := "()Z" } : Jvm.MethodName)) ∈ lw_all := lw_g (lw_at lw_m10 196 rfl) rfl
theorem q2501 : (Jvm.Cond.code ({ cls := "HedgeMessagesModel", name := "endsText", desc := "()Z" } : Jvm.MethodName) prog_14_method_80_code (1 : Nat) (Option.some Jvm.ClassFile.FieldType.boolean)) ∈ lw_all := lw_g (lw_at lw_m10 197 rfl) rfl
theorem q2502 : (Jvm.Cond.methodLink "HedgeMessagesModel" (221 : Nat) ({ cls := "HedgeMessagesModel", name := "passes", desc := "(Z)Z" } : Jvm.MethodName)) ∈ lw_all := lw_g (lw_at lw_m10 198 rfl) rfl
theorem q2503 : (Jvm.Cond.privateMethod ({ cls := "HedgeMessagesModel", name := "passes", desc := "(Z)Z" } : Jvm.MethodName)) ∈ lw_tbl := lw_at lw_m10 199 rfl
theorem q2504 : (Jvm.Cond.instanceMethod ({ cls := "HedgeMessagesModel", name := "passes", desc := "(Z)Z" } : Jvm.MethodName)) ∈ lw_all := lw_g (lw_at lw_m10 200 rfl) rfl
theorem q2505 : (Jvm.Cond.code ({ cls := "HedgeMessagesModel", name := "passes", desc := "(Z)Z" } : Jvm.MethodName) prog_14_method_5_code (2 : Nat) (Option.some Jvm.ClassFile.FieldType.boolean)) ∈ lw_all := lw_g (lw_at lw_m10 201 rfl) rfl
theorem q2506 : (Jvm.Cond.fieldLink "HedgeMessagesModel" (7 : Nat) "HedgeMessagesModel" "s" "[I") ∈ lw_all := lw_g (lw_at lw_m10 202 rfl) rfl
theorem q2507 : (Jvm.Cond.fieldLink "HedgeMessagesModel" (13 : Nat) "HedgeMessagesModel" "saved" "[I") ∈ lw_all := lw_g (lw_at lw_m10 203 rfl) rfl
theorem q2508 : (Jvm.Cond.fieldLink "HedgeMessagesModel" (16 : Nat) "HedgeMessagesModel" "held" "[I") ∈ lw_all := lw_g (lw_at lw_m10 204 rfl) rfl
theorem q2509 : (Jvm.Cond.fieldLink "HedgeMessagesModel" (19 : Nat) "HedgeMessagesModel" "aside" "[I") ∈ lw_all := lw_g (lw_at lw_m10 205 rfl) rfl
theorem q2510 : (Jvm.Cond.fieldLink "HedgeMessagesModel" (22 : Nat) "HedgeMessagesModel" "past" "[I") ∈ lw_all := lw_g (lw_at lw_m10 206 rfl) rfl
theorem q2511 : (Jvm.Cond.fieldLink "HedgeMessagesModel" (321 : Nat) "HedgeMessagesModel" "pastMany" "I") ∈ lw_all := lw_g (lw_at lw_m10 207 rfl) rfl
theorem q2512 : (Jvm.Cond.fieldLink "HedgeMessagesModel" (58 : Nat) "HedgeMessagesModel" "thrown" "I") ∈ lw_all := lw_g (lw_at lw_m10 208 rfl) rfl
theorem q2513 : (Jvm.Cond.fieldLink "HedgeMessagesModel" (442 : Nat) "HedgeMessagesModel" "isSaved" "Z") ∈ lw_all := lw_g (lw_at lw_m10 209 rfl) rfl
theorem q2514 : (Jvm.Cond.fieldLink "HedgeMessagesModel" (200 : Nat) "HedgeMessagesModel" "answer" "I") ∈ lw_all := lw_g (lw_at lw_m10 210 rfl) rfl
theorem q2515 : (Jvm.Cond.fieldLink "HedgeMessagesModel" (25 : Nat) "HedgeMessagesModel" "word" "[I") ∈ lw_all := lw_g (lw_at lw_m10 211 rfl) rfl
theorem q2516 : (Jvm.Cond.fieldLink "HedgeMessagesModel" (28 : Nat) "HedgeMessagesModel" "buffer" "[I") ∈ lw_all := lw_g (lw_at lw_m10 212 rfl) rfl
theorem q2517 : (Jvm.Cond.fieldLink "HedgeMessagesModel" (53 : Nat) "HedgeMessagesModel" "length" "I") ∈ lw_all := lw_g (lw_at lw_m10 213 rfl) rfl
theorem q2518 : (Jvm.Cond.fieldLink "HedgeMessagesModel" (228 : Nat) "HedgeMessagesModel" "at" "I") ∈ lw_all := lw_g (lw_at lw_m10 214 rfl) rfl
theorem q2519 : (Jvm.Cond.fieldLink "HedgeMessagesModel" (234 : Nat) "HedgeMessagesModel" "begin" "I") ∈ lw_all := lw_g (lw_at lw_m10 215 rfl) rfl
theorem q2520 : (Jvm.Cond.fieldLink "HedgeMessagesModel" (237 : Nat) "HedgeMessagesModel" "wordLong" "I") ∈ lw_all := lw_g (lw_at lw_m10 216 rfl) rfl
theorem q2521 : (Jvm.Cond.fieldLink "HedgeMessagesModel" (244 : Nat) "HedgeMessagesModel" "error" "I") ∈ lw_all := lw_g (lw_at lw_m10 217 rfl) rfl
theorem q2522 : (Jvm.Cond.fieldLink "HedgeMessagesModel" (247 : Nat) "HedgeMessagesModel" "errorAt" "I") ∈ lw_all := lw_g (lw_at lw_m10 218 rfl) rfl
theorem q2523 : (Jvm.Cond.fieldLink "HedgeMessagesModel" (269 : Nat) "HedgeMessagesModel" "toldError" "I") ∈ lw_all := lw_g (lw_at lw_m10 219 rfl) rfl
theorem q2524 : (Jvm.Cond.fieldLink "HedgeMessagesModel" (31 : Nat) "HedgeMessagesModel" "toldAt" "I") ∈ lw_all := lw_g (lw_at lw_m10 220 rfl) rfl
theorem q2525 : (Jvm.Cond.fieldLink "HedgeMessagesModel" (35 : Nat) "HedgeMessagesModel" "told" "[I") ∈ lw_all := lw_g (lw_at lw_m10 221 rfl) rfl
theorem q2526 : (Jvm.Cond.fieldLink "HedgeMessagesModel" (348 : Nat) "HedgeMessagesModel" "toldMany" "I") ∈ lw_all := lw_g (lw_at lw_m10 222 rfl) rfl
theorem q2527 : (Jvm.Cond.fieldLink "HedgeMessagesModel" (38 : Nat) "HedgeMessagesModel" "output" "[I") ∈ lw_all := lw_g (lw_at lw_m10 223 rfl) rfl
theorem q2528 : (Jvm.Cond.fieldLink "HedgeMessagesModel" (446 : Nat) "HedgeMessagesModel" "outputLong" "I") ∈ lw_all := lw_g (lw_at lw_m10 224 rfl) rfl
theorem q2529 : (Jvm.Cond.laysFinal "HedgeMessagesModel" "HedgeMessagesModel" "s" "[I") ∈ lw_all := lw_g (lw_at lw_m10 225 rfl) rfl
theorem q2530 : (Jvm.Cond.soleField "HedgeMessagesModel" "s") ∈ lw_all := lw_g (lw_at lw_m10 226 rfl) rfl
theorem q2531 : (Jvm.Cond.laysFinal "HedgeMessagesModel" "HedgeMessagesModel" "saved" "[I") ∈ lw_all := lw_g (lw_at lw_m10 227 rfl) rfl
theorem q2532 : (Jvm.Cond.soleField "HedgeMessagesModel" "saved") ∈ lw_all := lw_g (lw_at lw_m10 228 rfl) rfl
theorem q2533 : (Jvm.Cond.laysFinal "HedgeMessagesModel" "HedgeMessagesModel" "held" "[I") ∈ lw_all := lw_g (lw_at lw_m10 229 rfl) rfl
theorem q2534 : (Jvm.Cond.soleField "HedgeMessagesModel" "held") ∈ lw_all := lw_g (lw_at lw_m10 230 rfl) rfl
theorem q2535 : (Jvm.Cond.laysFinal "HedgeMessagesModel" "HedgeMessagesModel" "aside" "[I") ∈ lw_all := lw_g (lw_at lw_m10 231 rfl) rfl
theorem q2536 : (Jvm.Cond.soleField "HedgeMessagesModel" "aside") ∈ lw_all := lw_g (lw_at lw_m10 232 rfl) rfl
theorem q2537 : (Jvm.Cond.laysFinal "HedgeMessagesModel" "HedgeMessagesModel" "past" "[I") ∈ lw_all := lw_g (lw_at lw_m10 233 rfl) rfl
theorem q2538 : (Jvm.Cond.soleField "HedgeMessagesModel" "past") ∈ lw_all := lw_g (lw_at lw_m10 234 rfl) rfl
theorem q2539 : (Jvm.Cond.lays "HedgeMessagesModel" "HedgeMessagesModel" "pastMany" "I") ∈ lw_all := lw_g (lw_at lw_m10 235 rfl) rfl
theorem q2540 : (Jvm.Cond.soleField "HedgeMessagesModel" "pastMany") ∈ lw_all := lw_g (lw_at lw_m10 236 rfl) rfl
theorem q2541 : (Jvm.Cond.lays "HedgeMessagesModel" "HedgeMessagesModel" "thrown" "I") ∈ lw_all := lw_g (lw_at lw_m10 237 rfl) rfl
theorem q2542 : (Jvm.Cond.soleField "HedgeMessagesModel" "thrown") ∈ lw_all := lw_g (lw_at lw_m10 238 rfl) rfl
theorem q2543 : (Jvm.Cond.lays "HedgeMessagesModel" "HedgeMessagesModel" "isSaved" "Z") ∈ lw_all := lw_g (lw_at lw_m10 239 rfl) rfl
theorem q2544 : (Jvm.Cond.soleField "HedgeMessagesModel" "isSaved") ∈ lw_all := lw_g (lw_at lw_m11 0 rfl) rfl
theorem q2545 : (Jvm.Cond.lays "HedgeMessagesModel" "HedgeMessagesModel" "answer" "I") ∈ lw_all := lw_g (lw_at lw_m11 1 rfl) rfl
theorem q2546 : (Jvm.Cond.soleField "HedgeMessagesModel" "answer") ∈ lw_all := lw_g (lw_at lw_m11 2 rfl) rfl
theorem q2547 : (Jvm.Cond.laysFinal "HedgeMessagesModel" "HedgeMessagesModel" "word" "[I") ∈ lw_all := lw_g (lw_at lw_m11 3 rfl) rfl
theorem q2548 : (Jvm.Cond.soleField "HedgeMessagesModel" "word") ∈ lw_all := lw_g (lw_at lw_m11 4 rfl) rfl
theorem q2549 : (Jvm.Cond.laysFinal "HedgeMessagesModel" "HedgeMessagesModel" "buffer" "[I") ∈ lw_all := lw_g (lw_at lw_m11 5 rfl) rfl
theorem q2550 : (Jvm.Cond.soleField "HedgeMessagesModel" "buffer") ∈ lw_all := lw_g (lw_at lw_m11 6 rfl) rfl
theorem q2551 : (Jvm.Cond.lays "HedgeMessagesModel" "HedgeMessagesModel" "length" "I") ∈ lw_all := lw_g (lw_at lw_m11 7 rfl) rfl
theorem q2552 : (Jvm.Cond.soleField "HedgeMessagesModel" "length") ∈ lw_all := lw_g (lw_at lw_m11 8 rfl) rfl
theorem q2553 : (Jvm.Cond.lays "HedgeMessagesModel" "HedgeMessagesModel" "at" "I") ∈ lw_all := lw_g (lw_at lw_m11 9 rfl) rfl
theorem q2554 : (Jvm.Cond.soleField "HedgeMessagesModel" "at") ∈ lw_all := lw_g (lw_at lw_m11 10 rfl) rfl
theorem q2555 : (Jvm.Cond.lays "HedgeMessagesModel" "HedgeMessagesModel" "begin" "I") ∈ lw_all := lw_g (lw_at lw_m11 11 rfl) rfl
theorem q2556 : (Jvm.Cond.soleField "HedgeMessagesModel" "begin") ∈ lw_all := lw_g (lw_at lw_m11 12 rfl) rfl
theorem q2557 : (Jvm.Cond.lays "HedgeMessagesModel" "HedgeMessagesModel" "wordLong" "I") ∈ lw_all := lw_g (lw_at lw_m11 13 rfl) rfl
theorem q2558 : (Jvm.Cond.soleField "HedgeMessagesModel" "wordLong") ∈ lw_all := lw_g (lw_at lw_m11 14 rfl) rfl
theorem q2559 : (Jvm.Cond.lays "HedgeMessagesModel" "HedgeMessagesModel" "error" "I") ∈ lw_all := lw_g (lw_at lw_m11 15 rfl) rfl
theorem q2560 : (Jvm.Cond.soleField "HedgeMessagesModel" "error") ∈ lw_all := lw_g (lw_at lw_m11 16 rfl) rfl
theorem q2561 : (Jvm.Cond.lays "HedgeMessagesModel" "HedgeMessagesModel" "errorAt" "I") ∈ lw_all := lw_g (lw_at lw_m11 17 rfl) rfl
theorem q2562 : (Jvm.Cond.soleField "HedgeMessagesModel" "errorAt") ∈ lw_all := lw_g (lw_at lw_m11 18 rfl) rfl
theorem q2563 : (Jvm.Cond.lays "HedgeMessagesModel" "HedgeMessagesModel" "toldError" "I") ∈ lw_all := lw_g (lw_at lw_m11 19 rfl) rfl
theorem q2564 : (Jvm.Cond.soleField "HedgeMessagesModel" "toldError") ∈ lw_all := lw_g (lw_at lw_m11 20 rfl) rfl
theorem q2565 : (Jvm.Cond.lays "HedgeMessagesModel" "HedgeMessagesModel" "toldAt" "I") ∈ lw_all := lw_g (lw_at lw_m11 21 rfl) rfl
theorem q2566 : (Jvm.Cond.soleField "HedgeMessagesModel" "toldAt") ∈ lw_all := lw_g (lw_at lw_m11 22 rfl) rfl
theorem q2567 : (Jvm.Cond.laysFinal "HedgeMessagesModel" "HedgeMessagesModel" "told" "[I") ∈ lw_all := lw_g (lw_at lw_m11 23 rfl) rfl
theorem q2568 : (Jvm.Cond.soleField "HedgeMessagesModel" "told") ∈ lw_all := lw_g (lw_at lw_m11 24 rfl) rfl
theorem q2569 : (Jvm.Cond.lays "HedgeMessagesModel" "HedgeMessagesModel" "toldMany" "I") ∈ lw_all := lw_g (lw_at lw_m11 25 rfl) rfl
theorem q2570 : (Jvm.Cond.soleField "HedgeMessagesModel" "toldMany") ∈ lw_all := lw_g (lw_at lw_m11 26 rfl) rfl
theorem q2571 : (Jvm.Cond.laysFinal "HedgeMessagesModel" "HedgeMessagesModel" "output" "[I") ∈ lw_all := lw_g (lw_at lw_m11 27 rfl) rfl
theorem q2572 : (Jvm.Cond.soleField "HedgeMessagesModel" "output") ∈ lw_all := lw_g (lw_at lw_m11 28 rfl) rfl
theorem q2573 : (Jvm.Cond.lays "HedgeMessagesModel" "HedgeMessagesModel" "outputLong" "I") ∈ lw_all := lw_g (lw_at lw_m11 29 rfl) rfl
theorem q2574 : (Jvm.Cond.soleField "HedgeMessagesModel" "outputLong") ∈ lw_all := lw_g (lw_at lw_m11 30 rfl) rfl
theorem q2575 : (Jvm.Cond.superclass "HedgeMessagesModel" "java/lang/Object") ∈ lw_all := lw_g (lw_at lw_m11 31 rfl) rfl
theorem q2577 : (Jvm.Cond.instanceMethod ({ cls := "HedgeMessagesModel", name := "thrown", desc := "()I" } : Jvm.MethodName)) ∈ lw_all := lw_g (lw_at lw_m11 33 rfl) rfl
theorem q2578 : (Jvm.Cond.selects "HedgeMessagesModel" ({ cls := "HedgeMessagesModel", name := "thrown", desc := "()I" } : Jvm.MethodName) ({ cls := "HedgeMessagesModel", name := "thrown", desc := "()I" } : Jvm.MethodName)) ∈ lw_all := lw_g (lw_at lw_m11 34 rfl) rfl
theorem q2579 : (Jvm.Cond.code ({ cls := "HedgeMessagesModel", name := "thrown", desc := "()I" } : Jvm.MethodName) prog_14_method_2_code (1 : Nat) (Option.some Jvm.ClassFile.FieldType.int)) ∈ lw_all := lw_g (lw_at lw_m11 35 rfl) rfl
theorem q2581 : (Jvm.Cond.instanceMethod ({ cls := "HedgeMessagesModel", name := "append", desc := "(IIIII)I" } : Jvm.MethodName)) ∈ lw_all := lw_g (lw_at lw_m11 37 rfl) rfl
theorem q2582 : (Jvm.Cond.selects "HedgeMessagesModel" ({ cls := "HedgeMessagesModel", name := "append", desc := "(IIIII)I" } : Jvm.MethodName) ({ cls := "HedgeMessagesModel", name := "append", desc := "(IIIII)I" } : Jvm.MethodName)) ∈ lw_all := lw_g (lw_at lw_m11 38 rfl) rfl
theorem q2583 : (Jvm.Cond.code ({ cls := "HedgeMessagesModel", name := "append", desc := "(IIIII)I" } : Jvm.MethodName) prog_14_method_67_code (6 : Nat) (Option.some Jvm.ClassFile.FieldType.int)) ∈ lw_all := lw_g (lw_at lw_m11 39 rfl) rfl
theorem q2584 : (Jvm.Cond.methodLink "HedgeMessagesModel" (225 : Nat) ({ cls := "HedgeMessagesModel", name := "four", desc := "(I)V" } : Jvm.MethodName)) ∈ lw_all := lw_g (lw_at lw_m11 40 rfl) rfl
theorem q2585 : (Jvm.Cond.privateMethod ({ cls := "HedgeMessagesModel", name := "four", desc := "(I)V" } : Jvm.MethodName)) ∈ lw_tbl := lw_at lw_m11 41 rfl
theorem q2586 : (Jvm.Cond.instanceMethod ({ cls := "HedgeMessagesModel", name := "four", desc := "(I)V" } : Jvm.MethodName)) ∈ lw_all := lw_g (lw_at lw_m11 42 rfl) rfl
theorem q2587 : (Jvm.Cond.code ({ cls := "HedgeMessagesModel", name := "four", desc := "(I)V" } : Jvm.MethodName) prog_14_method_66_code (3 : Nat) (Option.none : Option Jvm.ClassFile.FieldType)) ∈ lw_all := lw_g (lw_at lw_m11 43 rfl) rfl
theorem q2589 : (Jvm.Cond.instanceMethod ({ cls := "HedgeMessagesModel", name := "truncate", desc := "(I)I" } : Jvm.MethodName)) ∈ lw_all := lw_g (lw_at lw_m11 45 rfl) rfl
theorem q2590 : (Jvm.Cond.selects "HedgeMessagesModel" ({ cls := "HedgeMessagesModel", name := "truncate", desc := "(I)I" } : Jvm.MethodName) ({ cls := "HedgeMessagesModel", name := "truncate", desc := "(I)I" } : Jvm.MethodName)) ∈ lw_all := lw_g (lw_at lw_m11 46 rfl) rfl
theorem q2591 : (Jvm.Cond.code ({ cls := "HedgeMessagesModel", name := "truncate", desc := "(I)I" } : Jvm.MethodName) prog_14_method_68_code (2 : Nat) (Option.some Jvm.ClassFile.FieldType.int)) ∈ lw_all := lw_g (lw_at lw_m11 47 rfl) rfl
theorem q2593 : (Jvm.Cond.instanceMethod ({ cls := "HedgeMessagesModel", name := "errorCode", desc := "()I" } : Jvm.MethodName)) ∈ lw_all := lw_g (lw_at lw_m11 49 rfl) rfl
theorem q2594 : (Jvm.Cond.selects "HedgeMessagesModel" ({ cls := "HedgeMessagesModel", name := "errorCode", desc := "()I" } : Jvm.MethodName) ({ cls := "HedgeMessagesModel", name := "errorCode", desc := "()I" } : Jvm.MethodName)) ∈ lw_all := lw_g (lw_at lw_m11 50 rfl) rfl
theorem q2595 : (Jvm.Cond.code ({ cls := "HedgeMessagesModel", name := "errorCode", desc := "()I" } : Jvm.MethodName) prog_14_method_81_code (1 : Nat) (Option.some Jvm.ClassFile.FieldType.int)) ∈ lw_all := lw_g (lw_at lw_m11 51 rfl) rfl
theorem q2597 : (Jvm.Cond.instanceMethod ({ cls := "HedgeMessagesModel", name := "errorPosition", desc := "()I" } : Jvm.MethodName)) ∈ lw_all := lw_g (lw_at lw_m11 53 rfl) rfl
theorem q2598 : (Jvm.Cond.selects "HedgeMessagesModel" ({ cls := "HedgeMessagesModel", name := "errorPosition", desc := "()I" } : Jvm.MethodName) ({ cls := "HedgeMessagesModel", name := "errorPosition", desc := "()I" } : Jvm.MethodName)) ∈ lw_all := lw_g (lw_at lw_m11 54 rfl) rfl
theorem q2599 : (Jvm.Cond.code ({ cls := "HedgeMessagesModel", name := "errorPosition", desc := "()I" } : Jvm.MethodName) prog_14_method_82_code (1 : Nat) (Option.some Jvm.ClassFile.FieldType.int)) ∈ lw_all := lw_g (lw_at lw_m11 55 rfl) rfl
theorem q2602 : (Jvm.Cond.instanceMethod ({ cls := "HedgeMessagesModel", name := "executeCommands", desc := "()I" } : Jvm.MethodName)) ∈ lw_all := lw_g (lw_at lw_m11 58 rfl) rfl
theorem q2603 : (Jvm.Cond.selects "HedgeMessagesModel" ({ cls := "HedgeMessagesModel", name := "executeCommands", desc := "()I" } : Jvm.MethodName) ({ cls := "HedgeMessagesModel", name := "executeCommands", desc := "()I" } : Jvm.MethodName)) ∈ lw_all := lw_g (lw_at lw_m11 59 rfl) rfl
theorem q2604 : (Jvm.Cond.code ({ cls := "HedgeMessagesModel", name := "executeCommands", desc := "()I" } : Jvm.MethodName) prog_14_method_97_code (2 : Nat) (Option.some Jvm.ClassFile.FieldType.int)) ∈ lw_all := lw_g (lw_at lw_m11 60 rfl) rfl
theorem q2605 : (Jvm.Cond.methodLink "HedgeMessagesModel" (375 : Nat) ({ cls := "HedgeMessagesModel", name := "readsOne", desc := "()V" } : Jvm.MethodName)) ∈ lw_all := lw_g (lw_at lw_m11 61 rfl) rfl
theorem q2606 : (Jvm.Cond.privateMethod ({ cls := "HedgeMessagesModel", name := "readsOne", desc := "()V" } : Jvm.MethodName)) ∈ lw_tbl := lw_at lw_m11 62 rfl
theorem q2607 : (Jvm.Cond.instanceMethod ({ cls := "HedgeMessagesModel", name := "readsOne", desc := "()V" } : Jvm.MethodName)) ∈ lw_all := lw_g (lw_at lw_m11 63 rfl) rfl
theorem q2608 : (Jvm.Cond.code ({ cls := "HedgeMessagesModel", name := "readsOne", desc := "()V" } : Jvm.MethodName) prog_14_method_94_code (2 : Nat) (Option.none : Option Jvm.ClassFile.FieldType)) ∈ lw_all := lw_g (lw_at lw_m11 64 rfl) rfl
theorem q2609 : (Jvm.Cond.methodLink "HedgeMessagesModel" (345 : Nat) ({ cls := "HedgeMessagesModel", name := "commandHere", desc := "()I" } : Jvm.MethodName)) ∈ lw_all := lw_g (lw_at lw_m11 65 rfl) rfl
theorem q2610 : (Jvm.Cond.privateMethod ({ cls := "HedgeMessagesModel", name := "commandHere", desc := "()I" } : Jvm.MethodName)) ∈ lw_tbl := lw_at lw_m11 66 rfl
theorem q2611 : (Jvm.Cond.instanceMethod ({ cls := "HedgeMessagesModel", name := "commandHere", desc := "()I" } : Jvm.MethodName)) ∈ lw_all := lw_g (lw_at lw_m11 67 rfl) rfl
theorem q2612 : (Jvm.Cond.code ({ cls := "HedgeMessagesModel", name := "commandHere", desc := "()I" } : Jvm.MethodName) prog_14_method_90_code (1 : Nat) (Option.some Jvm.ClassFile.FieldType.int)) ∈ lw_all := lw_g (lw_at lw_m11 68 rfl) rfl
theorem q2613 : (Jvm.Cond.stringRef "HedgeMessagesModel" (330 : Nat) "plant") ∈ lw_tbl := lw_at lw_m11 69 rfl
theorem q2614 : (Jvm.Cond.stringRef "HedgeMessagesModel" (332 : Nat) "remove") ∈ lw_tbl := lw_at lw_m11 70 rfl
theorem q2615 : (Jvm.Cond.stringRef "HedgeMessagesModel" (334 : Nat) "trim") ∈ lw_tbl := lw_at lw_m11 71 rfl
theorem q2616 : (Jvm.Cond.methodLink "HedgeMessagesModel" (336 : Nat) ({ cls := "HedgeMessagesModel", name := "otherCommand", desc := "()I" } : Jvm.MethodName)) ∈ lw_all := lw_g (lw_at lw_m11 72 rfl) rfl
theorem q2617 : (Jvm.Cond.privateMethod ({ cls := "HedgeMessagesModel", name := "otherCommand", desc := "()I" } : Jvm.MethodName)) ∈ lw_tbl := lw_at lw_m11 73 rfl
theorem q2618 : (Jvm.Cond.instanceMethod ({ cls := "HedgeMessagesModel", name := "otherCommand", desc := "()I" } : Jvm.MethodName)) ∈ lw_all := lw_g (lw_at lw_m11 74 rfl) rfl
theorem q2619 : (Jvm.Cond.code ({ cls := "HedgeMessagesModel", name := "otherCommand", desc := "()I" } : Jvm.MethodName) prog_14_method_89_code (1 : Nat) (Option.some Jvm.ClassFile.FieldType.int)) ∈ lw_all := lw_g (lw_at lw_m11 75 rfl) rfl
theorem q2620 : (Jvm.Cond.stringRef "HedgeMessagesModel" (324 : Nat) "cancel") ∈ lw_tbl := lw_at lw_m11 76 rfl
theorem q2621 : (Jvm.Cond.stringRef "HedgeMessagesModel" (326 : Nat) "work") ∈ lw_tbl := lw_at lw_m11 77 rfl
theorem q2622 : (Jvm.Cond.stringRef "HedgeMessagesModel" (328 : Nat) "end") ∈ lw_tbl := lw_at lw_m11 78 rfl
theorem q2623 : (Jvm.Cond.methodLink "HedgeMessagesModel" (351 : Nat) ({ cls := "HedgeMessagesModel", name := "partsOf", desc := "(II)V" } : Jvm.MethodName)) ∈ lw_all := lw_g (lw_at lw_m11 79 rfl) rfl
theorem q2624 : (Jvm.Cond.privateMethod ({ cls := "HedgeMessagesModel", name := "partsOf", desc := "(II)V" } : Jvm.MethodName)) ∈ lw_tbl := lw_at lw_m11 80 rfl
theorem q2625 : (Jvm.Cond.instanceMethod ({ cls := "HedgeMessagesModel", name := "partsOf", desc := "(II)V" } : Jvm.MethodName)) ∈ lw_all := lw_g (lw_at lw_m11 81 rfl) rfl
theorem q2626 : (Jvm.Cond.code ({ cls := "HedgeMessagesModel", name := "partsOf", desc := "(II)V" } : Jvm.MethodName) prog_14_method_93_code (3 : Nat) (Option.none : Option Jvm.ClassFile.FieldType)) ∈ lw_all := lw_g (lw_at lw_m11 82 rfl) rfl
theorem q2627 : (Jvm.Cond.methodLink "HedgeMessagesModel" (339 : Nat) ({ cls := "HedgeMessagesModel", name := "wordOf", desc := "(I)V" } : Jvm.MethodName)) ∈ lw_all := lw_g (lw_at lw_m11 83 rfl) rfl
theorem q2628 : (Jvm.Cond.privateMethod ({ cls := "HedgeMessagesModel", name := "wordOf", desc := "(I)V" } : Jvm.MethodName)) ∈ lw_tbl := lw_at lw_m11 84 rfl
theorem q2629 : (Jvm.Cond.instanceMethod ({ cls := "HedgeMessagesModel", name := "wordOf", desc := "(I)V" } : Jvm.MethodName)) ∈ lw_all := lw_g (lw_at lw_m11 85 rfl) rfl
theorem q2630 : (Jvm.Cond.code ({ cls := "HedgeMessagesModel", name := "wordOf", desc := "(I)V" } : Jvm.MethodName) prog_14_method_91_code (3 : Nat) (Option.none : Option Jvm.ClassFile.FieldType)) ∈ lw_all := lw_g (lw_at lw_m11 86 rfl) rfl
theorem q2631 : (Jvm.Cond.methodLink "HedgeMessagesModel" (342 : Nat) ({ cls := "HedgeMessagesModel", name := "slotParts", desc := "(II)V" } : Jvm.MethodName)) ∈ lw_all := lw_g (lw_at lw_m11 87 rfl) rfl
theorem q2632 : (Jvm.Cond.privateMethod ({ cls := "HedgeMessagesModel", name := "slotParts", desc := "(II)V" } : Jvm.MethodName)) ∈ lw_tbl := lw_at lw_m11 88 rfl
theorem q2633 : (Jvm.Cond.instanceMethod ({ cls := "HedgeMessagesModel", name := "slotParts", desc := "(II)V" } : Jvm.MethodName)) ∈ lw_all := lw_g (lw_at lw_m11 89 rfl) rfl
theorem q2634 : (Jvm.Cond.code ({ cls := "HedgeMessagesModel", name := "slotParts", desc := "(II)V" } : Jvm.MethodName) prog_14_method_92_code (3 : Nat) (Option.none : Option Jvm.ClassFile.FieldType)) ∈ lw_all := lw_g (lw_at lw_m11 90 rfl) rfl
theorem q2635 : (Jvm.Cond.methodLink "HedgeMessagesModel" (378 : Nat) ({ cls := "HedgeMessagesModel", name := "keeps", desc := "([I)V" } : Jvm.MethodName)) ∈ lw_all := lw_g (lw_at lw_m11 91 rfl) rfl
theorem q2636 : (Jvm.Cond.privateMethod ({ cls := "HedgeMessagesModel", name := "keeps", desc := "([I)V" } : Jvm.MethodName)) ∈ lw_tbl := lw_at lw_m11 92 rfl
theorem q2637 : (Jvm.Cond.instanceMethod ({ cls := "HedgeMessagesModel", name := "keeps", desc := "([I)V" } : Jvm.MethodName)) ∈ lw_all := lw_g (lw_at lw_m11 93 rfl) rfl
theorem q2638 : (Jvm.Cond.code ({ cls := "HedgeMessagesModel", name := "keeps", desc := "([I)V" } : Jvm.MethodName) prog_14_method_96_code (3 : Nat) (Option.none : Option Jvm.ClassFile.FieldType)) ∈ lw_all := lw_g (lw_at lw_m11 94 rfl) rfl
theorem q2639 : (Jvm.Cond.methodLink "HedgeMessagesModel" (382 : Nat) ({ cls := "HedgeMessagesModel", name := "doesOne", desc := "(I)Z" } : Jvm.MethodName)) ∈ lw_all := lw_g (lw_at lw_m11 95 rfl) rfl
theorem q2640 : (Jvm.Cond.privateMethod ({ cls := "HedgeMessagesModel", name := "doesOne", desc := "(I)Z" } : Jvm.MethodName)) ∈ lw_tbl := lw_at lw_m11 96 rfl
theorem q2641 : (Jvm.Cond.instanceMethod ({ cls := "HedgeMessagesModel", name := "doesOne", desc := "(I)Z" } : Jvm.MethodName)) ∈ lw_all := lw_g (lw_at lw_m11 97 rfl) rfl
theorem q2642 : (Jvm.Cond.code ({ cls := "HedgeMessagesModel", name := "doesOne", desc := "(I)Z" } : Jvm.MethodName) prog_14_method_95_code (5 : Nat) (Option.some Jvm.ClassFile.FieldType.boolean)) ∈ lw_all := lw_g (lw_at lw_m11 98 rfl) rfl
theorem q2643 : (Jvm.Cond.methodLink "HedgeMessagesModel" (354 : Nat) ({ cls := "HedgeMessagesModel", name := "plantNow", desc := "(II)Z" } : Jvm.MethodName)) ∈ lw_all := lw_g (lw_at lw_m11 99 rfl) rfl
theorem q2644 : (Jvm.Cond.privateMethod ({ cls := "HedgeMessagesModel", name := "plantNow", desc := "(II)Z" } : Jvm.MethodName)) ∈ lw_tbl := lw_at lw_m11 100 rfl
theorem q2645 : (Jvm.Cond.instanceMethod ({ cls := "HedgeMessagesModel", name := "plantNow", desc := "(II)Z" } : Jvm.MethodName)) ∈ lw_all := lw_g (lw_at lw_m11 101 rfl) rfl
theorem q2646 : (Jvm.Cond.code ({ cls := "HedgeMessagesModel", name := "plantNow", desc := "(II)Z" } : Jvm.MethodName) prog_14_method_56_code (3 : Nat) (Option.some Jvm.ClassFile.FieldType.boolean)) ∈ lw_all := lw_g (lw_at lw_m11 102 rfl) rfl
theorem q2647 : (Jvm.Cond.methodLink "HedgeMessagesModel" (194 : Nat) ({ cls := "HedgeMessagesModel", name := "whyNotPlant", desc := "(I)I" } : Jvm.MethodName)) ∈ lw_all := lw_g (lw_at lw_m11 103 rfl) rfl
theorem q2648 : (Jvm.Cond.privateMethod ({ cls := "HedgeMessagesModel", name := "whyNotPlant", desc := "(I)I" } : Jvm.MethodName)) ∈ lw_tbl := lw_at lw_m11 104 rfl
theorem q2649 : (Jvm.Cond.instanceMethod ({ cls := "HedgeMessagesModel", name := "whyNotPlant", desc := "(I)I" } : Jvm.MethodName)) ∈ lw_all := lw_g (lw_at lw_m11 105 rfl) rfl
theorem q2650 : (Jvm.Cond.code ({ cls := "HedgeMessagesModel", name := "whyNotPlant", desc := "(I)I" } : Jvm.MethodName) prog_14_method_50_code (2 : Nat) (Option.some Jvm.ClassFile.FieldType.int)) ∈ lw_all := lw_g (lw_at lw_m11 106 rfl) rfl
theorem q2651 : (Jvm.Cond.methodLink "HedgeMessagesModel" (102 : Nat) ({ cls := "HedgeMessagesModel", name := "isReservedAt", desc := "(I)Z" } : Jvm.MethodName)) ∈ lw_all := lw_g (lw_at lw_m11 107 rfl) rfl
theorem q2652 : (Jvm.Cond.privateMethod ({ cls := "HedgeMessagesModel", name := "isReservedAt", desc := "(I)Z" } : Jvm.MethodName)) ∈ lw_tbl := lw_at lw_m11 108 rfl
theorem q2653 : (Jvm.Cond.instanceMethod ({ cls := "HedgeMessagesModel", name := "isReservedAt", desc := "(I)Z" } : Jvm.MethodName)) ∈ lw_all := lw_g (lw_at lw_m11 109 rfl) rfl
theorem q2654 : (Jvm.Cond.code ({ cls := "HedgeMessagesModel", name := "isReservedAt", desc := "(I)Z" } : Jvm.MethodName) prog_14_method_28_code (3 : Nat) (Option.some Jvm.ClassFile.FieldType.boolean)) ∈ lw_all := lw_g (lw_at lw_m11 110 rfl) rfl
theorem q2655 : (Jvm.Cond.methodLink "HedgeMessagesModel" (95 : Nat) ({ cls := "HedgeMessagesModel", name := "postAt", desc := "(I)I" } : Jvm.MethodName)) ∈ lw_all := lw_g (lw_at lw_m11 111 rfl) rfl
theorem q2656 : (Jvm.Cond.static ({ cls := "HedgeMessagesModel", name := "postAt", desc := "(I)I" } : Jvm.MethodName)) ∈ lw_all := lw_g (lw_at lw_m11 112 rfl) rfl
theorem q2657 : (Jvm.Cond.code ({ cls := "HedgeMessagesModel", name := "postAt", desc := "(I)I" } : Jvm.MethodName) prog_14_method_24_code (1 : Nat) (Option.some Jvm.ClassFile.FieldType.int)) ∈ lw_all := lw_g (lw_at lw_m11 113 rfl) rfl
theorem q2658 : (Jvm.Cond.methodLink "HedgeMessagesModel" (98 : Nat) ({ cls := "HedgeMessagesModel", name := "reserves", desc := "(II)Z" } : Jvm.MethodName)) ∈ lw_all := lw_g (lw_at lw_m11 114 rfl) rfl
theorem q2659 : (Jvm.Cond.privateMethod ({ cls := "HedgeMessagesModel", name := "reserves", desc := "(II)Z" } : Jvm.MethodName)) ∈ lw_tbl := lw_at lw_m11 115 rfl
theorem q2660 : (Jvm.Cond.instanceMethod ({ cls := "HedgeMessagesModel", name := "reserves", desc := "(II)Z" } : Jvm.MethodName)) ∈ lw_all := lw_g (lw_at lw_m11 116 rfl) rfl
theorem q2661 : (Jvm.Cond.code ({ cls := "HedgeMessagesModel", name := "reserves", desc := "(II)Z" } : Jvm.MethodName) prog_14_method_27_code (3 : Nat) (Option.some Jvm.ClassFile.FieldType.boolean)) ∈ lw_all := lw_g (lw_at lw_m11 117 rfl) rfl
theorem q2662 : (Jvm.Cond.methodLink "HedgeMessagesModel" (91 : Nat) ({ cls := "HedgeMessagesModel", name := "progressOf", desc := "(I)I" } : Jvm.MethodName)) ∈ lw_all := lw_g (lw_at lw_m11 118 rfl) rfl
theorem q2663 : (Jvm.Cond.static ({ cls := "HedgeMessagesModel", name := "progressOf", desc := "(I)I" } : Jvm.MethodName)) ∈ lw_all := lw_g (lw_at lw_m11 119 rfl) rfl
theorem q2664 : (Jvm.Cond.code ({ cls := "HedgeMessagesModel", name := "progressOf", desc := "(I)I" } : Jvm.MethodName) prog_14_method_23_code (1 : Nat) (Option.some Jvm.ClassFile.FieldType.int)) ∈ lw_all := lw_g (lw_at lw_m11 120 rfl) rfl
theorem q2665 : (Jvm.Cond.methodLink "HedgeMessagesModel" (173 : Nat) ({ cls := "HedgeMessagesModel", name := "activeNow", desc := "()I" } : Jvm.MethodName)) ∈ lw_all := lw_g (lw_at lw_m11 121 rfl) rfl
theorem q2666 : (Jvm.Cond.privateMethod ({ cls := "HedgeMessagesModel", name := "activeNow", desc := "()I" } : Jvm.MethodName)) ∈ lw_tbl := lw_at lw_m11 122 rfl
theorem q2667 : (Jvm.Cond.instanceMethod ({ cls := "HedgeMessagesModel", name := "activeNow", desc := "()I" } : Jvm.MethodName)) ∈ lw_all := lw_g (lw_at lw_m11 123 rfl) rfl
theorem q2668 : (Jvm.Cond.code ({ cls := "HedgeMessagesModel", name := "activeNow", desc := "()I" } : Jvm.MethodName) prog_14_method_22_code (1 : Nat) (Option.some Jvm.ClassFile.FieldType.int)) ∈ lw_all := lw_g (lw_at lw_m11 124 rfl) rfl
theorem q2669 : (Jvm.Cond.methodLink "HedgeMessagesModel" (197 : Nat) ({ cls := "HedgeMessagesModel", name := "twigs", desc := "()I" } : Jvm.MethodName)) ∈ lw_all := lw_g (lw_at lw_m11 125 rfl) rfl
theorem q2670 : (Jvm.Cond.privateMethod ({ cls := "HedgeMessagesModel", name := "twigs", desc := "()I" } : Jvm.MethodName)) ∈ lw_tbl := lw_at lw_m11 126 rfl
theorem q2671 : (Jvm.Cond.instanceMethod ({ cls := "HedgeMessagesModel", name := "twigs", desc := "()I" } : Jvm.MethodName)) ∈ lw_all := lw_g (lw_at lw_m11 127 rfl) rfl
theorem q2672 : (Jvm.Cond.code ({ cls := "HedgeMessagesModel", name := "twigs", desc := "()I" } : Jvm.MethodName) prog_14_method_19_code (3 : Nat) (Option.some Jvm.ClassFile.FieldType.int)) ∈ lw_all := lw_g (lw_at lw_m11 128 rfl) rfl
theorem q2673 : (Jvm.Cond.methodLink "HedgeMessagesModel" (357 : Nat) ({ cls := "HedgeMessagesModel", name := "removeNow", desc := "(I)Z" } : Jvm.MethodName)) ∈ lw_all := lw_g (lw_at lw_m11 129 rfl) rfl
theorem q2674 : (Jvm.Cond.privateMethod ({ cls := "HedgeMessagesModel", name := "removeNow", desc := "(I)Z" } : Jvm.MethodName)) ∈ lw_tbl := lw_at lw_m11 130 rfl
theorem q2675 : (Jvm.Cond.instanceMethod ({ cls := "HedgeMessagesModel", name := "removeNow", desc := "(I)Z" } : Jvm.MethodName)) ∈ lw_all := lw_g (lw_at lw_m11 131 rfl) rfl
theorem q2676 : (Jvm.Cond.code ({ cls := "HedgeMessagesModel", name := "removeNow", desc := "(I)Z" } : Jvm.MethodName) prog_14_method_57_code (2 : Nat) (Option.some Jvm.ClassFile.FieldType.boolean)) ∈ lw_all := lw_g (lw_at lw_m11 132 rfl) rfl
theorem q2677 : (Jvm.Cond.methodLink "HedgeMessagesModel" (203 : Nat) ({ cls := "HedgeMessagesModel", name := "whyNotRemove", desc := "(I)I" } : Jvm.MethodName)) ∈ lw_all := lw_g (lw_at lw_m11 133 rfl) rfl
theorem q2678 : (Jvm.Cond.privateMethod ({ cls := "HedgeMessagesModel", name := "whyNotRemove", desc := "(I)I" } : Jvm.MethodName)) ∈ lw_tbl := lw_at lw_m11 134 rfl
theorem q2679 : (Jvm.Cond.instanceMethod ({ cls := "HedgeMessagesModel", name := "whyNotRemove", desc := "(I)I" } : Jvm.MethodName)) ∈ lw_all := lw_g (lw_at lw_m11 135 rfl) rfl
theorem q2680 : (Jvm.Cond.code ({ cls := "HedgeMessagesModel", name := "whyNotRemove", desc := "(I)I" } : Jvm.MethodName) prog_14_method_52_code (3 : Nat) (Option.some Jvm.ClassFile.FieldType.int)) ∈ lw_all := lw_g (lw_at lw_m11 136 rfl) rfl
theorem q2681 : (Jvm.Cond.methodLink "HedgeMessagesModel" (191 : Nat) ({ cls := "HedgeMessagesModel", name := "whyNotTouch", desc := "(I)I" } : Jvm.MethodName)) ∈ lw_all := lw_g (lw_at lw_m11 137 rfl) rfl
theorem q2682 : (Jvm.Cond.privateMethod ({ cls := "HedgeMessagesModel", name := "whyNotTouch", desc := "(I)I" } : Jvm.MethodName)) ∈ lw_tbl := lw_at lw_m11 138 rfl
theorem q2683 : (Jvm.Cond.instanceMethod ({ cls := "HedgeMessagesModel", name := "whyNotTouch", desc := "(I)I" } : Jvm.MethodName)) ∈ lw_all := lw_g (lw_at lw_m11 139 rfl) rfl
theorem q2684 : (Jvm.Cond.code ({ cls := "HedgeMessagesModel", name := "whyNotTouch", desc := "(I)I" } : Jvm.MethodName) prog_14_method_51_code (2 : Nat) (Option.some Jvm.ClassFile.FieldType.int)) ∈ lw_all := lw_g (lw_at lw_m11 140 rfl) rfl
theorem q2685 : (Jvm.Cond.methodLink "HedgeMessagesModel" (158 : Nat) ({ cls := "HedgeMessagesModel", name := "isSafe", desc := "(I)Z" } : Jvm.MethodName)) ∈ lw_all := lw_g (lw_at lw_m11 141 rfl) rfl
theorem q2686 : (Jvm.Cond.privateMethod ({ cls := "HedgeMessagesModel", name := "isSafe", desc := "(I)Z" } : Jvm.MethodName)) ∈ lw_tbl := lw_at lw_m11 142 rfl
theorem q2687 : (Jvm.Cond.instanceMethod ({ cls := "HedgeMessagesModel", name := "isSafe", desc := "(I)Z" } : Jvm.MethodName)) ∈ lw_all := lw_g (lw_at lw_m11 143 rfl) rfl
theorem q2688 : (Jvm.Cond.code ({ cls := "HedgeMessagesModel", name := "isSafe", desc := "(I)Z" } : Jvm.MethodName) prog_14_method_17_code (2 : Nat) (Option.some Jvm.ClassFile.FieldType.boolean)) ∈ lw_all := lw_g (lw_at lw_m11 144 rfl) rfl
theorem q2689 : (Jvm.Cond.methodLink "HedgeMessagesModel" (124 : Nat) ({ cls := "HedgeMessagesModel", name := "twigGoes", desc := "(I)V" } : Jvm.MethodName)) ∈ lw_all := lw_g (lw_at lw_m11 145 rfl) rfl
theorem q2690 : (Jvm.Cond.privateMethod ({ cls := "HedgeMessagesModel", name := "twigGoes", desc := "(I)V" } : Jvm.MethodName)) ∈ lw_tbl := lw_at lw_m11 146 rfl
theorem q2691 : (Jvm.Cond.instanceMethod ({ cls := "HedgeMessagesModel", name := "twigGoes", desc := "(I)V" } : Jvm.MethodName)) ∈ lw_all := lw_g (lw_at lw_m11 147 rfl) rfl
theorem q2692 : (Jvm.Cond.code ({ cls := "HedgeMessagesModel", name := "twigGoes", desc := "(I)V" } : Jvm.MethodName) prog_14_method_21_code (3 : Nat) (Option.none : Option Jvm.ClassFile.FieldType)) ∈ lw_all := lw_g (lw_at lw_m11 148 rfl) rfl
theorem q2693 : (Jvm.Cond.methodLink "HedgeMessagesModel" (360 : Nat) ({ cls := "HedgeMessagesModel", name := "trimNow", desc := "(II)Z" } : Jvm.MethodName)) ∈ lw_all := lw_g (lw_at lw_m11 149 rfl) rfl
theorem q2694 : (Jvm.Cond.privateMethod ({ cls := "HedgeMessagesModel", name := "trimNow", desc := "(II)Z" } : Jvm.MethodName)) ∈ lw_tbl := lw_at lw_m11 150 rfl
theorem q2695 : (Jvm.Cond.instanceMethod ({ cls := "HedgeMessagesModel", name := "trimNow", desc := "(II)Z" } : Jvm.MethodName)) ∈ lw_all := lw_g (lw_at lw_m11 151 rfl) rfl
theorem q2696 : (Jvm.Cond.code ({ cls := "HedgeMessagesModel", name := "trimNow", desc := "(II)Z" } : Jvm.MethodName) prog_14_method_58_code (3 : Nat) (Option.some Jvm.ClassFile.FieldType.boolean)) ∈ lw_all := lw_g (lw_at lw_m11 152 rfl) rfl
theorem q2697 : (Jvm.Cond.methodLink "HedgeMessagesModel" (206 : Nat) ({ cls := "HedgeMessagesModel", name := "whyNotTrim", desc := "(I)I" } : Jvm.MethodName)) ∈ lw_all := lw_g (lw_at lw_m11 153 rfl) rfl
theorem q2698 : (Jvm.Cond.privateMethod ({ cls := "HedgeMessagesModel", name := "whyNotTrim", desc := "(I)I" } : Jvm.MethodName)) ∈ lw_tbl := lw_at lw_m11 154 rfl
theorem q2699 : (Jvm.Cond.instanceMethod ({ cls := "HedgeMessagesModel", name := "whyNotTrim", desc := "(I)I" } : Jvm.MethodName)) ∈ lw_all := lw_g (lw_at lw_m11 155 rfl) rfl
theorem q2700 : (Jvm.Cond.code ({ cls := "HedgeMessagesModel", name := "whyNotTrim", desc := "(I)I" } : Jvm.MethodName) prog_14_method_53_code (3 : Nat) (Option.some Jvm.ClassFile.FieldType.int)) ∈ lw_all := lw_g (lw_at lw_m11 156 rfl) rfl
theorem q2701 : (Jvm.Cond.methodLink "HedgeMessagesModel" (153 : Nat) ({ cls := "java/lang/Math", name := "max", desc := "(II)I" } : Jvm.MethodName)) ∈ lw_all := lw_g (lw_at lw_m11 157 rfl) rfl
theorem q2702 : (Jvm.Cond.methodLink "HedgeMessagesModel" (363 : Nat) ({ cls := "HedgeMessagesModel", name := "nestNow", desc := "(II)Z" } : Jvm.MethodName)) ∈ lw_all := lw_g (lw_at lw_m11 158 rfl) rfl
theorem q2703 : (Jvm.Cond.privateMethod ({ cls := "HedgeMessagesModel", name := "nestNow", desc := "(II)Z" } : Jvm.MethodName)) ∈ lw_tbl := lw_at lw_m11 159 rfl
theorem q2704 : (Jvm.Cond.instanceMethod ({ cls := "HedgeMessagesModel", name := "nestNow", desc := "(II)Z" } : Jvm.MethodName)) ∈ lw_all := lw_g (lw_at lw_m11 160 rfl) rfl
theorem q2705 : (Jvm.Cond.code ({ cls := "HedgeMessagesModel", name := "nestNow", desc := "(II)Z" } : Jvm.MethodName) prog_14_method_60_code (3 : Nat) (Option.some Jvm.ClassFile.FieldType.boolean)) ∈ lw_all := lw_g (lw_at lw_m11 161 rfl) rfl
theorem q2706 : (Jvm.Cond.methodLink "HedgeMessagesModel" (212 : Nat) ({ cls := "HedgeMessagesModel", name := "canNest", desc := "(I)Z" } : Jvm.MethodName)) ∈ lw_all := lw_g (lw_at lw_m11 162 rfl) rfl
theorem q2707 : (Jvm.Cond.privateMethod ({ cls := "HedgeMessagesModel", name := "canNest", desc := "(I)Z" } : Jvm.MethodName)) ∈ lw_tbl := lw_at lw_m11 163 rfl
theorem q2708 : (Jvm.Cond.instanceMethod ({ cls := "HedgeMessagesModel", name := "canNest", desc := "(I)Z" } : Jvm.MethodName)) ∈ lw_all := lw_g (lw_at lw_m11 164 rfl) rfl
theorem q2709 : (Jvm.Cond.code ({ cls := "HedgeMessagesModel", name := "canNest", desc := "(I)Z" } : Jvm.MethodName) prog_14_method_59_code (2 : Nat) (Option.some Jvm.ClassFile.FieldType.boolean)) ∈ lw_all := lw_g (lw_at lw_m11 165 rfl) rfl
theorem q2710 : (Jvm.Cond.methodLink "HedgeMessagesModel" (366 : Nat) ({ cls := "HedgeMessagesModel", name := "cancelNow", desc := "(II)Z" } : Jvm.MethodName)) ∈ lw_all := lw_g (lw_at lw_m11 166 rfl) rfl
theorem q2711 : (Jvm.Cond.privateMethod ({ cls := "HedgeMessagesModel", name := "cancelNow", desc := "(II)Z" } : Jvm.MethodName)) ∈ lw_tbl := lw_at lw_m11 167 rfl
theorem q2712 : (Jvm.Cond.instanceMethod ({ cls := "HedgeMessagesModel", name := "cancelNow", desc := "(II)Z" } : Jvm.MethodName)) ∈ lw_all := lw_g (lw_at lw_m11 168 rfl) rfl
theorem q2713 : (Jvm.Cond.code ({ cls := "HedgeMessagesModel", name := "cancelNow", desc := "(II)Z" } : Jvm.MethodName) prog_14_method_62_code (3 : Nat) (Option.some Jvm.ClassFile.FieldType.boolean)) ∈ lw_all := lw_g (lw_at lw_m11 169 rfl) rfl
theorem q2714 : (Jvm.Cond.methodLink "HedgeMessagesModel" (120 : Nat) ({ cls := "HedgeMessagesModel", name := "waitsNoMore", desc := "(II)V" } : Jvm.MethodName)) ∈ lw_all := lw_g (lw_at lw_m11 170 rfl) rfl
theorem q2715 : (Jvm.Cond.privateMethod ({ cls := "HedgeMessagesModel", name := "waitsNoMore", desc := "(II)V" } : Jvm.MethodName)) ∈ lw_tbl := lw_at lw_m11 171 rfl
theorem q2716 : (Jvm.Cond.instanceMethod ({ cls := "HedgeMessagesModel", name := "waitsNoMore", desc := "(II)V" } : Jvm.MethodName)) ∈ lw_all := lw_g (lw_at lw_m11 172 rfl) rfl
theorem q2717 : (Jvm.Cond.code ({ cls := "HedgeMessagesModel", name := "waitsNoMore", desc := "(II)V" } : Jvm.MethodName) prog_14_method_35_code (5 : Nat) (Option.none : Option Jvm.ClassFile.FieldType)) ∈ lw_all := lw_g (lw_at lw_m11 173 rfl) rfl
theorem q2718 : (Jvm.Cond.methodLink "HedgeMessagesModel" (369 : Nat) ({ cls := "HedgeMessagesModel", name := "workNow", desc := "(I)Z" } : Jvm.MethodName)) ∈ lw_all := lw_g (lw_at lw_m11 174 rfl) rfl
theorem q2719 : (Jvm.Cond.privateMethod ({ cls := "HedgeMessagesModel", name := "workNow", desc := "(I)Z" } : Jvm.MethodName)) ∈ lw_tbl := lw_at lw_m11 175 rfl
theorem q2720 : (Jvm.Cond.instanceMethod ({ cls := "HedgeMessagesModel", name := "workNow", desc := "(I)Z" } : Jvm.MethodName)) ∈ lw_all := lw_g (lw_at lw_m11 176 rfl) rfl
theorem q2721 : (Jvm.Cond.code ({ cls := "HedgeMessagesModel", name := "workNow", desc := "(I)Z" } : Jvm.MethodName) prog_14_method_63_code (2 : Nat) (Option.some Jvm.ClassFile.FieldType.boolean)) ∈ lw_all := lw_g (lw_at lw_m11 177 rfl) rfl
theorem q2722 : (Jvm.Cond.methodLink "HedgeMessagesModel" (372 : Nat) ({ cls := "HedgeMessagesModel", name := "endNow", desc := "(I)Z" } : Jvm.MethodName)) ∈ lw_all := lw_g (lw_at lw_m11 178 rfl) rfl
theorem q2723 : (Jvm.Cond.privateMethod ({ cls := "HedgeMessagesModel", name := "endNow", desc := "(I)Z" } : Jvm.MethodName)) ∈ lw_tbl := lw_at lw_m11 179 rfl
theorem q2724 : (Jvm.Cond.instanceMethod ({ cls := "HedgeMessagesModel", name := "endNow", desc := "(I)Z" } : Jvm.MethodName)) ∈ lw_all := lw_g (lw_at lw_m11 180 rfl) rfl
theorem q2725 : (Jvm.Cond.code ({ cls := "HedgeMessagesModel", name := "endNow", desc := "(I)Z" } : Jvm.MethodName) prog_14_method_65_code (3 : Nat) (Option.some Jvm.ClassFile.FieldType.boolean)) ∈ lw_all := lw_g (lw_at lw_m11 181 rfl) rfl
theorem q2726 : (Jvm.Cond.methodLink "HedgeMessagesModel" (215 : Nat) ({ cls := "HedgeMessagesModel", name := "delivered", desc := "()I" } : Jvm.MethodName)) ∈ lw_all := lw_g (lw_at lw_m11 182 rfl) rfl
theorem q2727 : (Jvm.Cond.privateMethod ({ cls := "HedgeMessagesModel", name := "delivered", desc := "()I" } : Jvm.MethodName)) ∈ lw_tbl := lw_at lw_m11 183 rfl
theorem q2728 : (Jvm.Cond.instanceMethod ({ cls := "HedgeMessagesModel", name := "delivered", desc := "()I" } : Jvm.MethodName)) ∈ lw_all := lw_g (lw_at lw_m11 184 rfl) rfl
theorem q2729 : (Jvm.Cond.code ({ cls := "HedgeMessagesModel", name := "delivered", desc := "()I" } : Jvm.MethodName) prog_14_method_64_code (1 : Nat) (Option.some Jvm.ClassFile.FieldType.int)) ∈ lw_all := lw_g (lw_at lw_m11 185 rfl) rfl
theorem q2730 : (Jvm.Cond.methodLink "HedgeMessagesModel" (218 : Nat) ({ cls := "HedgeMessagesModel", name := "goBy", desc := "(I)V" } : Jvm.MethodName)) ∈ lw_all := lw_g (lw_at lw_m11 186 rfl) rfl
theorem q2731 : (Jvm.Cond.privateMethod ({ cls := "HedgeMessagesModel", name := "goBy", desc := "(I)V" } : Jvm.MethodName)) ∈ lw_tbl := lw_at lw_m11 187 rfl
theorem q2732 : (Jvm.Cond.instanceMethod ({ cls := "HedgeMessagesModel", name := "goBy", desc := "(I)V" } : Jvm.MethodName)) ∈ lw_all := lw_g (lw_at lw_m11 188 rfl) rfl
theorem q2733 : (Jvm.Cond.code ({ cls := "HedgeMessagesModel", name := "goBy", desc := "(I)V" } : Jvm.MethodName) prog_14_method_49_code (3 : Nat) (Option.none : Option Jvm.ClassFile.FieldType)) ∈ lw_all := lw_g (lw_at lw_m11 189 rfl) rfl
theorem q2734 : (Jvm.Cond.methodLink "HedgeMessagesModel" (188 : Nat) ({ cls := "HedgeMessagesModel", name := "dayOnce", desc := "()V" } : Jvm.MethodName)) ∈ lw_all := lw_g (lw_at lw_m11 190 rfl) rfl
theorem q2735 : (Jvm.Cond.privateMethod ({ cls := "HedgeMessagesModel", name := "dayOnce", desc := "()V" } : Jvm.MethodName)) ∈ lw_tbl := lw_at lw_m11 191 rfl
theorem q2736 : (Jvm.Cond.instanceMethod ({ cls := "HedgeMessagesModel", name := "dayOnce", desc := "()V" } : Jvm.MethodName)) ∈ lw_all := lw_g (lw_at lw_m11 192 rfl) rfl
theorem q2737 : (Jvm.Cond.code ({ cls := "HedgeMessagesModel", name := "dayOnce", desc := "()V" } : Jvm.MethodName) prog_14_method_48_code (2 : Nat) (Option.none : Option Jvm.ClassFile.FieldType)) ∈ lw_all := lw_g (lw_at lw_m11 193 rfl) rfl
theorem q2738 : (Jvm.Cond.methodLink "HedgeMessagesModel" (176 : Nat) ({ cls := "HedgeMessagesModel", name := "delivers", desc := "(I)V" } : Jvm.MethodName)) ∈ lw_all := lw_g (lw_at lw_m11 194 rfl) rfl
theorem q2739 : (Jvm.Cond.privateMethod ({ cls := "HedgeMessagesModel", name := "delivers", desc := "(I)V" } : Jvm.MethodName)) ∈ lw_tbl := lw_at lw_m11 195 rfl
theorem q2740 : (Jvm.Cond.instanceMethod ({ cls := "HedgeMessagesModel", name := "delivers", desc := "(I)V" } : Jvm.MethodName)) ∈ lw_all := lw_g (lw_at lw_m11 196 rfl) rfl
theorem q2741 : (Jvm.Cond.code ({ cls := "HedgeMessagesModel", name := "delivers", desc := "(I)V" } : Jvm.MethodName) prog_14_method_40_code (4 : Nat) (Option.none : Option Jvm.ClassFile.FieldType)) ∈ lw_all := lw_g (lw_at lw_m11 197 rfl) rfl
theorem q2742 : (Jvm.Cond.methodLink "HedgeMessagesModel" (128 : Nat) ({ cls := "HedgeMessagesModel", name := "clearsTwigs", desc := "(II)V" } : Jvm.MethodName)) ∈ lw_all := lw_g (lw_at lw_m11 198 rfl) rfl
theorem q2743 : (Jvm.Cond.privateMethod ({ cls := "HedgeMessagesModel", name := "clearsTwigs", desc := "(II)V" } : Jvm.MethodName)) ∈ lw_tbl := lw_at lw_m11 199 rfl
theorem q2744 : (Jvm.Cond.instanceMethod ({ cls := "HedgeMessagesModel", name := "clearsTwigs", desc := "(II)V" } : Jvm.MethodName)) ∈ lw_all := lw_g (lw_at lw_m11 200 rfl) rfl
theorem q2745 : (Jvm.Cond.code ({ cls := "HedgeMessagesModel", name := "clearsTwigs", desc := "(II)V" } : Jvm.MethodName) prog_14_method_39_code (5 : Nat) (Option.none : Option Jvm.ClassFile.FieldType)) ∈ lw_all := lw_g (lw_at lw_m11 201 rfl) rfl
theorem q2746 : (Jvm.Cond.methodLink "HedgeMessagesModel" (131 : Nat) ({ cls := "HedgeMessagesModel", name := "postGoes", desc := "(I)V" } : Jvm.MethodName)) ∈ lw_all := lw_g (lw_at lw_m11 202 rfl) rfl
theorem q2747 : (Jvm.Cond.privateMethod ({ cls := "HedgeMessagesModel", name := "postGoes", desc := "(I)V" } : Jvm.MethodName)) ∈ lw_tbl := lw_at lw_m11 203 rfl
theorem q2748 : (Jvm.Cond.instanceMethod ({ cls := "HedgeMessagesModel", name := "postGoes", desc := "(I)V" } : Jvm.MethodName)) ∈ lw_all := lw_g (lw_at lw_m11 204 rfl) rfl
theorem q2749 : (Jvm.Cond.code ({ cls := "HedgeMessagesModel", name := "postGoes", desc := "(I)V" } : Jvm.MethodName) prog_14_method_38_code (3 : Nat) (Option.none : Option Jvm.ClassFile.FieldType)) ∈ lw_all := lw_g (lw_at lw_m11 205 rfl) rfl
theorem q2750 : (Jvm.Cond.methodLink "HedgeMessagesModel" (179 : Nat) ({ cls := "HedgeMessagesModel", name := "writesAll", desc := "(I)V" } : Jvm.MethodName)) ∈ lw_all := lw_g (lw_at lw_m11 206 rfl) rfl
theorem q2751 : (Jvm.Cond.privateMethod ({ cls := "HedgeMessagesModel", name := "writesAll", desc := "(I)V" } : Jvm.MethodName)) ∈ lw_tbl := lw_at lw_m11 207 rfl
theorem q2752 : (Jvm.Cond.instanceMethod ({ cls := "HedgeMessagesModel", name := "writesAll", desc := "(I)V" } : Jvm.MethodName)) ∈ lw_all := lw_g (lw_at lw_m11 208 rfl) rfl
theorem q2753 : (Jvm.Cond.code ({ cls := "HedgeMessagesModel", name := "writesAll", desc := "(I)V" } : Jvm.MethodName) prog_14_method_42_code (2 : Nat) (Option.none : Option Jvm.ClassFile.FieldType)) ∈ lw_all := lw_g (lw_at lw_m11 209 rfl) rfl
theorem q2754 : (Jvm.Cond.methodLink "HedgeMessagesModel" (150 : Nat) ({ cls := "HedgeMessagesModel", name := "writes", desc := "(I)Z" } : Jvm.MethodName)) ∈ lw_all := lw_g (lw_at lw_m11 210 rfl) rfl
theorem q2755 : (Jvm.Cond.privateMethod ({ cls := "HedgeMessagesModel", name := "writes", desc := "(I)Z" } : Jvm.MethodName)) ∈ lw_tbl := lw_at lw_m11 211 rfl
theorem q2756 : (Jvm.Cond.instanceMethod ({ cls := "HedgeMessagesModel", name := "writes", desc := "(I)Z" } : Jvm.MethodName)) ∈ lw_all := lw_g (lw_at lw_m11 212 rfl) rfl
theorem q2757 : (Jvm.Cond.code ({ cls := "HedgeMessagesModel", name := "writes", desc := "(I)Z" } : Jvm.MethodName) prog_14_method_41_code (4 : Nat) (Option.some Jvm.ClassFile.FieldType.boolean)) ∈ lw_all := lw_g (lw_at lw_m11 213 rfl) rfl
theorem q2758 : (Jvm.Cond.methodLink "HedgeMessagesModel" (134 : Nat) ({ cls := "HedgeMessagesModel", name := "isInProgress", desc := "(I)Z" } : Jvm.MethodName)) ∈ lw_all := lw_g (lw_at lw_m11 214 rfl) rfl
theorem q2759 : (Jvm.Cond.privateMethod ({ cls := "HedgeMessagesModel", name := "isInProgress", desc := "(I)Z" } : Jvm.MethodName)) ∈ lw_tbl := lw_at lw_m11 215 rfl
theorem q2760 : (Jvm.Cond.instanceMethod ({ cls := "HedgeMessagesModel", name := "isInProgress", desc := "(I)Z" } : Jvm.MethodName)) ∈ lw_all := lw_g (lw_at lw_m11 216 rfl) rfl
theorem q2761 : (Jvm.Cond.code ({ cls := "HedgeMessagesModel", name := "isInProgress", desc := "(I)Z" } : Jvm.MethodName) prog_14_method_26_code (2 : Nat) (Option.some Jvm.ClassFile.FieldType.boolean)) ∈ lw_all := lw_g (lw_at lw_m11 217 rfl) rfl
theorem q2762 : (Jvm.Cond.methodLink "HedgeMessagesModel" (137 : Nat) ({ cls := "HedgeMessagesModel", name := "startOfNext", desc := "(I)I" } : Jvm.MethodName)) ∈ lw_all := lw_g (lw_at lw_m11 218 rfl) rfl
theorem q2763 : (Jvm.Cond.privateMethod ({ cls := "HedgeMessagesModel", name := "startOfNext", desc := "(I)I" } : Jvm.MethodName)) ∈ lw_tbl := lw_at lw_m11 219 rfl
theorem q2764 : (Jvm.Cond.instanceMethod ({ cls := "HedgeMessagesModel", name := "startOfNext", desc := "(I)I" } : Jvm.MethodName)) ∈ lw_all := lw_g (lw_at lw_m11 220 rfl) rfl
theorem q2765 : (Jvm.Cond.code ({ cls := "HedgeMessagesModel", name := "startOfNext", desc := "(I)I" } : Jvm.MethodName) prog_14_method_33_code (2 : Nat) (Option.some Jvm.ClassFile.FieldType.int)) ∈ lw_all := lw_g (lw_at lw_m11 221 rfl) rfl
theorem q2766 : (Jvm.Cond.methodLink "HedgeMessagesModel" (117 : Nat) ({ cls := "HedgeMessagesModel", name := "startFor", desc := "(I)I" } : Jvm.MethodName)) ∈ lw_all := lw_g (lw_at lw_m11 222 rfl) rfl
theorem q2767 : (Jvm.Cond.privateMethod ({ cls := "HedgeMessagesModel", name := "startFor", desc := "(I)I" } : Jvm.MethodName)) ∈ lw_tbl := lw_at lw_m11 223 rfl
theorem q2768 : (Jvm.Cond.instanceMethod ({ cls := "HedgeMessagesModel", name := "startFor", desc := "(I)I" } : Jvm.MethodName)) ∈ lw_all := lw_g (lw_at lw_m11 224 rfl) rfl
theorem q2769 : (Jvm.Cond.code ({ cls := "HedgeMessagesModel", name := "startFor", desc := "(I)I" } : Jvm.MethodName) prog_14_method_32_code (3 : Nat) (Option.some Jvm.ClassFile.FieldType.int)) ∈ lw_all := lw_g (lw_at lw_m11 225 rfl) rfl
theorem q2770 : (Jvm.Cond.methodLink "HedgeMessagesModel" (111 : Nat) ({ cls := "HedgeMessagesModel", name := "fits", desc := "(II)Z" } : Jvm.MethodName)) ∈ lw_all := lw_g (lw_at lw_m11 226 rfl) rfl
theorem q2771 : (Jvm.Cond.privateMethod ({ cls := "HedgeMessagesModel", name := "fits", desc := "(II)Z" } : Jvm.MethodName)) ∈ lw_tbl := lw_at lw_m11 227 rfl
theorem q2772 : (Jvm.Cond.instanceMethod ({ cls := "HedgeMessagesModel", name := "fits", desc := "(II)Z" } : Jvm.MethodName)) ∈ lw_all := lw_g (lw_at lw_m11 228 rfl) rfl
theorem q2773 : (Jvm.Cond.code ({ cls := "HedgeMessagesModel", name := "fits", desc := "(II)Z" } : Jvm.MethodName) prog_14_method_31_code (4 : Nat) (Option.some Jvm.ClassFile.FieldType.boolean)) ∈ lw_all := lw_g (lw_at lw_m11 229 rfl) rfl
theorem q2774 : (Jvm.Cond.methodLink "HedgeMessagesModel" (105 : Nat) ({ cls := "HedgeMessagesModel", name := "isFree", desc := "(I)Z" } : Jvm.MethodName)) ∈ lw_all := lw_g (lw_at lw_m11 230 rfl) rfl
theorem q2775 : (Jvm.Cond.privateMethod ({ cls := "HedgeMessagesModel", name := "isFree", desc := "(I)Z" } : Jvm.MethodName)) ∈ lw_tbl := lw_at lw_m11 231 rfl
theorem q2776 : (Jvm.Cond.instanceMethod ({ cls := "HedgeMessagesModel", name := "isFree", desc := "(I)Z" } : Jvm.MethodName)) ∈ lw_all := lw_g (lw_at lw_m11 232 rfl) rfl
theorem q2777 : (Jvm.Cond.code ({ cls := "HedgeMessagesModel", name := "isFree", desc := "(I)Z" } : Jvm.MethodName) prog_14_method_29_code (2 : Nat) (Option.some Jvm.ClassFile.FieldType.boolean)) ∈ lw_all := lw_g (lw_at lw_m11 233 rfl) rfl
theorem q2778 : (Jvm.Cond.methodLink "HedgeMessagesModel" (108 : Nat) ({ cls := "HedgeMessagesModel", name := "isBorder", desc := "(I)Z" } : Jvm.MethodName)) ∈ lw_all := lw_g (lw_at lw_m11 234 rfl) rfl
theorem q2779 : (Jvm.Cond.privateMethod ({ cls := "HedgeMessagesModel", name := "isBorder", desc := "(I)Z" } : Jvm.MethodName)) ∈ lw_tbl := lw_at lw_m11 235 rfl
theorem q2780 : (Jvm.Cond.instanceMethod ({ cls := "HedgeMessagesModel", name := "isBorder", desc := "(I)Z" } : Jvm.MethodName)) ∈ lw_all := lw_g (lw_at lw_m11 236 rfl) rfl
theorem q2781 : (Jvm.Cond.code ({ cls := "HedgeMessagesModel", name := "isBorder", desc := "(I)Z" } : Jvm.MethodName) prog_14_method_30_code (2 : Nat) (Option.some Jvm.ClassFile.FieldType.boolean)) ∈ lw_all := lw_g (lw_at lw_m11 237 rfl) rfl
theorem q2782 : (Jvm.Cond.methodLink "HedgeMessagesModel" (140 : Nat) ({ cls := "HedgeMessagesModel", name := "begins", desc := "(II)V" } : Jvm.MethodName)) ∈ lw_all := lw_g (lw_at lw_m11 238 rfl) rfl
theorem q2783 : (Jvm.Cond.privateMethod ({ cls := "HedgeMessagesModel", name := "begins", desc := "(II)V" } : Jvm.MethodName)) ∈ lw_tbl := lw_at lw_m11 239 rfl
theorem q2784 : (Jvm.Cond.instanceMethod ({ cls := "HedgeMessagesModel", name := "begins", desc := "(II)V" } : Jvm.MethodName)) ∈ lw_all := lw_g (lw_at lw_m12 0 rfl) rfl
theorem q2785 : (Jvm.Cond.code ({ cls := "HedgeMessagesModel", name := "begins", desc := "(II)V" } : Jvm.MethodName) prog_14_method_36_code (6 : Nat) (Option.none : Option Jvm.ClassFile.FieldType)) ∈ lw_all := lw_g (lw_at lw_m12 1 rfl) rfl
theorem q2786 : (Jvm.Cond.methodLink "HedgeMessagesModel" (147 : Nat) ({ cls := "HedgeMessagesModel", name := "posts", desc := "(I)V" } : Jvm.MethodName)) ∈ lw_all := lw_g (lw_at lw_m12 2 rfl) rfl
theorem q2787 : (Jvm.Cond.privateMethod ({ cls := "HedgeMessagesModel", name := "posts", desc := "(I)V" } : Jvm.MethodName)) ∈ lw_tbl := lw_at lw_m12 3 rfl
theorem q2788 : (Jvm.Cond.instanceMethod ({ cls := "HedgeMessagesModel", name := "posts", desc := "(I)V" } : Jvm.MethodName)) ∈ lw_all := lw_g (lw_at lw_m12 4 rfl) rfl
theorem q2789 : (Jvm.Cond.code ({ cls := "HedgeMessagesModel", name := "posts", desc := "(I)V" } : Jvm.MethodName) prog_14_method_37_code (5 : Nat) (Option.none : Option Jvm.ClassFile.FieldType)) ∈ lw_all := lw_g (lw_at lw_m12 5 rfl) rfl
theorem q2790 : (Jvm.Cond.methodLink "HedgeMessagesModel" (182 : Nat) ({ cls := "HedgeMessagesModel", name := "growsAll", desc := "()V" } : Jvm.MethodName)) ∈ lw_all := lw_g (lw_at lw_m12 6 rfl) rfl
theorem q2791 : (Jvm.Cond.privateMethod ({ cls := "HedgeMessagesModel", name := "growsAll", desc := "()V" } : Jvm.MethodName)) ∈ lw_tbl := lw_at lw_m12 7 rfl
theorem q2792 : (Jvm.Cond.instanceMethod ({ cls := "HedgeMessagesModel", name := "growsAll", desc := "()V" } : Jvm.MethodName)) ∈ lw_all := lw_g (lw_at lw_m12 8 rfl) rfl
theorem q2793 : (Jvm.Cond.code ({ cls := "HedgeMessagesModel", name := "growsAll", desc := "()V" } : Jvm.MethodName) prog_14_method_43_code (2 : Nat) (Option.none : Option Jvm.ClassFile.FieldType)) ∈ lw_all := lw_g (lw_at lw_m12 9 rfl) rfl
theorem q2794 : (Jvm.Cond.methodLink "HedgeMessagesModel" (185 : Nat) ({ cls := "HedgeMessagesModel", name := "inspects", desc := "()V" } : Jvm.MethodName)) ∈ lw_all := lw_g (lw_at lw_m12 10 rfl) rfl
theorem q2795 : (Jvm.Cond.privateMethod ({ cls := "HedgeMessagesModel", name := "inspects", desc := "()V" } : Jvm.MethodName)) ∈ lw_tbl := lw_at lw_m12 11 rfl
theorem q2796 : (Jvm.Cond.instanceMethod ({ cls := "HedgeMessagesModel", name := "inspects", desc := "()V" } : Jvm.MethodName)) ∈ lw_all := lw_g (lw_at lw_m12 12 rfl) rfl
theorem q2797 : (Jvm.Cond.code ({ cls := "HedgeMessagesModel", name := "inspects", desc := "()V" } : Jvm.MethodName) prog_14_method_47_code (3 : Nat) (Option.none : Option Jvm.ClassFile.FieldType)) ∈ lw_all := lw_g (lw_at lw_m12 13 rfl) rfl
theorem q2798 : (Jvm.Cond.methodLink "HedgeMessagesModel" (164 : Nat) ({ cls := "HedgeMessagesModel", name := "wouldPrune", desc := "(I)Z" } : Jvm.MethodName)) ∈ lw_all := lw_g (lw_at lw_m12 14 rfl) rfl
theorem q2799 : (Jvm.Cond.privateMethod ({ cls := "HedgeMessagesModel", name := "wouldPrune", desc := "(I)Z" } : Jvm.MethodName)) ∈ lw_tbl := lw_at lw_m12 15 rfl
theorem q2800 : (Jvm.Cond.instanceMethod ({ cls := "HedgeMessagesModel", name := "wouldPrune", desc := "(I)Z" } : Jvm.MethodName)) ∈ lw_all := lw_g (lw_at lw_m12 16 rfl) rfl
theorem q2801 : (Jvm.Cond.code ({ cls := "HedgeMessagesModel", name := "wouldPrune", desc := "(I)Z" } : Jvm.MethodName) prog_14_method_44_code (2 : Nat) (Option.some Jvm.ClassFile.FieldType.boolean)) ∈ lw_all := lw_g (lw_at lw_m12 17 rfl) rfl
theorem q2802 : (Jvm.Cond.methodLink "HedgeMessagesModel" (167 : Nat) ({ cls := "HedgeMessagesModel", name := "lostTwig", desc := "(II)Z" } : Jvm.MethodName)) ∈ lw_all := lw_g (lw_at lw_m12 18 rfl) rfl
theorem q2803 : (Jvm.Cond.privateMethod ({ cls := "HedgeMessagesModel", name := "lostTwig", desc := "(II)Z" } : Jvm.MethodName)) ∈ lw_tbl := lw_at lw_m12 19 rfl
theorem q2804 : (Jvm.Cond.instanceMethod ({ cls := "HedgeMessagesModel", name := "lostTwig", desc := "(II)Z" } : Jvm.MethodName)) ∈ lw_all := lw_g (lw_at lw_m12 20 rfl) rfl
theorem q2805 : (Jvm.Cond.code ({ cls := "HedgeMessagesModel", name := "lostTwig", desc := "(II)Z" } : Jvm.MethodName) prog_14_method_45_code (4 : Nat) (Option.some Jvm.ClassFile.FieldType.boolean)) ∈ lw_all := lw_g (lw_at lw_m12 21 rfl) rfl
theorem q2806 : (Jvm.Cond.methodLink "HedgeMessagesModel" (170 : Nat) ({ cls := "HedgeMessagesModel", name := "fails", desc := "(III)V" } : Jvm.MethodName)) ∈ lw_all := lw_g (lw_at lw_m12 22 rfl) rfl
theorem q2807 : (Jvm.Cond.privateMethod ({ cls := "HedgeMessagesModel", name := "fails", desc := "(III)V" } : Jvm.MethodName)) ∈ lw_tbl := lw_at lw_m12 23 rfl
theorem q2808 : (Jvm.Cond.instanceMethod ({ cls := "HedgeMessagesModel", name := "fails", desc := "(III)V" } : Jvm.MethodName)) ∈ lw_all := lw_g (lw_at lw_m12 24 rfl) rfl
theorem q2809 : (Jvm.Cond.code ({ cls := "HedgeMessagesModel", name := "fails", desc := "(III)V" } : Jvm.MethodName) prog_14_method_46_code (4 : Nat) (Option.none : Option Jvm.ClassFile.FieldType)) ∈ lw_all := lw_g (lw_at lw_m12 25 rfl) rfl
theorem q2810 : (Jvm.Cond.methodLink "HedgeMessagesModel" (161 : Nat) ({ cls := "HedgeMessagesModel", name := "waits", desc := "(II)V" } : Jvm.MethodName)) ∈ lw_all := lw_g (lw_at lw_m12 26 rfl) rfl
theorem q2811 : (Jvm.Cond.privateMethod ({ cls := "HedgeMessagesModel", name := "waits", desc := "(II)V" } : Jvm.MethodName)) ∈ lw_tbl := lw_at lw_m12 27 rfl
theorem q2812 : (Jvm.Cond.instanceMethod ({ cls := "HedgeMessagesModel", name := "waits", desc := "(II)V" } : Jvm.MethodName)) ∈ lw_all := lw_g (lw_at lw_m12 28 rfl) rfl
theorem q2813 : (Jvm.Cond.code ({ cls := "HedgeMessagesModel", name := "waits", desc := "(II)V" } : Jvm.MethodName) prog_14_method_34_code (5 : Nat) (Option.none : Option Jvm.ClassFile.FieldType)) ∈ lw_all := lw_g (lw_at lw_m12 29 rfl) rfl
theorem q2815 : (Jvm.Cond.instanceMethod ({ cls := "HedgeMessagesModel", name := "slotCount", desc := "()I" } : Jvm.MethodName)) ∈ lw_all := lw_g (lw_at lw_m12 31 rfl) rfl
theorem q2816 : (Jvm.Cond.selects "HedgeMessagesModel" ({ cls := "HedgeMessagesModel", name := "slotCount", desc := "()I" } : Jvm.MethodName) ({ cls := "HedgeMessagesModel", name := "slotCount", desc := "()I" } : Jvm.MethodName)) ∈ lw_all := lw_g (lw_at lw_m12 32 rfl) rfl
theorem q2817 : (Jvm.Cond.code ({ cls := "HedgeMessagesModel", name := "slotCount", desc := "()I" } : Jvm.MethodName) prog_14_method_98_code (1 : Nat) (Option.some Jvm.ClassFile.FieldType.int)) ∈ lw_all := lw_g (lw_at lw_m12 33 rfl) rfl
theorem q2819 : (Jvm.Cond.instanceMethod ({ cls := "HedgeMessagesModel", name := "day", desc := "()I" } : Jvm.MethodName)) ∈ lw_all := lw_g (lw_at lw_m12 35 rfl) rfl
theorem q2820 : (Jvm.Cond.selects "HedgeMessagesModel" ({ cls := "HedgeMessagesModel", name := "day", desc := "()I" } : Jvm.MethodName) ({ cls := "HedgeMessagesModel", name := "day", desc := "()I" } : Jvm.MethodName)) ∈ lw_all := lw_g (lw_at lw_m12 36 rfl) rfl
theorem q2821 : (Jvm.Cond.code ({ cls := "HedgeMessagesModel", name := "day", desc := "()I" } : Jvm.MethodName) prog_14_method_99_code (1 : Nat) (Option.some Jvm.ClassFile.FieldType.int)) ∈ lw_all := lw_g (lw_at lw_m12 37 rfl) rfl
theorem q2823 : (Jvm.Cond.instanceMethod ({ cls := "HedgeMessagesModel", name := "activeGardener", desc := "()I" } : Jvm.MethodName)) ∈ lw_all := lw_g (lw_at lw_m12 39 rfl) rfl
theorem q2824 : (Jvm.Cond.selects "HedgeMessagesModel" ({ cls := "HedgeMessagesModel", name := "activeGardener", desc := "()I" } : Jvm.MethodName) ({ cls := "HedgeMessagesModel", name := "activeGardener", desc := "()I" } : Jvm.MethodName)) ∈ lw_all := lw_g (lw_at lw_m12 40 rfl) rfl
theorem q2825 : (Jvm.Cond.code ({ cls := "HedgeMessagesModel", name := "activeGardener", desc := "()I" } : Jvm.MethodName) prog_14_method_100_code (1 : Nat) (Option.some Jvm.ClassFile.FieldType.int)) ∈ lw_all := lw_g (lw_at lw_m12 41 rfl) rfl
theorem q2827 : (Jvm.Cond.instanceMethod ({ cls := "HedgeMessagesModel", name := "workLimit", desc := "()I" } : Jvm.MethodName)) ∈ lw_all := lw_g (lw_at lw_m12 43 rfl) rfl
theorem q2828 : (Jvm.Cond.selects "HedgeMessagesModel" ({ cls := "HedgeMessagesModel", name := "workLimit", desc := "()I" } : Jvm.MethodName) ({ cls := "HedgeMessagesModel", name := "workLimit", desc := "()I" } : Jvm.MethodName)) ∈ lw_all := lw_g (lw_at lw_m12 44 rfl) rfl
theorem q2829 : (Jvm.Cond.code ({ cls := "HedgeMessagesModel", name := "workLimit", desc := "()I" } : Jvm.MethodName) prog_14_method_101_code (1 : Nat) (Option.some Jvm.ClassFile.FieldType.int)) ∈ lw_all := lw_g (lw_at lw_m12 45 rfl) rfl
theorem q2831 : (Jvm.Cond.instanceMethod ({ cls := "HedgeMessagesModel", name := "actionsLeft", desc := "()I" } : Jvm.MethodName)) ∈ lw_all := lw_g (lw_at lw_m12 47 rfl) rfl
theorem q2832 : (Jvm.Cond.selects "HedgeMessagesModel" ({ cls := "HedgeMessagesModel", name := "actionsLeft", desc := "()I" } : Jvm.MethodName) ({ cls := "HedgeMessagesModel", name := "actionsLeft", desc := "()I" } : Jvm.MethodName)) ∈ lw_all := lw_g (lw_at lw_m12 48 rfl) rfl
theorem q2833 : (Jvm.Cond.code ({ cls := "HedgeMessagesModel", name := "actionsLeft", desc := "()I" } : Jvm.MethodName) prog_14_method_102_code (1 : Nat) (Option.some Jvm.ClassFile.FieldType.int)) ∈ lw_all := lw_g (lw_at lw_m12 49 rfl) rfl
theorem q2835 : (Jvm.Cond.instanceMethod ({ cls := "HedgeMessagesModel", name := "twigCount", desc := "()I" } : Jvm.MethodName)) ∈ lw_all := lw_g (lw_at lw_m12 51 rfl) rfl
theorem q2836 : (Jvm.Cond.selects "HedgeMessagesModel" ({ cls := "HedgeMessagesModel", name := "twigCount", desc := "()I" } : Jvm.MethodName) ({ cls := "HedgeMessagesModel", name := "twigCount", desc := "()I" } : Jvm.MethodName)) ∈ lw_all := lw_g (lw_at lw_m12 52 rfl) rfl
theorem q2837 : (Jvm.Cond.code ({ cls := "HedgeMessagesModel", name := "twigCount", desc := "()I" } : Jvm.MethodName) prog_14_method_103_code (1 : Nat) (Option.some Jvm.ClassFile.FieldType.int)) ∈ lw_all := lw_g (lw_at lw_m12 53 rfl) rfl
theorem q2839 : (Jvm.Cond.instanceMethod ({ cls := "HedgeMessagesModel", name := "letterAt", desc := "(I)I" } : Jvm.MethodName)) ∈ lw_all := lw_g (lw_at lw_m12 55 rfl) rfl
theorem q2840 : (Jvm.Cond.selects "HedgeMessagesModel" ({ cls := "HedgeMessagesModel", name := "letterAt", desc := "(I)I" } : Jvm.MethodName) ({ cls := "HedgeMessagesModel", name := "letterAt", desc := "(I)I" } : Jvm.MethodName)) ∈ lw_all := lw_g (lw_at lw_m12 56 rfl) rfl
theorem q2841 : (Jvm.Cond.code ({ cls := "HedgeMessagesModel", name := "letterAt", desc := "(I)I" } : Jvm.MethodName) prog_14_method_104_code (2 : Nat) (Option.some Jvm.ClassFile.FieldType.int)) ∈ lw_all := lw_g (lw_at lw_m12 57 rfl) rfl
theorem q2843 : (Jvm.Cond.instanceMethod ({ cls := "HedgeMessagesModel", name := "ownerAt", desc := "(I)I" } : Jvm.MethodName)) ∈ lw_all := lw_g (lw_at lw_m12 59 rfl) rfl
theorem q2844 : (Jvm.Cond.selects "HedgeMessagesModel" ({ cls := "HedgeMessagesModel", name := "ownerAt", desc := "(I)I" } : Jvm.MethodName) ({ cls := "HedgeMessagesModel", name := "ownerAt", desc := "(I)I" } : Jvm.MethodName)) ∈ lw_all := lw_g (lw_at lw_m12 60 rfl) rfl
theorem q2845 : (Jvm.Cond.code ({ cls := "HedgeMessagesModel", name := "ownerAt", desc := "(I)I" } : Jvm.MethodName) prog_14_method_105_code (2 : Nat) (Option.some Jvm.ClassFile.FieldType.int)) ∈ lw_all := lw_g (lw_at lw_m12 61 rfl) rfl
theorem q2847 : (Jvm.Cond.instanceMethod ({ cls := "HedgeMessagesModel", name := "lengthAt", desc := "(I)I" } : Jvm.MethodName)) ∈ lw_all := lw_g (lw_at lw_m12 63 rfl) rfl
theorem q2848 : (Jvm.Cond.selects "HedgeMessagesModel" ({ cls := "HedgeMessagesModel", name := "lengthAt", desc := "(I)I" } : Jvm.MethodName) ({ cls := "HedgeMessagesModel", name := "lengthAt", desc := "(I)I" } : Jvm.MethodName)) ∈ lw_all := lw_g (lw_at lw_m12 64 rfl) rfl
theorem q2849 : (Jvm.Cond.code ({ cls := "HedgeMessagesModel", name := "lengthAt", desc := "(I)I" } : Jvm.MethodName) prog_14_method_106_code (2 : Nat) (Option.some Jvm.ClassFile.FieldType.int)) ∈ lw_all := lw_g (lw_at lw_m12 65 rfl) rfl
theorem q2851 : (Jvm.Cond.instanceMethod ({ cls := "HedgeMessagesModel", name := "isReserved", desc := "(I)Z" } : Jvm.MethodName)) ∈ lw_all := lw_g (lw_at lw_m12 67 rfl) rfl
theorem q2852 : (Jvm.Cond.selects "HedgeMessagesModel" ({ cls := "HedgeMessagesModel", name := "isReserved", desc := "(I)Z" } : Jvm.MethodName) ({ cls := "HedgeMessagesModel", name := "isReserved", desc := "(I)Z" } : Jvm.MethodName)) ∈ lw_all := lw_g (lw_at lw_m12 68 rfl) rfl
theorem q2853 : (Jvm.Cond.code ({ cls := "HedgeMessagesModel", name := "isReserved", desc := "(I)Z" } : Jvm.MethodName) prog_14_method_107_code (2 : Nat) (Option.some Jvm.ClassFile.FieldType.boolean)) ∈ lw_all := lw_g (lw_at lw_m12 69 rfl) rfl
theorem q2855 : (Jvm.Cond.instanceMethod ({ cls := "HedgeMessagesModel", name := "nestDays", desc := "(I)I" } : Jvm.MethodName)) ∈ lw_all := lw_g (lw_at lw_m12 71 rfl) rfl
theorem q2856 : (Jvm.Cond.selects "HedgeMessagesModel" ({ cls := "HedgeMessagesModel", name := "nestDays", desc := "(I)I" } : Jvm.MethodName) ({ cls := "HedgeMessagesModel", name := "nestDays", desc := "(I)I" } : Jvm.MethodName)) ∈ lw_all := lw_g (lw_at lw_m12 72 rfl) rfl
theorem q2857 : (Jvm.Cond.code ({ cls := "HedgeMessagesModel", name := "nestDays", desc := "(I)I" } : Jvm.MethodName) prog_14_method_108_code (2 : Nat) (Option.some Jvm.ClassFile.FieldType.int)) ∈ lw_all := lw_g (lw_at lw_m12 73 rfl) rfl
theorem q2859 : (Jvm.Cond.instanceMethod ({ cls := "HedgeMessagesModel", name := "isProtected", desc := "(I)Z" } : Jvm.MethodName)) ∈ lw_all := lw_g (lw_at lw_m12 75 rfl) rfl
theorem q2860 : (Jvm.Cond.selects "HedgeMessagesModel" ({ cls := "HedgeMessagesModel", name := "isProtected", desc := "(I)Z" } : Jvm.MethodName) ({ cls := "HedgeMessagesModel", name := "isProtected", desc := "(I)Z" } : Jvm.MethodName)) ∈ lw_all := lw_g (lw_at lw_m12 76 rfl) rfl
theorem q2861 : (Jvm.Cond.code ({ cls := "HedgeMessagesModel", name := "isProtected", desc := "(I)Z" } : Jvm.MethodName) prog_14_method_109_code (2 : Nat) (Option.some Jvm.ClassFile.FieldType.boolean)) ∈ lw_all := lw_g (lw_at lw_m12 77 rfl) rfl
theorem q2863 : (Jvm.Cond.instanceMethod ({ cls := "HedgeMessagesModel", name := "nestCount", desc := "()I" } : Jvm.MethodName)) ∈ lw_all := lw_g (lw_at lw_m12 79 rfl) rfl
theorem q2864 : (Jvm.Cond.selects "HedgeMessagesModel" ({ cls := "HedgeMessagesModel", name := "nestCount", desc := "()I" } : Jvm.MethodName) ({ cls := "HedgeMessagesModel", name := "nestCount", desc := "()I" } : Jvm.MethodName)) ∈ lw_all := lw_g (lw_at lw_m12 80 rfl) rfl
theorem q2865 : (Jvm.Cond.code ({ cls := "HedgeMessagesModel", name := "nestCount", desc := "()I" } : Jvm.MethodName) prog_14_method_110_code (1 : Nat) (Option.some Jvm.ClassFile.FieldType.int)) ∈ lw_all := lw_g (lw_at lw_m12 81 rfl) rfl
theorem q2867 : (Jvm.Cond.instanceMethod ({ cls := "HedgeMessagesModel", name := "pendingCount", desc := "(I)I" } : Jvm.MethodName)) ∈ lw_all := lw_g (lw_at lw_m12 83 rfl) rfl
theorem q2868 : (Jvm.Cond.selects "HedgeMessagesModel" ({ cls := "HedgeMessagesModel", name := "pendingCount", desc := "(I)I" } : Jvm.MethodName) ({ cls := "HedgeMessagesModel", name := "pendingCount", desc := "(I)I" } : Jvm.MethodName)) ∈ lw_all := lw_g (lw_at lw_m12 84 rfl) rfl
theorem q2869 : (Jvm.Cond.code ({ cls := "HedgeMessagesModel", name := "pendingCount", desc := "(I)I" } : Jvm.MethodName) prog_14_method_111_code (2 : Nat) (Option.some Jvm.ClassFile.FieldType.int)) ∈ lw_all := lw_g (lw_at lw_m12 85 rfl) rfl
theorem q2870 : (Jvm.Cond.methodLink "HedgeMessagesModel" (385 : Nat) ({ cls := "HedgeMessagesModel", name := "isGardener", desc := "(I)Z" } : Jvm.MethodName)) ∈ lw_all := lw_g (lw_at lw_m12 86 rfl) rfl
theorem q2871 : (Jvm.Cond.static ({ cls := "HedgeMessagesModel", name := "isGardener", desc := "(I)Z" } : Jvm.MethodName)) ∈ lw_all := lw_g (lw_at lw_m12 87 rfl) rfl
theorem q2872 : (Jvm.Cond.code ({ cls := "HedgeMessagesModel", name := "isGardener", desc := "(I)Z" } : Jvm.MethodName) prog_14_method_14_code (1 : Nat) (Option.some Jvm.ClassFile.FieldType.boolean)) ∈ lw_all := lw_g (lw_at lw_m12 88 rfl) rfl
theorem q2874 : (Jvm.Cond.instanceMethod ({ cls := "HedgeMessagesModel", name := "pendingLetter", desc := "(III)I" } : Jvm.MethodName)) ∈ lw_all := lw_g (lw_at lw_m12 90 rfl) rfl
theorem q2875 : (Jvm.Cond.selects "HedgeMessagesModel" ({ cls := "HedgeMessagesModel", name := "pendingLetter", desc := "(III)I" } : Jvm.MethodName) ({ cls := "HedgeMessagesModel", name := "pendingLetter", desc := "(III)I" } : Jvm.MethodName)) ∈ lw_all := lw_g (lw_at lw_m12 91 rfl) rfl
theorem q2876 : (Jvm.Cond.code ({ cls := "HedgeMessagesModel", name := "pendingLetter", desc := "(III)I" } : Jvm.MethodName) prog_14_method_112_code (5 : Nat) (Option.some Jvm.ClassFile.FieldType.int)) ∈ lw_all := lw_g (lw_at lw_m12 92 rfl) rfl
theorem q2878 : (Jvm.Cond.instanceMethod ({ cls := "HedgeMessagesModel", name := "lettersWritten", desc := "(I)I" } : Jvm.MethodName)) ∈ lw_all := lw_g (lw_at lw_m12 94 rfl) rfl
theorem q2879 : (Jvm.Cond.selects "HedgeMessagesModel" ({ cls := "HedgeMessagesModel", name := "lettersWritten", desc := "(I)I" } : Jvm.MethodName) ({ cls := "HedgeMessagesModel", name := "lettersWritten", desc := "(I)I" } : Jvm.MethodName)) ∈ lw_all := lw_g (lw_at lw_m12 95 rfl) rfl
theorem q2880 : (Jvm.Cond.code ({ cls := "HedgeMessagesModel", name := "lettersWritten", desc := "(I)I" } : Jvm.MethodName) prog_14_method_113_code (2 : Nat) (Option.some Jvm.ClassFile.FieldType.int)) ∈ lw_all := lw_g (lw_at lw_m12 96 rfl) rfl
theorem q2882 : (Jvm.Cond.instanceMethod ({ cls := "HedgeMessagesModel", name := "startSlot", desc := "(I)I" } : Jvm.MethodName)) ∈ lw_all := lw_g (lw_at lw_m12 98 rfl) rfl
theorem q2883 : (Jvm.Cond.selects "HedgeMessagesModel" ({ cls := "HedgeMessagesModel", name := "startSlot", desc := "(I)I" } : Jvm.MethodName) ({ cls := "HedgeMessagesModel", name := "startSlot", desc := "(I)I" } : Jvm.MethodName)) ∈ lw_all := lw_g (lw_at lw_m12 99 rfl) rfl
theorem q2884 : (Jvm.Cond.code ({ cls := "HedgeMessagesModel", name := "startSlot", desc := "(I)I" } : Jvm.MethodName) prog_14_method_114_code (2 : Nat) (Option.some Jvm.ClassFile.FieldType.int)) ∈ lw_all := lw_g (lw_at lw_m12 100 rfl) rfl
theorem q2886 : (Jvm.Cond.instanceMethod ({ cls := "HedgeMessagesModel", name := "postedCount", desc := "(I)I" } : Jvm.MethodName)) ∈ lw_all := lw_g (lw_at lw_m12 102 rfl) rfl
theorem q2887 : (Jvm.Cond.selects "HedgeMessagesModel" ({ cls := "HedgeMessagesModel", name := "postedCount", desc := "(I)I" } : Jvm.MethodName) ({ cls := "HedgeMessagesModel", name := "postedCount", desc := "(I)I" } : Jvm.MethodName)) ∈ lw_all := lw_g (lw_at lw_m12 103 rfl) rfl
theorem q2888 : (Jvm.Cond.code ({ cls := "HedgeMessagesModel", name := "postedCount", desc := "(I)I" } : Jvm.MethodName) prog_14_method_116_code (2 : Nat) (Option.some Jvm.ClassFile.FieldType.int)) ∈ lw_all := lw_g (lw_at lw_m12 104 rfl) rfl
theorem q2889 : (Jvm.Cond.methodLink "HedgeMessagesModel" (388 : Nat) ({ cls := "HedgeMessagesModel", name := "postedOf", desc := "(I)I" } : Jvm.MethodName)) ∈ lw_all := lw_g (lw_at lw_m12 105 rfl) rfl
theorem q2890 : (Jvm.Cond.privateMethod ({ cls := "HedgeMessagesModel", name := "postedOf", desc := "(I)I" } : Jvm.MethodName)) ∈ lw_tbl := lw_at lw_m12 106 rfl
theorem q2891 : (Jvm.Cond.instanceMethod ({ cls := "HedgeMessagesModel", name := "postedOf", desc := "(I)I" } : Jvm.MethodName)) ∈ lw_all := lw_g (lw_at lw_m12 107 rfl) rfl
theorem q2892 : (Jvm.Cond.code ({ cls := "HedgeMessagesModel", name := "postedOf", desc := "(I)I" } : Jvm.MethodName) prog_14_method_115_code (4 : Nat) (Option.some Jvm.ClassFile.FieldType.int)) ∈ lw_all := lw_g (lw_at lw_m12 108 rfl) rfl
theorem q2894 : (Jvm.Cond.instanceMethod ({ cls := "HedgeMessagesModel", name := "nextStartSlot", desc := "(I)I" } : Jvm.MethodName)) ∈ lw_all := lw_g (lw_at lw_m12 110 rfl) rfl
theorem q2895 : (Jvm.Cond.selects "HedgeMessagesModel" ({ cls := "HedgeMessagesModel", name := "nextStartSlot", desc := "(I)I" } : Jvm.MethodName) ({ cls := "HedgeMessagesModel", name := "nextStartSlot", desc := "(I)I" } : Jvm.MethodName)) ∈ lw_all := lw_g (lw_at lw_m12 111 rfl) rfl
theorem q2896 : (Jvm.Cond.code ({ cls := "HedgeMessagesModel", name := "nextStartSlot", desc := "(I)I" } : Jvm.MethodName) prog_14_method_117_code (2 : Nat) (Option.some Jvm.ClassFile.FieldType.int)) ∈ lw_all := lw_g (lw_at lw_m12 112 rfl) rfl
theorem q2898 : (Jvm.Cond.instanceMethod ({ cls := "HedgeMessagesModel", name := "longestFreeRun", desc := "()I" } : Jvm.MethodName)) ∈ lw_all := lw_g (lw_at lw_m12 114 rfl) rfl
theorem q2899 : (Jvm.Cond.selects "HedgeMessagesModel" ({ cls := "HedgeMessagesModel", name := "longestFreeRun", desc := "()I" } : Jvm.MethodName) ({ cls := "HedgeMessagesModel", name := "longestFreeRun", desc := "()I" } : Jvm.MethodName)) ∈ lw_all := lw_g (lw_at lw_m12 115 rfl) rfl
theorem q2900 : (Jvm.Cond.code ({ cls := "HedgeMessagesModel", name := "longestFreeRun", desc := "()I" } : Jvm.MethodName) prog_14_method_118_code (4 : Nat) (Option.some Jvm.ClassFile.FieldType.int)) ∈ lw_all := lw_g (lw_at lw_m12 116 rfl) rfl
theorem q2902 : (Jvm.Cond.instanceMethod ({ cls := "HedgeMessagesModel", name := "yardLetterCount", desc := "(I)I" } : Jvm.MethodName)) ∈ lw_all := lw_g (lw_at lw_m12 118 rfl) rfl
theorem q2903 : (Jvm.Cond.selects "HedgeMessagesModel" ({ cls := "HedgeMessagesModel", name := "yardLetterCount", desc := "(I)I" } : Jvm.MethodName) ({ cls := "HedgeMessagesModel", name := "yardLetterCount", desc := "(I)I" } : Jvm.MethodName)) ∈ lw_all := lw_g (lw_at lw_m12 119 rfl) rfl
theorem q2904 : (Jvm.Cond.code ({ cls := "HedgeMessagesModel", name := "yardLetterCount", desc := "(I)I" } : Jvm.MethodName) prog_14_method_119_code (4 : Nat) (Option.some Jvm.ClassFile.FieldType.int)) ∈ lw_all := lw_g (lw_at lw_m12 120 rfl) rfl
theorem q2906 : (Jvm.Cond.instanceMethod ({ cls := "HedgeMessagesModel", name := "plantReason", desc := "(I)I" } : Jvm.MethodName)) ∈ lw_all := lw_g (lw_at lw_m12 122 rfl) rfl
theorem q2907 : (Jvm.Cond.selects "HedgeMessagesModel" ({ cls := "HedgeMessagesModel", name := "plantReason", desc := "(I)I" } : Jvm.MethodName) ({ cls := "HedgeMessagesModel", name := "plantReason", desc := "(I)I" } : Jvm.MethodName)) ∈ lw_all := lw_g (lw_at lw_m12 123 rfl) rfl
theorem q2908 : (Jvm.Cond.code ({ cls := "HedgeMessagesModel", name := "plantReason", desc := "(I)I" } : Jvm.MethodName) prog_14_method_120_code (2 : Nat) (Option.some Jvm.ClassFile.FieldType.int)) ∈ lw_all := lw_g (lw_at lw_m12 124 rfl) rfl
theorem q2910 : (Jvm.Cond.instanceMethod ({ cls := "HedgeMessagesModel", name := "removeReason", desc := "(I)I" } : Jvm.MethodName)) ∈ lw_all := lw_g (lw_at lw_m12 126 rfl) rfl
theorem q2911 : (Jvm.Cond.selects "HedgeMessagesModel" ({ cls := "HedgeMessagesModel", name := "removeReason", desc := "(I)I" } : Jvm.MethodName) ({ cls := "HedgeMessagesModel", name := "removeReason", desc := "(I)I" } : Jvm.MethodName)) ∈ lw_all := lw_g (lw_at lw_m12 127 rfl) rfl
theorem q2912 : (Jvm.Cond.code ({ cls := "HedgeMessagesModel", name := "removeReason", desc := "(I)I" } : Jvm.MethodName) prog_14_method_121_code (2 : Nat) (Option.some Jvm.ClassFile.FieldType.int)) ∈ lw_all := lw_g (lw_at lw_m12 128 rfl) rfl
theorem q2914 : (Jvm.Cond.instanceMethod ({ cls := "HedgeMessagesModel", name := "trimReason", desc := "(I)I" } : Jvm.MethodName)) ∈ lw_all := lw_g (lw_at lw_m12 130 rfl) rfl
theorem q2915 : (Jvm.Cond.selects "HedgeMessagesModel" ({ cls := "HedgeMessagesModel", name := "trimReason", desc := "(I)I" } : Jvm.MethodName) ({ cls := "HedgeMessagesModel", name := "trimReason", desc := "(I)I" } : Jvm.MethodName)) ∈ lw_all := lw_g (lw_at lw_m12 131 rfl) rfl
theorem q2916 : (Jvm.Cond.code ({ cls := "HedgeMessagesModel", name := "trimReason", desc := "(I)I" } : Jvm.MethodName) prog_14_method_122_code (2 : Nat) (Option.some Jvm.ClassFile.FieldType.int)) ∈ lw_all := lw_g (lw_at lw_m12 132 rfl) rfl
theorem q2918 : (Jvm.Cond.instanceMethod ({ cls := "HedgeMessagesModel", name := "writeReason", desc := "(I)I" } : Jvm.MethodName)) ∈ lw_all := lw_g (lw_at lw_m12 134 rfl) rfl
theorem q2919 : (Jvm.Cond.selects "HedgeMessagesModel" ({ cls := "HedgeMessagesModel", name := "writeReason", desc := "(I)I" } : Jvm.MethodName) ({ cls := "HedgeMessagesModel", name := "writeReason", desc := "(I)I" } : Jvm.MethodName)) ∈ lw_all := lw_g (lw_at lw_m12 135 rfl) rfl
theorem q2920 : (Jvm.Cond.code ({ cls := "HedgeMessagesModel", name := "writeReason", desc := "(I)I" } : Jvm.MethodName) prog_14_method_123_code (2 : Nat) (Option.some Jvm.ClassFile.FieldType.int)) ∈ lw_all := lw_g (lw_at lw_m12 136 rfl) rfl
theorem q2921 : (Jvm.Cond.methodLink "HedgeMessagesModel" (391 : Nat) ({ cls := "HedgeMessagesModel", name := "whyNotWrite", desc := "(I)I" } : Jvm.MethodName)) ∈ lw_all := lw_g (lw_at lw_m12 137 rfl) rfl
theorem q2922 : (Jvm.Cond.privateMethod ({ cls := "HedgeMessagesModel", name := "whyNotWrite", desc := "(I)I" } : Jvm.MethodName)) ∈ lw_tbl := lw_at lw_m12 138 rfl
theorem q2923 : (Jvm.Cond.instanceMethod ({ cls := "HedgeMessagesModel", name := "whyNotWrite", desc := "(I)I" } : Jvm.MethodName)) ∈ lw_all := lw_g (lw_at lw_m12 139 rfl) rfl
theorem q2924 : (Jvm.Cond.code ({ cls := "HedgeMessagesModel", name := "whyNotWrite", desc := "(I)I" } : Jvm.MethodName) prog_14_method_54_code (2 : Nat) (Option.some Jvm.ClassFile.FieldType.int)) ∈ lw_all := lw_g (lw_at lw_m12 140 rfl) rfl
theorem q2926 : (Jvm.Cond.instanceMethod ({ cls := "HedgeMessagesModel", name := "keepReason", desc := "(I)I" } : Jvm.MethodName)) ∈ lw_all := lw_g (lw_at lw_m12 142 rfl) rfl
theorem q2927 : (Jvm.Cond.selects "HedgeMessagesModel" ({ cls := "HedgeMessagesModel", name := "keepReason", desc := "(I)I" } : Jvm.MethodName) ({ cls := "HedgeMessagesModel", name := "keepReason", desc := "(I)I" } : Jvm.MethodName)) ∈ lw_all := lw_g (lw_at lw_m12 143 rfl) rfl
theorem q2928 : (Jvm.Cond.code ({ cls := "HedgeMessagesModel", name := "keepReason", desc := "(I)I" } : Jvm.MethodName) prog_14_method_124_code (2 : Nat) (Option.some Jvm.ClassFile.FieldType.int)) ∈ lw_all := lw_g (lw_at lw_m12 144 rfl) rfl
theorem q2929 : (Jvm.Cond.methodLink "HedgeMessagesModel" (394 : Nat) ({ cls := "HedgeMessagesModel", name := "whyKept", desc := "(I)I" } : Jvm.MethodName)) ∈ lw_all := lw_g (lw_at lw_m12 145 rfl) rfl
theorem q2930 : (Jvm.Cond.privateMethod ({ cls := "HedgeMessagesModel", name := "whyKept", desc := "(I)I" } : Jvm.MethodName)) ∈ lw_tbl := lw_at lw_m12 146 rfl
theorem q2931 : (Jvm.Cond.instanceMethod ({ cls := "HedgeMessagesModel", name := "whyKept", desc := "(I)I" } : Jvm.MethodName)) ∈ lw_all := lw_g (lw_at lw_m12 147 rfl) rfl
theorem q2932 : (Jvm.Cond.code ({ cls := "HedgeMessagesModel", name := "whyKept", desc := "(I)I" } : Jvm.MethodName) prog_14_method_55_code (2 : Nat) (Option.some Jvm.ClassFile.FieldType.int)) ∈ lw_all := lw_g (lw_at lw_m12 148 rfl) rfl
theorem q2934 : (Jvm.Cond.instanceMethod ({ cls := "HedgeMessagesModel", name := "daysUntilInspection", desc := "()I" } : Jvm.MethodName)) ∈ lw_all := lw_g (lw_at lw_m12 150 rfl) rfl
theorem q2935 : (Jvm.Cond.selects "HedgeMessagesModel" ({ cls := "HedgeMessagesModel", name := "daysUntilInspection", desc := "()I" } : Jvm.MethodName) ({ cls := "HedgeMessagesModel", name := "daysUntilInspection", desc := "()I" } : Jvm.MethodName)) ∈ lw_all := lw_g (lw_at lw_m12 151 rfl) rfl
theorem q2936 : (Jvm.Cond.code ({ cls := "HedgeMessagesModel", name := "daysUntilInspection", desc := "()I" } : Jvm.MethodName) prog_14_method_125_code (1 : Nat) (Option.some Jvm.ClassFile.FieldType.int)) ∈ lw_all := lw_g (lw_at lw_m12 152 rfl) rfl
theorem q2938 : (Jvm.Cond.instanceMethod ({ cls := "HedgeMessagesModel", name := "daysUntilPruned", desc := "(I)I" } : Jvm.MethodName)) ∈ lw_all := lw_g (lw_at lw_m12 154 rfl) rfl
theorem q2939 : (Jvm.Cond.selects "HedgeMessagesModel" ({ cls := "HedgeMessagesModel", name := "daysUntilPruned", desc := "(I)I" } : Jvm.MethodName) ({ cls := "HedgeMessagesModel", name := "daysUntilPruned", desc := "(I)I" } : Jvm.MethodName)) ∈ lw_all := lw_g (lw_at lw_m12 155 rfl) rfl
theorem q2940 : (Jvm.Cond.code ({ cls := "HedgeMessagesModel", name := "daysUntilPruned", desc := "(I)I" } : Jvm.MethodName) prog_14_method_126_code (3 : Nat) (Option.some Jvm.ClassFile.FieldType.int)) ∈ lw_all := lw_g (lw_at lw_m12 156 rfl) rfl
theorem q2941 : (Jvm.Cond.methodLink "HedgeMessagesModel" (397 : Nat) ({ cls := "HedgeMessagesModel", name := "tries", desc := "()V" } : Jvm.MethodName)) ∈ lw_all := lw_g (lw_at lw_m12 157 rfl) rfl
theorem q2942 : (Jvm.Cond.privateMethod ({ cls := "HedgeMessagesModel", name := "tries", desc := "()V" } : Jvm.MethodName)) ∈ lw_tbl := lw_at lw_m12 158 rfl
theorem q2943 : (Jvm.Cond.instanceMethod ({ cls := "HedgeMessagesModel", name := "tries", desc := "()V" } : Jvm.MethodName)) ∈ lw_all := lw_g (lw_at lw_m12 159 rfl) rfl
theorem q2944 : (Jvm.Cond.code ({ cls := "HedgeMessagesModel", name := "tries", desc := "()V" } : Jvm.MethodName) prog_14_method_9_code (1 : Nat) (Option.none : Option Jvm.ClassFile.FieldType)) ∈ lw_all := lw_g (lw_at lw_m12 160 rfl) rfl
theorem q2945 : (Jvm.Cond.methodLink "HedgeMessagesModel" (400 : Nat) ({ cls := "HedgeMessagesModel", name := "laidBack", desc := "(I)I" } : Jvm.MethodName)) ∈ lw_all := lw_g (lw_at lw_m12 161 rfl) rfl
theorem q2946 : (Jvm.Cond.privateMethod ({ cls := "HedgeMessagesModel", name := "laidBack", desc := "(I)I" } : Jvm.MethodName)) ∈ lw_tbl := lw_at lw_m12 162 rfl
theorem q2947 : (Jvm.Cond.instanceMethod ({ cls := "HedgeMessagesModel", name := "laidBack", desc := "(I)I" } : Jvm.MethodName)) ∈ lw_all := lw_g (lw_at lw_m12 163 rfl) rfl
theorem q2948 : (Jvm.Cond.code ({ cls := "HedgeMessagesModel", name := "laidBack", desc := "(I)I" } : Jvm.MethodName) prog_14_method_10_code (2 : Nat) (Option.some Jvm.ClassFile.FieldType.int)) ∈ lw_all := lw_g (lw_at lw_m12 164 rfl) rfl
theorem q2950 : (Jvm.Cond.instanceMethod ({ cls := "HedgeMessagesModel", name := "deliveredAfter", desc := "(II)I" } : Jvm.MethodName)) ∈ lw_all := lw_g (lw_at lw_m12 166 rfl) rfl
theorem q2951 : (Jvm.Cond.selects "HedgeMessagesModel" ({ cls := "HedgeMessagesModel", name := "deliveredAfter", desc := "(II)I" } : Jvm.MethodName) ({ cls := "HedgeMessagesModel", name := "deliveredAfter", desc := "(II)I" } : Jvm.MethodName)) ∈ lw_all := lw_g (lw_at lw_m12 167 rfl) rfl
theorem q2952 : (Jvm.Cond.code ({ cls := "HedgeMessagesModel", name := "deliveredAfter", desc := "(II)I" } : Jvm.MethodName) prog_14_method_128_code (4 : Nat) (Option.some Jvm.ClassFile.FieldType.int)) ∈ lw_all := lw_g (lw_at lw_m12 168 rfl) rfl
theorem q2953 : (Jvm.Cond.methodLink "HedgeMessagesModel" (405 : Nat) ({ cls := "HedgeMessagesModel", name := "areDays", desc := "(I)Z" } : Jvm.MethodName)) ∈ lw_all := lw_g (lw_at lw_m12 169 rfl) rfl
theorem q2954 : (Jvm.Cond.static ({ cls := "HedgeMessagesModel", name := "areDays", desc := "(I)Z" } : Jvm.MethodName)) ∈ lw_all := lw_g (lw_at lw_m12 170 rfl) rfl
theorem q2955 : (Jvm.Cond.code ({ cls := "HedgeMessagesModel", name := "areDays", desc := "(I)Z" } : Jvm.MethodName) prog_14_method_127_code (1 : Nat) (Option.some Jvm.ClassFile.FieldType.boolean)) ∈ lw_all := lw_g (lw_at lw_m12 171 rfl) rfl
theorem q2956 : (Jvm.Cond.constantLong "HedgeMessagesModel" (403 : Nat) (60 : Int64)) ∈ lw_all := lw_g (lw_at lw_m12 172 rfl) rfl
theorem q2958 : (Jvm.Cond.instanceMethod ({ cls := "HedgeMessagesModel", name := "pendingAfter", desc := "(II)I" } : Jvm.MethodName)) ∈ lw_all := lw_g (lw_at lw_m12 174 rfl) rfl
theorem q2959 : (Jvm.Cond.selects "HedgeMessagesModel" ({ cls := "HedgeMessagesModel", name := "pendingAfter", desc := "(II)I" } : Jvm.MethodName) ({ cls := "HedgeMessagesModel", name := "pendingAfter", desc := "(II)I" } : Jvm.MethodName)) ∈ lw_all := lw_g (lw_at lw_m12 175 rfl) rfl
theorem q2960 : (Jvm.Cond.code ({ cls := "HedgeMessagesModel", name := "pendingAfter", desc := "(II)I" } : Jvm.MethodName) prog_14_method_129_code (3 : Nat) (Option.some Jvm.ClassFile.FieldType.int)) ∈ lw_all := lw_g (lw_at lw_m12 176 rfl) rfl
theorem q2962 : (Jvm.Cond.instanceMethod ({ cls := "HedgeMessagesModel", name := "bestNestSlot", desc := "()I" } : Jvm.MethodName)) ∈ lw_all := lw_g (lw_at lw_m12 178 rfl) rfl
theorem q2963 : (Jvm.Cond.selects "HedgeMessagesModel" ({ cls := "HedgeMessagesModel", name := "bestNestSlot", desc := "()I" } : Jvm.MethodName) ({ cls := "HedgeMessagesModel", name := "bestNestSlot", desc := "()I" } : Jvm.MethodName)) ∈ lw_all := lw_g (lw_at lw_m12 179 rfl) rfl
theorem q2964 : (Jvm.Cond.code ({ cls := "HedgeMessagesModel", name := "bestNestSlot", desc := "()I" } : Jvm.MethodName) prog_14_method_131_code (4 : Nat) (Option.some Jvm.ClassFile.FieldType.int)) ∈ lw_all := lw_g (lw_at lw_m12 180 rfl) rfl
theorem q2965 : (Jvm.Cond.methodLink "HedgeMessagesModel" (408 : Nat) ({ cls := "HedgeMessagesModel", name := "savedBy", desc := "(I)I" } : Jvm.MethodName)) ∈ lw_all := lw_g (lw_at lw_m12 181 rfl) rfl
theorem q2966 : (Jvm.Cond.privateMethod ({ cls := "HedgeMessagesModel", name := "savedBy", desc := "(I)I" } : Jvm.MethodName)) ∈ lw_tbl := lw_at lw_m12 182 rfl
theorem q2967 : (Jvm.Cond.instanceMethod ({ cls := "HedgeMessagesModel", name := "savedBy", desc := "(I)I" } : Jvm.MethodName)) ∈ lw_all := lw_g (lw_at lw_m12 183 rfl) rfl
theorem q2968 : (Jvm.Cond.code ({ cls := "HedgeMessagesModel", name := "savedBy", desc := "(I)I" } : Jvm.MethodName) prog_14_method_130_code (4 : Nat) (Option.some Jvm.ClassFile.FieldType.int)) ∈ lw_all := lw_g (lw_at lw_m12 184 rfl) rfl
theorem q2970 : (Jvm.Cond.instanceMethod ({ cls := "HedgeMessagesModel", name := "leastWorkLimit", desc := "(II)I" } : Jvm.MethodName)) ∈ lw_all := lw_g (lw_at lw_m12 186 rfl) rfl
theorem q2971 : (Jvm.Cond.selects "HedgeMessagesModel" ({ cls := "HedgeMessagesModel", name := "leastWorkLimit", desc := "(II)I" } : Jvm.MethodName) ({ cls := "HedgeMessagesModel", name := "leastWorkLimit", desc := "(II)I" } : Jvm.MethodName)) ∈ lw_all := lw_g (lw_at lw_m12 187 rfl) rfl
theorem q2972 : (Jvm.Cond.code ({ cls := "HedgeMessagesModel", name := "leastWorkLimit", desc := "(II)I" } : Jvm.MethodName) prog_14_method_133_code (4 : Nat) (Option.some Jvm.ClassFile.FieldType.int)) ∈ lw_all := lw_g (lw_at lw_m12 188 rfl) rfl
theorem q2973 : (Jvm.Cond.methodLink "HedgeMessagesModel" (411 : Nat) ({ cls := "HedgeMessagesModel", name := "hasNothingLeft", desc := "(I)Z" } : Jvm.MethodName)) ∈ lw_all := lw_g (lw_at lw_m12 189 rfl) rfl
theorem q2974 : (Jvm.Cond.privateMethod ({ cls := "HedgeMessagesModel", name := "hasNothingLeft", desc := "(I)Z" } : Jvm.MethodName)) ∈ lw_tbl := lw_at lw_m12 190 rfl
theorem q2975 : (Jvm.Cond.instanceMethod ({ cls := "HedgeMessagesModel", name := "hasNothingLeft", desc := "(I)Z" } : Jvm.MethodName)) ∈ lw_all := lw_g (lw_at lw_m12 191 rfl) rfl
theorem q2976 : (Jvm.Cond.code ({ cls := "HedgeMessagesModel", name := "hasNothingLeft", desc := "(I)Z" } : Jvm.MethodName) prog_14_method_132_code (2 : Nat) (Option.some Jvm.ClassFile.FieldType.boolean)) ∈ lw_all := lw_g (lw_at lw_m12 192 rfl) rfl
theorem q2978 : (Jvm.Cond.instanceMethod ({ cls := "HedgeMessagesModel", name := "messagesQueued", desc := "(I)I" } : Jvm.MethodName)) ∈ lw_all := lw_g (lw_at lw_m12 194 rfl) rfl
theorem q2979 : (Jvm.Cond.selects "HedgeMessagesModel" ({ cls := "HedgeMessagesModel", name := "messagesQueued", desc := "(I)I" } : Jvm.MethodName) ({ cls := "HedgeMessagesModel", name := "messagesQueued", desc := "(I)I" } : Jvm.MethodName)) ∈ lw_all := lw_g (lw_at lw_m12 195 rfl) rfl
theorem q2980 : (Jvm.Cond.code ({ cls := "HedgeMessagesModel", name := "messagesQueued", desc := "(I)I" } : Jvm.MethodName) prog_14_method_135_code (2 : Nat) (Option.some Jvm.ClassFile.FieldType.int)) ∈ lw_all := lw_g (lw_at lw_m12 196 rfl) rfl
theorem q2981 : (Jvm.Cond.methodLink "HedgeMessagesModel" (414 : Nat) ({ cls := "HedgeMessagesModel", name := "counter", desc := "(II)I" } : Jvm.MethodName)) ∈ lw_all := lw_g (lw_at lw_m12 197 rfl) rfl
theorem q2982 : (Jvm.Cond.privateMethod ({ cls := "HedgeMessagesModel", name := "counter", desc := "(II)I" } : Jvm.MethodName)) ∈ lw_tbl := lw_at lw_m12 198 rfl
theorem q2983 : (Jvm.Cond.instanceMethod ({ cls := "HedgeMessagesModel", name := "counter", desc := "(II)I" } : Jvm.MethodName)) ∈ lw_all := lw_g (lw_at lw_m12 199 rfl) rfl
theorem q2984 : (Jvm.Cond.code ({ cls := "HedgeMessagesModel", name := "counter", desc := "(II)I" } : Jvm.MethodName) prog_14_method_134_code (3 : Nat) (Option.some Jvm.ClassFile.FieldType.int)) ∈ lw_all := lw_g (lw_at lw_m12 200 rfl) rfl
theorem q2986 : (Jvm.Cond.instanceMethod ({ cls := "HedgeMessagesModel", name := "messagesDelivered", desc := "(I)I" } : Jvm.MethodName)) ∈ lw_all := lw_g (lw_at lw_m12 202 rfl) rfl
theorem q2987 : (Jvm.Cond.selects "HedgeMessagesModel" ({ cls := "HedgeMessagesModel", name := "messagesDelivered", desc := "(I)I" } : Jvm.MethodName) ({ cls := "HedgeMessagesModel", name := "messagesDelivered", desc := "(I)I" } : Jvm.MethodName)) ∈ lw_all := lw_g (lw_at lw_m12 203 rfl) rfl
theorem q2988 : (Jvm.Cond.code ({ cls := "HedgeMessagesModel", name := "messagesDelivered", desc := "(I)I" } : Jvm.MethodName) prog_14_method_136_code (2 : Nat) (Option.some Jvm.ClassFile.FieldType.int)) ∈ lw_all := lw_g (lw_at lw_m12 204 rfl) rfl
theorem q2990 : (Jvm.Cond.instanceMethod ({ cls := "HedgeMessagesModel", name := "messagesFailed", desc := "(I)I" } : Jvm.MethodName)) ∈ lw_all := lw_g (lw_at lw_m12 206 rfl) rfl
theorem q2991 : (Jvm.Cond.selects "HedgeMessagesModel" ({ cls := "HedgeMessagesModel", name := "messagesFailed", desc := "(I)I" } : Jvm.MethodName) ({ cls := "HedgeMessagesModel", name := "messagesFailed", desc := "(I)I" } : Jvm.MethodName)) ∈ lw_all := lw_g (lw_at lw_m12 207 rfl) rfl
theorem q2992 : (Jvm.Cond.code ({ cls := "HedgeMessagesModel", name := "messagesFailed", desc := "(I)I" } : Jvm.MethodName) prog_14_method_137_code (2 : Nat) (Option.some Jvm.ClassFile.FieldType.int)) ∈ lw_all := lw_g (lw_at lw_m12 208 rfl) rfl
theorem q2994 : (Jvm.Cond.instanceMethod ({ cls := "HedgeMessagesModel", name := "messagesDropped", desc := "(I)I" } : Jvm.MethodName)) ∈ lw_all := lw_g (lw_at lw_m12 210 rfl) rfl
theorem q2995 : (Jvm.Cond.selects "HedgeMessagesModel" ({ cls := "HedgeMessagesModel", name := "messagesDropped", desc := "(I)I" } : Jvm.MethodName) ({ cls := "HedgeMessagesModel", name := "messagesDropped", desc := "(I)I" } : Jvm.MethodName)) ∈ lw_all := lw_g (lw_at lw_m12 211 rfl) rfl
theorem q2996 : (Jvm.Cond.code ({ cls := "HedgeMessagesModel", name := "messagesDropped", desc := "(I)I" } : Jvm.MethodName) prog_14_method_138_code (2 : Nat) (Option.some Jvm.ClassFile.FieldType.int)) ∈ lw_all := lw_g (lw_at lw_m12 212 rfl) rfl
theorem q2998 : (Jvm.Cond.instanceMethod ({ cls := "HedgeMessagesModel", name := "twigsPlanted", desc := "()I" } : Jvm.MethodName)) ∈ lw_all := lw_g (lw_at lw_m12 214 rfl) rfl
theorem q2999 : (Jvm.Cond.selects "HedgeMessagesModel" ({ cls := "HedgeMessagesModel", name := "twigsPlanted", desc := "()I" } : Jvm.MethodName) ({ cls := "HedgeMessagesModel", name := "twigsPlanted", desc := "()I" } : Jvm.MethodName)) ∈ lw_all := lw_g (lw_at lw_m12 215 rfl) rfl
theorem q3000 : (Jvm.Cond.code ({ cls := "HedgeMessagesModel", name := "twigsPlanted", desc := "()I" } : Jvm.MethodName) prog_14_method_139_code (1 : Nat) (Option.some Jvm.ClassFile.FieldType.int)) ∈ lw_all := lw_g (lw_at lw_m12 216 rfl) rfl
theorem q3002 : (Jvm.Cond.instanceMethod ({ cls := "HedgeMessagesModel", name := "twigsPruned", desc := "()I" } : Jvm.MethodName)) ∈ lw_all := lw_g (lw_at lw_m12 218 rfl) rfl
theorem q3003 : (Jvm.Cond.selects "HedgeMessagesModel" ({ cls := "HedgeMessagesModel", name := "twigsPruned", desc := "()I" } : Jvm.MethodName) ({ cls := "HedgeMessagesModel", name := "twigsPruned", desc := "()I" } : Jvm.MethodName)) ∈ lw_all := lw_g (lw_at lw_m12 219 rfl) rfl
theorem q3004 : (Jvm.Cond.code ({ cls := "HedgeMessagesModel", name := "twigsPruned", desc := "()I" } : Jvm.MethodName) prog_14_method_140_code (1 : Nat) (Option.some Jvm.ClassFile.FieldType.int)) ∈ lw_all := lw_g (lw_at lw_m12 220 rfl) rfl
theorem q3006 : (Jvm.Cond.instanceMethod ({ cls := "HedgeMessagesModel", name := "twigsRemoved", desc := "()I" } : Jvm.MethodName)) ∈ lw_all := lw_g (lw_at lw_m12 222 rfl) rfl
theorem q3007 : (Jvm.Cond.selects "HedgeMessagesModel" ({ cls := "HedgeMessagesModel", name := "twigsRemoved", desc := "()I" } : Jvm.MethodName) ({ cls := "HedgeMessagesModel", name := "twigsRemoved", desc := "()I" } : Jvm.MethodName)) ∈ lw_all := lw_g (lw_at lw_m12 223 rfl) rfl
theorem q3008 : (Jvm.Cond.code ({ cls := "HedgeMessagesModel", name := "twigsRemoved", desc := "()I" } : Jvm.MethodName) prog_14_method_141_code (1 : Nat) (Option.some Jvm.ClassFile.FieldType.int)) ∈ lw_all := lw_g (lw_at lw_m12 224 rfl) rfl
theorem q3010 : (Jvm.Cond.instanceMethod ({ cls := "HedgeMessagesModel", name := "twigImbalance", desc := "()I" } : Jvm.MethodName)) ∈ lw_all := lw_g (lw_at lw_m12 226 rfl) rfl
theorem q3011 : (Jvm.Cond.selects "HedgeMessagesModel" ({ cls := "HedgeMessagesModel", name := "twigImbalance", desc := "()I" } : Jvm.MethodName) ({ cls := "HedgeMessagesModel", name := "twigImbalance", desc := "()I" } : Jvm.MethodName)) ∈ lw_all := lw_g (lw_at lw_m12 227 rfl) rfl
theorem q3012 : (Jvm.Cond.code ({ cls := "HedgeMessagesModel", name := "twigImbalance", desc := "()I" } : Jvm.MethodName) prog_14_method_142_code (1 : Nat) (Option.some Jvm.ClassFile.FieldType.int)) ∈ lw_all := lw_g (lw_at lw_m12 228 rfl) rfl
theorem q3014 : (Jvm.Cond.instanceMethod ({ cls := "HedgeMessagesModel", name := "messageImbalance", desc := "()I" } : Jvm.MethodName)) ∈ lw_all := lw_g (lw_at lw_m12 230 rfl) rfl
theorem q3015 : (Jvm.Cond.selects "HedgeMessagesModel" ({ cls := "HedgeMessagesModel", name := "messageImbalance", desc := "()I" } : Jvm.MethodName) ({ cls := "HedgeMessagesModel", name := "messageImbalance", desc := "()I" } : Jvm.MethodName)) ∈ lw_all := lw_g (lw_at lw_m12 231 rfl) rfl
theorem q3016 : (Jvm.Cond.code ({ cls := "HedgeMessagesModel", name := "messageImbalance", desc := "()I" } : Jvm.MethodName) prog_14_method_143_code (3 : Nat) (Option.some Jvm.ClassFile.FieldType.int)) ∈ lw_all := lw_g (lw_at lw_m12 232 rfl) rfl
theorem q3018 : (Jvm.Cond.instanceMethod ({ cls := "HedgeMessagesModel", name := "wrongLetters", desc := "()I" } : Jvm.MethodName)) ∈ lw_all := lw_g (lw_at lw_m12 234 rfl) rfl
theorem q3019 : (Jvm.Cond.selects "HedgeMessagesModel" ({ cls := "HedgeMessagesModel", name := "wrongLetters", desc := "()I" } : Jvm.MethodName) ({ cls := "HedgeMessagesModel", name := "wrongLetters", desc := "()I" } : Jvm.MethodName)) ∈ lw_all := lw_g (lw_at lw_m12 235 rfl) rfl
theorem q3020 : (Jvm.Cond.code ({ cls := "HedgeMessagesModel", name := "wrongLetters", desc := "()I" } : Jvm.MethodName) prog_14_method_145_code (4 : Nat) (Option.some Jvm.ClassFile.FieldType.int)) ∈ lw_all := lw_g (lw_at lw_m12 236 rfl) rfl
theorem q3021 : (Jvm.Cond.methodLink "HedgeMessagesModel" (417 : Nat) ({ cls := "HedgeMessagesModel", name := "wrongIn", desc := "(III)I" } : Jvm.MethodName)) ∈ lw_all := lw_g (lw_at lw_m12 237 rfl) rfl
theorem q3022 : (Jvm.Cond.privateMethod ({ cls := "HedgeMessagesModel", name := "wrongIn", desc := "(III)I" } : Jvm.MethodName)) ∈ lw_tbl := lw_at lw_m12 238 rfl
theorem q3023 : (Jvm.Cond.instanceMethod ({ cls := "HedgeMessagesModel", name := "wrongIn", desc := "(III)I" } : Jvm.MethodName)) ∈ lw_all := lw_g (lw_at lw_m12 239 rfl) rfl
theorem q3024 : (Jvm.Cond.code ({ cls := "HedgeMessagesModel", name := "wrongIn", desc := "(III)I" } : Jvm.MethodName) prog_14_method_144_code (7 : Nat) (Option.some Jvm.ClassFile.FieldType.int)) ∈ lw_all := lw_g (lw_at lw_m13 0 rfl) rfl
theorem q3026 : (Jvm.Cond.instanceMethod ({ cls := "HedgeMessagesModel", name := "meanLength", desc := "()F" } : Jvm.MethodName)) ∈ lw_all := lw_g (lw_at lw_m13 2 rfl) rfl
theorem q3027 : (Jvm.Cond.selects "HedgeMessagesModel" ({ cls := "HedgeMessagesModel", name := "meanLength", desc := "()F" } : Jvm.MethodName) ({ cls := "HedgeMessagesModel", name := "meanLength", desc := "()F" } : Jvm.MethodName)) ∈ lw_all := lw_g (lw_at lw_m13 3 rfl) rfl
theorem q3028 : (Jvm.Cond.code ({ cls := "HedgeMessagesModel", name := "meanLength", desc := "()F" } : Jvm.MethodName) prog_14_method_146_code (3 : Nat) (Option.some Jvm.ClassFile.FieldType.float)) ∈ lw_all := lw_g (lw_at lw_m13 4 rfl) rfl
theorem q3030 : (Jvm.Cond.instanceMethod ({ cls := "HedgeMessagesModel", name := "occupancy", desc := "()D" } : Jvm.MethodName)) ∈ lw_all := lw_g (lw_at lw_m13 6 rfl) rfl
theorem q3031 : (Jvm.Cond.selects "HedgeMessagesModel" ({ cls := "HedgeMessagesModel", name := "occupancy", desc := "()D" } : Jvm.MethodName) ({ cls := "HedgeMessagesModel", name := "occupancy", desc := "()D" } : Jvm.MethodName)) ∈ lw_all := lw_g (lw_at lw_m13 7 rfl) rfl
theorem q3032 : (Jvm.Cond.code ({ cls := "HedgeMessagesModel", name := "occupancy", desc := "()D" } : Jvm.MethodName) prog_14_method_147_code (1 : Nat) (Option.some Jvm.ClassFile.FieldType.double)) ∈ lw_all := lw_g (lw_at lw_m13 8 rfl) rfl
theorem q3034 : (Jvm.Cond.instanceMethod ({ cls := "HedgeMessagesModel", name := "plant", desc := "(II)I" } : Jvm.MethodName)) ∈ lw_all := lw_g (lw_at lw_m13 10 rfl) rfl
theorem q3035 : (Jvm.Cond.selects "HedgeMessagesModel" ({ cls := "HedgeMessagesModel", name := "plant", desc := "(II)I" } : Jvm.MethodName) ({ cls := "HedgeMessagesModel", name := "plant", desc := "(II)I" } : Jvm.MethodName)) ∈ lw_all := lw_g (lw_at lw_m13 11 rfl) rfl
theorem q3036 : (Jvm.Cond.code ({ cls := "HedgeMessagesModel", name := "plant", desc := "(II)I" } : Jvm.MethodName) prog_14_method_150_code (4 : Nat) (Option.some Jvm.ClassFile.FieldType.int)) ∈ lw_all := lw_g (lw_at lw_m13 12 rfl) rfl
theorem q3037 : (Jvm.Cond.methodLink "HedgeMessagesModel" (421 : Nat) ({ cls := "HedgeMessagesModel", name := "passesAll", desc := "(ZZZ)Z" } : Jvm.MethodName)) ∈ lw_all := lw_g (lw_at lw_m13 13 rfl) rfl
theorem q3038 : (Jvm.Cond.privateMethod ({ cls := "HedgeMessagesModel", name := "passesAll", desc := "(ZZZ)Z" } : Jvm.MethodName)) ∈ lw_tbl := lw_at lw_m13 14 rfl
theorem q3039 : (Jvm.Cond.instanceMethod ({ cls := "HedgeMessagesModel", name := "passesAll", desc := "(ZZZ)Z" } : Jvm.MethodName)) ∈ lw_all := lw_g (lw_at lw_m13 15 rfl) rfl
theorem q3040 : (Jvm.Cond.code ({ cls := "HedgeMessagesModel", name := "passesAll", desc := "(ZZZ)Z" } : Jvm.MethodName) prog_14_method_7_code (4 : Nat) (Option.some Jvm.ClassFile.FieldType.boolean)) ∈ lw_all := lw_g (lw_at lw_m13 16 rfl) rfl
theorem q3041 : (Jvm.Cond.methodLink "HedgeMessagesModel" (425 : Nat) ({ cls := "HedgeMessagesModel", name := "tried", desc := "(Z)Z" } : Jvm.MethodName)) ∈ lw_all := lw_g (lw_at lw_m13 17 rfl) rfl
theorem q3042 : (Jvm.Cond.privateMethod ({ cls := "HedgeMessagesModel", name := "tried", desc := "(Z)Z" } : Jvm.MethodName)) ∈ lw_tbl := lw_at lw_m13 18 rfl
theorem q3043 : (Jvm.Cond.instanceMethod ({ cls := "HedgeMessagesModel", name := "tried", desc := "(Z)Z" } : Jvm.MethodName)) ∈ lw_all := lw_g (lw_at lw_m13 19 rfl) rfl
theorem q3044 : (Jvm.Cond.code ({ cls := "HedgeMessagesModel", name := "tried", desc := "(Z)Z" } : Jvm.MethodName) prog_14_method_149_code (2 : Nat) (Option.some Jvm.ClassFile.FieldType.boolean)) ∈ lw_all := lw_g (lw_at lw_m13 20 rfl) rfl
theorem q3045 : (Jvm.Cond.methodLink "HedgeMessagesModel" (428 : Nat) ({ cls := "HedgeMessagesModel", name := "done", desc := "(Z)I" } : Jvm.MethodName)) ∈ lw_all := lw_g (lw_at lw_m13 21 rfl) rfl
theorem q3046 : (Jvm.Cond.privateMethod ({ cls := "HedgeMessagesModel", name := "done", desc := "(Z)I" } : Jvm.MethodName)) ∈ lw_tbl := lw_at lw_m13 22 rfl
theorem q3047 : (Jvm.Cond.instanceMethod ({ cls := "HedgeMessagesModel", name := "done", desc := "(Z)I" } : Jvm.MethodName)) ∈ lw_all := lw_g (lw_at lw_m13 23 rfl) rfl
theorem q3048 : (Jvm.Cond.code ({ cls := "HedgeMessagesModel", name := "done", desc := "(Z)I" } : Jvm.MethodName) prog_14_method_148_code (2 : Nat) (Option.some Jvm.ClassFile.FieldType.int)) ∈ lw_all := lw_g (lw_at lw_m13 24 rfl) rfl
theorem q3050 : (Jvm.Cond.instanceMethod ({ cls := "HedgeMessagesModel", name := "remove", desc := "(I)I" } : Jvm.MethodName)) ∈ lw_all := lw_g (lw_at lw_m13 26 rfl) rfl
theorem q3051 : (Jvm.Cond.selects "HedgeMessagesModel" ({ cls := "HedgeMessagesModel", name := "remove", desc := "(I)I" } : Jvm.MethodName) ({ cls := "HedgeMessagesModel", name := "remove", desc := "(I)I" } : Jvm.MethodName)) ∈ lw_all := lw_g (lw_at lw_m13 27 rfl) rfl
theorem q3052 : (Jvm.Cond.code ({ cls := "HedgeMessagesModel", name := "remove", desc := "(I)I" } : Jvm.MethodName) prog_14_method_151_code (2 : Nat) (Option.some Jvm.ClassFile.FieldType.int)) ∈ lw_all := lw_g (lw_at lw_m13 28 rfl) rfl
theorem q3053 : (Jvm.Cond.methodLink "HedgeMessagesModel" (431 : Nat) ({ cls := "HedgeMessagesModel", name := "passesBoth", desc := "(ZZ)Z" } : Jvm.MethodName)) ∈ lw_all := lw_g (lw_at lw_m13 29 rfl) rfl
theorem q3054 : (Jvm.Cond.privateMethod ({ cls := "HedgeMessagesModel", name := "passesBoth", desc := "(ZZ)Z" } : Jvm.MethodName)) ∈ lw_tbl := lw_at lw_m13 30 rfl
theorem q3055 : (Jvm.Cond.instanceMethod ({ cls := "HedgeMessagesModel", name := "passesBoth", desc := "(ZZ)Z" } : Jvm.MethodName)) ∈ lw_all := lw_g (lw_at lw_m13 31 rfl) rfl
theorem q3056 : (Jvm.Cond.code ({ cls := "HedgeMessagesModel", name := "passesBoth", desc := "(ZZ)Z" } : Jvm.MethodName) prog_14_method_6_code (3 : Nat) (Option.some Jvm.ClassFile.FieldType.boolean)) ∈ lw_all := lw_g (lw_at lw_m13 32 rfl) rfl
theorem q3058 : (Jvm.Cond.instanceMethod ({ cls := "HedgeMessagesModel", name := "trim", desc := "(II)I" } : Jvm.MethodName)) ∈ lw_all := lw_g (lw_at lw_m13 34 rfl) rfl
theorem q3059 : (Jvm.Cond.selects "HedgeMessagesModel" ({ cls := "HedgeMessagesModel", name := "trim", desc := "(II)I" } : Jvm.MethodName) ({ cls := "HedgeMessagesModel", name := "trim", desc := "(II)I" } : Jvm.MethodName)) ∈ lw_all := lw_g (lw_at lw_m13 35 rfl) rfl
theorem q3060 : (Jvm.Cond.code ({ cls := "HedgeMessagesModel", name := "trim", desc := "(II)I" } : Jvm.MethodName) prog_14_method_152_code (4 : Nat) (Option.some Jvm.ClassFile.FieldType.int)) ∈ lw_all := lw_g (lw_at lw_m13 36 rfl) rfl
theorem q3061 : (Jvm.Cond.constantLong "HedgeMessagesModel" (435 : Nat) (99 : Int64)) ∈ lw_all := lw_g (lw_at lw_m13 37 rfl) rfl
theorem q3063 : (Jvm.Cond.instanceMethod ({ cls := "HedgeMessagesModel", name := "addNest", desc := "(II)I" } : Jvm.MethodName)) ∈ lw_all := lw_g (lw_at lw_m13 39 rfl) rfl
theorem q3064 : (Jvm.Cond.selects "HedgeMessagesModel" ({ cls := "HedgeMessagesModel", name := "addNest", desc := "(II)I" } : Jvm.MethodName) ({ cls := "HedgeMessagesModel", name := "addNest", desc := "(II)I" } : Jvm.MethodName)) ∈ lw_all := lw_g (lw_at lw_m13 40 rfl) rfl
theorem q3065 : (Jvm.Cond.code ({ cls := "HedgeMessagesModel", name := "addNest", desc := "(II)I" } : Jvm.MethodName) prog_14_method_153_code (3 : Nat) (Option.some Jvm.ClassFile.FieldType.int)) ∈ lw_all := lw_g (lw_at lw_m13 41 rfl) rfl
theorem q3066 : (Jvm.Cond.constantLong "HedgeMessagesModel" (437 : Nat) (30 : Int64)) ∈ lw_all := lw_g (lw_at lw_m13 42 rfl) rfl
theorem q3068 : (Jvm.Cond.instanceMethod ({ cls := "HedgeMessagesModel", name := "queueMessage", desc := "(I)I" } : Jvm.MethodName)) ∈ lw_all := lw_g (lw_at lw_m13 44 rfl) rfl
theorem q3069 : (Jvm.Cond.selects "HedgeMessagesModel" ({ cls := "HedgeMessagesModel", name := "queueMessage", desc := "(I)I" } : Jvm.MethodName) ({ cls := "HedgeMessagesModel", name := "queueMessage", desc := "(I)I" } : Jvm.MethodName)) ∈ lw_all := lw_g (lw_at lw_m13 45 rfl) rfl
theorem q3070 : (Jvm.Cond.code ({ cls := "HedgeMessagesModel", name := "queueMessage", desc := "(I)I" } : Jvm.MethodName) prog_14_method_155_code (3 : Nat) (Option.some Jvm.ClassFile.FieldType.int)) ∈ lw_all := lw_g (lw_at lw_m13 46 rfl) rfl
theorem q3071 : (Jvm.Cond.methodLink "HedgeMessagesModel" (439 : Nat) ({ cls := "HedgeMessagesModel", name := "isBufferWord", desc := "()Z" } : Jvm.MethodName)) ∈ lw_all := lw_g (lw_at lw_m13 47 rfl) rfl
theorem q3072 : (Jvm.Cond.privateMethod ({ cls := "HedgeMessagesModel", name := "isBufferWord", desc := "()Z" } : Jvm.MethodName)) ∈ lw_tbl := lw_at lw_m13 48 rfl
theorem q3073 : (Jvm.Cond.instanceMethod ({ cls := "HedgeMessagesModel", name := "isBufferWord", desc := "()Z" } : Jvm.MethodName)) ∈ lw_all := lw_g (lw_at lw_m13 49 rfl) rfl
theorem q3074 : (Jvm.Cond.code ({ cls := "HedgeMessagesModel", name := "isBufferWord", desc := "()Z" } : Jvm.MethodName) prog_14_method_154_code (3 : Nat) (Option.some Jvm.ClassFile.FieldType.boolean)) ∈ lw_all := lw_g (lw_at lw_m13 50 rfl) rfl
theorem q3076 : (Jvm.Cond.instanceMethod ({ cls := "HedgeMessagesModel", name := "cancelMessage", desc := "(II)I" } : Jvm.MethodName)) ∈ lw_all := lw_g (lw_at lw_m13 52 rfl) rfl
theorem q3077 : (Jvm.Cond.selects "HedgeMessagesModel" ({ cls := "HedgeMessagesModel", name := "cancelMessage", desc := "(II)I" } : Jvm.MethodName) ({ cls := "HedgeMessagesModel", name := "cancelMessage", desc := "(II)I" } : Jvm.MethodName)) ∈ lw_all := lw_g (lw_at lw_m13 53 rfl) rfl
theorem q3078 : (Jvm.Cond.code ({ cls := "HedgeMessagesModel", name := "cancelMessage", desc := "(II)I" } : Jvm.MethodName) prog_14_method_156_code (4 : Nat) (Option.some Jvm.ClassFile.FieldType.int)) ∈ lw_all := lw_g (lw_at lw_m13 54 rfl) rfl
theorem q3080 : (Jvm.Cond.instanceMethod ({ cls := "HedgeMessagesModel", name := "setWorkLimit", desc := "(I)I" } : Jvm.MethodName)) ∈ lw_all := lw_g (lw_at lw_m13 56 rfl) rfl
theorem q3081 : (Jvm.Cond.selects "HedgeMessagesModel" ({ cls := "HedgeMessagesModel", name := "setWorkLimit", desc := "(I)I" } : Jvm.MethodName) ({ cls := "HedgeMessagesModel", name := "setWorkLimit", desc := "(I)I" } : Jvm.MethodName)) ∈ lw_all := lw_g (lw_at lw_m13 57 rfl) rfl
theorem q3082 : (Jvm.Cond.code ({ cls := "HedgeMessagesModel", name := "setWorkLimit", desc := "(I)I" } : Jvm.MethodName) prog_14_method_157_code (2 : Nat) (Option.some Jvm.ClassFile.FieldType.int)) ∈ lw_all := lw_g (lw_at lw_m13 58 rfl) rfl
theorem q3084 : (Jvm.Cond.instanceMethod ({ cls := "HedgeMessagesModel", name := "endDays", desc := "(I)I" } : Jvm.MethodName)) ∈ lw_all := lw_g (lw_at lw_m13 60 rfl) rfl
theorem q3085 : (Jvm.Cond.selects "HedgeMessagesModel" ({ cls := "HedgeMessagesModel", name := "endDays", desc := "(I)I" } : Jvm.MethodName) ({ cls := "HedgeMessagesModel", name := "endDays", desc := "(I)I" } : Jvm.MethodName)) ∈ lw_all := lw_g (lw_at lw_m13 61 rfl) rfl
theorem q3086 : (Jvm.Cond.code ({ cls := "HedgeMessagesModel", name := "endDays", desc := "(I)I" } : Jvm.MethodName) prog_14_method_158_code (2 : Nat) (Option.some Jvm.ClassFile.FieldType.int)) ∈ lw_all := lw_g (lw_at lw_m13 62 rfl) rfl
theorem q3088 : (Jvm.Cond.instanceMethod ({ cls := "HedgeMessagesModel", name := "undo", desc := "()I" } : Jvm.MethodName)) ∈ lw_all := lw_g (lw_at lw_m13 64 rfl) rfl
theorem q3089 : (Jvm.Cond.selects "HedgeMessagesModel" ({ cls := "HedgeMessagesModel", name := "undo", desc := "()I" } : Jvm.MethodName) ({ cls := "HedgeMessagesModel", name := "undo", desc := "()I" } : Jvm.MethodName)) ∈ lw_all := lw_g (lw_at lw_m13 65 rfl) rfl
theorem q3090 : (Jvm.Cond.code ({ cls := "HedgeMessagesModel", name := "undo", desc := "()I" } : Jvm.MethodName) prog_14_method_159_code (1 : Nat) (Option.some Jvm.ClassFile.FieldType.int)) ∈ lw_all := lw_g (lw_at lw_m13 66 rfl) rfl
theorem q3092 : (Jvm.Cond.instanceMethod ({ cls := "HedgeMessagesModel", name := "save", desc := "()I" } : Jvm.MethodName)) ∈ lw_all := lw_g (lw_at lw_m13 68 rfl) rfl
theorem q3093 : (Jvm.Cond.selects "HedgeMessagesModel" ({ cls := "HedgeMessagesModel", name := "save", desc := "()I" } : Jvm.MethodName) ({ cls := "HedgeMessagesModel", name := "save", desc := "()I" } : Jvm.MethodName)) ∈ lw_all := lw_g (lw_at lw_m13 69 rfl) rfl
theorem q3094 : (Jvm.Cond.code ({ cls := "HedgeMessagesModel", name := "save", desc := "()I" } : Jvm.MethodName) prog_14_method_160_code (1 : Nat) (Option.some Jvm.ClassFile.FieldType.int)) ∈ lw_all := lw_g (lw_at lw_m13 70 rfl) rfl
theorem q3096 : (Jvm.Cond.instanceMethod ({ cls := "HedgeMessagesModel", name := "restore", desc := "()I" } : Jvm.MethodName)) ∈ lw_all := lw_g (lw_at lw_m13 72 rfl) rfl
theorem q3097 : (Jvm.Cond.selects "HedgeMessagesModel" ({ cls := "HedgeMessagesModel", name := "restore", desc := "()I" } : Jvm.MethodName) ({ cls := "HedgeMessagesModel", name := "restore", desc := "()I" } : Jvm.MethodName)) ∈ lw_all := lw_g (lw_at lw_m13 73 rfl) rfl
theorem q3098 : (Jvm.Cond.code ({ cls := "HedgeMessagesModel", name := "restore", desc := "()I" } : Jvm.MethodName) prog_14_method_161_code (1 : Nat) (Option.some Jvm.ClassFile.FieldType.int)) ∈ lw_all := lw_g (lw_at lw_m13 74 rfl) rfl
theorem q3100 : (Jvm.Cond.instanceMethod ({ cls := "HedgeMessagesModel", name := "formatHedge", desc := "()I" } : Jvm.MethodName)) ∈ lw_all := lw_g (lw_at lw_m13 76 rfl) rfl
theorem q3101 : (Jvm.Cond.selects "HedgeMessagesModel" ({ cls := "HedgeMessagesModel", name := "formatHedge", desc := "()I" } : Jvm.MethodName) ({ cls := "HedgeMessagesModel", name := "formatHedge", desc := "()I" } : Jvm.MethodName)) ∈ lw_all := lw_g (lw_at lw_m13 77 rfl) rfl
theorem q3102 : (Jvm.Cond.code ({ cls := "HedgeMessagesModel", name := "formatHedge", desc := "()I" } : Jvm.MethodName) prog_14_method_163_code (2 : Nat) (Option.some Jvm.ClassFile.FieldType.int)) ∈ lw_all := lw_g (lw_at lw_m13 78 rfl) rfl
theorem q3103 : (Jvm.Cond.methodLink "HedgeMessagesModel" (449 : Nat) ({ cls := "HedgeMessagesModel", name := "markOf", desc := "(I)I" } : Jvm.MethodName)) ∈ lw_all := lw_g (lw_at lw_m13 79 rfl) rfl
theorem q3104 : (Jvm.Cond.privateMethod ({ cls := "HedgeMessagesModel", name := "markOf", desc := "(I)I" } : Jvm.MethodName)) ∈ lw_tbl := lw_at lw_m13 80 rfl
theorem q3105 : (Jvm.Cond.instanceMethod ({ cls := "HedgeMessagesModel", name := "markOf", desc := "(I)I" } : Jvm.MethodName)) ∈ lw_all := lw_g (lw_at lw_m13 81 rfl) rfl
theorem q3106 : (Jvm.Cond.code ({ cls := "HedgeMessagesModel", name := "markOf", desc := "(I)I" } : Jvm.MethodName) prog_14_method_162_code (2 : Nat) (Option.some Jvm.ClassFile.FieldType.int)) ∈ lw_all := lw_g (lw_at lw_m13 82 rfl) rfl
theorem q3108 : (Jvm.Cond.instanceMethod ({ cls := "HedgeMessagesModel", name := "outputByte", desc := "(I)I" } : Jvm.MethodName)) ∈ lw_all := lw_g (lw_at lw_m13 84 rfl) rfl
theorem q3109 : (Jvm.Cond.selects "HedgeMessagesModel" ({ cls := "HedgeMessagesModel", name := "outputByte", desc := "(I)I" } : Jvm.MethodName) ({ cls := "HedgeMessagesModel", name := "outputByte", desc := "(I)I" } : Jvm.MethodName)) ∈ lw_all := lw_g (lw_at lw_m13 85 rfl) rfl
theorem q3110 : (Jvm.Cond.code ({ cls := "HedgeMessagesModel", name := "outputByte", desc := "(I)I" } : Jvm.MethodName) prog_14_method_164_code (2 : Nat) (Option.some Jvm.ClassFile.FieldType.int)) ∈ lw_all := lw_g (lw_at lw_m13 86 rfl) rfl
theorem q3139 : (Jvm.Cond.castable "HedgeMessagesModel" "java/lang/Object") ∈ lw_tbl := lw_at lw_m13 115 rfl
theorem in_X6 : ∀ w ∈ wsX60, w ∈ lw_all := lw_in wsX60 [2529, 2531, 2533, 2535, 2537, 2539, 2541, 2543, 2545, 2547, 2549, 2551, 2553, 2555, 2557, 2559, 2561, 2563, 2565, 2567, 2569, 2571, 2573] (by decide +kernel) (by decide +kernel)

