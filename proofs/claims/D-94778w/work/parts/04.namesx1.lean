/-! FifthCard -/
set_option maxRecDepth 100000
def RX1 : String := "FifthCard"
def TX1 : u_T := fun k => match k with
  | 0 => ("FifthCard", "tape", "[B", true)
  | 1 => ("FifthCard", "taped", "I", false)
  | 2 => ("FifthCard", "reader", "LFifthCard$Reader;", true)
  | 3 => ("FifthCard", "trick", "LFifthCard$Trick;", false)
  | 4 => ("FifthCard", "trouble", "I", false)
  | 5 => ("FifthCard", "fault", "I", false)
  | 6 => ("FifthCard", "where", "I", false)
  | 7 => ("FifthCard", "imageMany", "I", false)
  | 8 => ("FifthCard", "handMany", "I", false)
  | 9 => ("FifthCard", "pairing", "LFifthCard$Pairing;", true)
  | 10 => ("FifthCard", "spokenRules", "[LFifthCard$Rule;", true)
  | 11 => ("FifthCard", "log", "LFifthCard$Log;", true)
  | 12 => ("FifthCard", "images", "[LFifthCard$Log;", true)
  | 13 => ("FifthCard", "cards", "[I", true)
  | 14 => ("FifthCard", "row", "[I", true)
  | _ => ("FifthCard", "swap", "[I", true)
def tyX1 : Nat → FieldType := fun k => match k with
  | 0 => .array .byte
  | 1 => .int
  | 2 => .object "FifthCard$Reader"
  | 3 => .object "FifthCard$Trick"
  | 4 => .int
  | 5 => .int
  | 6 => .int
  | 7 => .int
  | 8 => .int
  | 9 => .object "FifthCard$Pairing"
  | 10 => .array (.object "FifthCard$Rule")
  | 11 => .object "FifthCard$Log"
  | 12 => .array (.object "FifthCard$Log")
  | 13 => .array .int
  | 14 => .array .int
  | _ => .array .int
abbrev wsX10 : List Cond := u_ws RX1 TX1 16
set_option maxRecDepth 100000 in
theorem nmX1 : ∀ a, a < 16 → ∀ b, b < 16 → a ≠ b → (TX1 a).2.1 ≠ (TX1 b).2.1 := by decide +kernel
set_option maxRecDepth 100000 in
theorem tyX1_ok : ∀ k, k < 16 → parseFieldDescriptor (TX1 k).2.2.1 = some (tyX1 k) := by decide +kernel
abbrev cX1_init : ByteArray := prog_1_method_10_code
def yX1_init : MethodName := ⟨RX1, "<init>", "()V"⟩
def dkwX1_init_6 : List UInt8 := [132, 1, 1, 167, 255, 234, 177]
abbrev dktX1_init_6 : List UInt8 := dkwX1_init_6 ++ []
def dkwX1_init_5 : List UInt8 := [167, 255, 235, 3, 60, 27, 16, 20, 162, 0, 22, 42, 180, 0, 79, 27, 18, 104, 27, 27, 184, 0, 106, 83]
abbrev dktX1_init_5 : List UInt8 := dkwX1_init_5 ++ dktX1_init_6
def dkwX1_init_4 : List UInt8 := [3, 60, 27, 6, 162, 0, 22, 42, 180, 0, 90, 27, 187, 0, 83, 89, 183, 0, 85, 83, 132, 1, 1]
abbrev dktX1_init_4 : List UInt8 := dkwX1_init_4 ++ dktX1_init_5
def dkwX1_init_3 : List UInt8 := [181, 0, 90, 42, 8, 188, 10, 181, 0, 94, 42, 8, 188, 10, 181, 0, 98, 42, 8, 188, 10, 181, 0, 101]
abbrev dktX1_init_3 : List UInt8 := dkwX1_init_3 ++ dktX1_init_4
def dkwX1_init_2 : List UInt8 := [16, 20, 189, 0, 77, 181, 0, 79, 42, 187, 0, 83, 89, 183, 0, 85, 181, 0, 86, 42, 6, 189, 0, 83]
abbrev dktX1_init_2 : List UInt8 := dkwX1_init_2 ++ dktX1_init_3
def dkwX1_init_1 : List UInt8 := [183, 0, 59, 181, 0, 62, 42, 2, 181, 0, 66, 42, 187, 0, 70, 89, 183, 0, 72, 181, 0, 73, 42]
abbrev dktX1_init_1 : List UInt8 := dkwX1_init_1 ++ dktX1_init_2
def dkwX1_init_0 : List UInt8 := [42, 183, 0, 50, 42, 17, 3, 132, 188, 8, 181, 0, 53, 42, 187, 0, 57, 89, 42, 180, 0, 53]
abbrev dktX1_init_0 : List UInt8 := dkwX1_init_0 ++ dktX1_init_1
theorem dksX1_init_0 : cX1_init.data.toList.drop 0 = dktX1_init_0 := by decide +kernel
theorem dksX1_init_1 : cX1_init.data.toList.drop 22 = dktX1_init_1 := dk_seg dksX1_init_0 22 rfl rfl
theorem dksX1_init_2 : cX1_init.data.toList.drop 45 = dktX1_init_2 := dk_seg dksX1_init_1 23 rfl rfl
theorem dksX1_init_3 : cX1_init.data.toList.drop 69 = dktX1_init_3 := dk_seg dksX1_init_2 24 rfl rfl
theorem dksX1_init_4 : cX1_init.data.toList.drop 93 = dktX1_init_4 := dk_seg dksX1_init_3 24 rfl rfl
theorem dksX1_init_5 : cX1_init.data.toList.drop 116 = dktX1_init_5 := dk_seg dksX1_init_4 23 rfl rfl
theorem dksX1_init_6 : cX1_init.data.toList.drop 140 = dktX1_init_6 := dk_seg dksX1_init_5 24 rfl rfl
theorem dX1_init_0 : decode cX1_init 0 = .ok (.aload_n 0, 1) := dk_42 (dk_at dksX1_init_0 0 rfl rfl)
theorem dX1_init_1 : decode cX1_init 1 = .ok (.invokespecial 50, 3) := dk_183 0 50 (dk_at dksX1_init_0 1 rfl rfl)
theorem dX1_init_4 : decode cX1_init 4 = .ok (.aload_n 0, 1) := dk_42 (dk_at dksX1_init_0 4 rfl rfl)
theorem dX1_init_5 : decode cX1_init 5 = .ok (.sipush 900, 3) := dk_17 3 132 (dk_at dksX1_init_0 5 rfl rfl)
theorem dX1_init_8 : decode cX1_init 8 = .ok (.newarray .byte, 2) := dk_188_8 (dk_at dksX1_init_0 8 rfl rfl)
theorem dX1_init_10 : decode cX1_init 10 = .ok (.putfield 53, 3) := dk_181 0 53 (dk_at dksX1_init_0 10 rfl rfl)
theorem dX1_init_13 : decode cX1_init 13 = .ok (.aload_n 0, 1) := dk_42 (dk_at dksX1_init_0 13 rfl rfl)
theorem dX1_init_14 : decode cX1_init 14 = .ok (.new 57, 3) := dk_187 0 57 (dk_at dksX1_init_0 14 rfl rfl)
theorem dX1_init_17 : decode cX1_init 17 = .ok (.dup, 1) := dk_89 (dk_at dksX1_init_0 17 rfl rfl)
theorem dX1_init_18 : decode cX1_init 18 = .ok (.aload_n 0, 1) := dk_42 (dk_at dksX1_init_0 18 rfl rfl)
theorem dX1_init_19 : decode cX1_init 19 = .ok (.getfield 53, 3) := dk_180 0 53 (dk_at dksX1_init_0 19 rfl rfl)
theorem dX1_init_22 : decode cX1_init 22 = .ok (.invokespecial 59, 3) := dk_183 0 59 (dk_at dksX1_init_1 0 rfl rfl)
theorem dX1_init_25 : decode cX1_init 25 = .ok (.putfield 62, 3) := dk_181 0 62 (dk_at dksX1_init_1 3 rfl rfl)
theorem dX1_init_28 : decode cX1_init 28 = .ok (.aload_n 0, 1) := dk_42 (dk_at dksX1_init_1 6 rfl rfl)
theorem dX1_init_29 : decode cX1_init 29 = .ok (.iconst (-1), 1) := dk_2 (dk_at dksX1_init_1 7 rfl rfl)
theorem dX1_init_30 : decode cX1_init 30 = .ok (.putfield 66, 3) := dk_181 0 66 (dk_at dksX1_init_1 8 rfl rfl)
theorem dX1_init_33 : decode cX1_init 33 = .ok (.aload_n 0, 1) := dk_42 (dk_at dksX1_init_1 11 rfl rfl)
theorem dX1_init_34 : decode cX1_init 34 = .ok (.new 70, 3) := dk_187 0 70 (dk_at dksX1_init_1 12 rfl rfl)
theorem dX1_init_37 : decode cX1_init 37 = .ok (.dup, 1) := dk_89 (dk_at dksX1_init_1 15 rfl rfl)
theorem dX1_init_38 : decode cX1_init 38 = .ok (.invokespecial 72, 3) := dk_183 0 72 (dk_at dksX1_init_1 16 rfl rfl)
theorem dX1_init_41 : decode cX1_init 41 = .ok (.putfield 73, 3) := dk_181 0 73 (dk_at dksX1_init_1 19 rfl rfl)
theorem dX1_init_44 : decode cX1_init 44 = .ok (.aload_n 0, 1) := dk_42 (dk_at dksX1_init_1 22 rfl rfl)
theorem dX1_init_45 : decode cX1_init 45 = .ok (.bipush 20, 2) := dk_16 20 (dk_at dksX1_init_2 0 rfl rfl)
theorem dX1_init_47 : decode cX1_init 47 = .ok (.anewarray 77, 3) := dk_189 0 77 (dk_at dksX1_init_2 2 rfl rfl)
theorem dX1_init_50 : decode cX1_init 50 = .ok (.putfield 79, 3) := dk_181 0 79 (dk_at dksX1_init_2 5 rfl rfl)
theorem dX1_init_53 : decode cX1_init 53 = .ok (.aload_n 0, 1) := dk_42 (dk_at dksX1_init_2 8 rfl rfl)
theorem dX1_init_54 : decode cX1_init 54 = .ok (.new 83, 3) := dk_187 0 83 (dk_at dksX1_init_2 9 rfl rfl)
theorem dX1_init_57 : decode cX1_init 57 = .ok (.dup, 1) := dk_89 (dk_at dksX1_init_2 12 rfl rfl)
theorem dX1_init_58 : decode cX1_init 58 = .ok (.invokespecial 85, 3) := dk_183 0 85 (dk_at dksX1_init_2 13 rfl rfl)
theorem dX1_init_61 : decode cX1_init 61 = .ok (.putfield 86, 3) := dk_181 0 86 (dk_at dksX1_init_2 16 rfl rfl)
theorem dX1_init_64 : decode cX1_init 64 = .ok (.aload_n 0, 1) := dk_42 (dk_at dksX1_init_2 19 rfl rfl)
theorem dX1_init_65 : decode cX1_init 65 = .ok (.iconst 3, 1) := dk_6 (dk_at dksX1_init_2 20 rfl rfl)
theorem dX1_init_66 : decode cX1_init 66 = .ok (.anewarray 83, 3) := dk_189 0 83 (dk_at dksX1_init_2 21 rfl rfl)
theorem dX1_init_69 : decode cX1_init 69 = .ok (.putfield 90, 3) := dk_181 0 90 (dk_at dksX1_init_3 0 rfl rfl)
theorem dX1_init_72 : decode cX1_init 72 = .ok (.aload_n 0, 1) := dk_42 (dk_at dksX1_init_3 3 rfl rfl)
theorem dX1_init_73 : decode cX1_init 73 = .ok (.iconst 5, 1) := dk_8 (dk_at dksX1_init_3 4 rfl rfl)
theorem dX1_init_74 : decode cX1_init 74 = .ok (.newarray .int, 2) := dk_188_10 (dk_at dksX1_init_3 5 rfl rfl)
theorem dX1_init_76 : decode cX1_init 76 = .ok (.putfield 94, 3) := dk_181 0 94 (dk_at dksX1_init_3 7 rfl rfl)
theorem dX1_init_79 : decode cX1_init 79 = .ok (.aload_n 0, 1) := dk_42 (dk_at dksX1_init_3 10 rfl rfl)
theorem dX1_init_80 : decode cX1_init 80 = .ok (.iconst 5, 1) := dk_8 (dk_at dksX1_init_3 11 rfl rfl)
theorem dX1_init_81 : decode cX1_init 81 = .ok (.newarray .int, 2) := dk_188_10 (dk_at dksX1_init_3 12 rfl rfl)
theorem dX1_init_83 : decode cX1_init 83 = .ok (.putfield 98, 3) := dk_181 0 98 (dk_at dksX1_init_3 14 rfl rfl)
theorem dX1_init_86 : decode cX1_init 86 = .ok (.aload_n 0, 1) := dk_42 (dk_at dksX1_init_3 17 rfl rfl)
theorem dX1_init_87 : decode cX1_init 87 = .ok (.iconst 5, 1) := dk_8 (dk_at dksX1_init_3 18 rfl rfl)
theorem dX1_init_88 : decode cX1_init 88 = .ok (.newarray .int, 2) := dk_188_10 (dk_at dksX1_init_3 19 rfl rfl)
theorem dX1_init_90 : decode cX1_init 90 = .ok (.putfield 101, 3) := dk_181 0 101 (dk_at dksX1_init_3 21 rfl rfl)
theorem dX1_init_93 : decode cX1_init 93 = .ok (.iconst 0, 1) := dk_3 (dk_at dksX1_init_4 0 rfl rfl)
theorem dX1_init_94 : decode cX1_init 94 = .ok (.istore_n 1, 1) := dk_60 (dk_at dksX1_init_4 1 rfl rfl)
theorem dX1_init_95 : decode cX1_init 95 = .ok (.iload_n 1, 1) := dk_27 (dk_at dksX1_init_4 2 rfl rfl)
theorem dX1_init_96 : decode cX1_init 96 = .ok (.iconst 3, 1) := dk_6 (dk_at dksX1_init_4 3 rfl rfl)
theorem dX1_init_97 : decode cX1_init 97 = .ok (.if_icmp .ge 22, 3) := dk_162 0 22 (dk_at dksX1_init_4 4 rfl rfl)
theorem dX1_init_100 : decode cX1_init 100 = .ok (.aload_n 0, 1) := dk_42 (dk_at dksX1_init_4 7 rfl rfl)
theorem dX1_init_101 : decode cX1_init 101 = .ok (.getfield 90, 3) := dk_180 0 90 (dk_at dksX1_init_4 8 rfl rfl)
theorem dX1_init_104 : decode cX1_init 104 = .ok (.iload_n 1, 1) := dk_27 (dk_at dksX1_init_4 11 rfl rfl)
theorem dX1_init_105 : decode cX1_init 105 = .ok (.new 83, 3) := dk_187 0 83 (dk_at dksX1_init_4 12 rfl rfl)
theorem dX1_init_108 : decode cX1_init 108 = .ok (.dup, 1) := dk_89 (dk_at dksX1_init_4 15 rfl rfl)
theorem dX1_init_109 : decode cX1_init 109 = .ok (.invokespecial 85, 3) := dk_183 0 85 (dk_at dksX1_init_4 16 rfl rfl)
theorem dX1_init_112 : decode cX1_init 112 = .ok (.aastore, 1) := dk_83 (dk_at dksX1_init_4 19 rfl rfl)
theorem dX1_init_113 : decode cX1_init 113 = .ok (.iinc 1 1, 3) := dk_132 1 1 (dk_at dksX1_init_4 20 rfl rfl)
theorem dX1_init_116 : decode cX1_init 116 = .ok (.goto (-21), 3) := dk_167 255 235 (dk_at dksX1_init_5 0 rfl rfl)
theorem dX1_init_119 : decode cX1_init 119 = .ok (.iconst 0, 1) := dk_3 (dk_at dksX1_init_5 3 rfl rfl)
theorem dX1_init_120 : decode cX1_init 120 = .ok (.istore_n 1, 1) := dk_60 (dk_at dksX1_init_5 4 rfl rfl)
theorem dX1_init_121 : decode cX1_init 121 = .ok (.iload_n 1, 1) := dk_27 (dk_at dksX1_init_5 5 rfl rfl)
theorem dX1_init_122 : decode cX1_init 122 = .ok (.bipush 20, 2) := dk_16 20 (dk_at dksX1_init_5 6 rfl rfl)
theorem dX1_init_124 : decode cX1_init 124 = .ok (.if_icmp .ge 22, 3) := dk_162 0 22 (dk_at dksX1_init_5 8 rfl rfl)
theorem dX1_init_127 : decode cX1_init 127 = .ok (.aload_n 0, 1) := dk_42 (dk_at dksX1_init_5 11 rfl rfl)
theorem dX1_init_128 : decode cX1_init 128 = .ok (.getfield 79, 3) := dk_180 0 79 (dk_at dksX1_init_5 12 rfl rfl)
theorem dX1_init_131 : decode cX1_init 131 = .ok (.iload_n 1, 1) := dk_27 (dk_at dksX1_init_5 15 rfl rfl)
theorem dX1_init_132 : decode cX1_init 132 = .ok (.ldc 104, 2) := dk_18 104 (dk_at dksX1_init_5 16 rfl rfl)
theorem dX1_init_134 : decode cX1_init 134 = .ok (.iload_n 1, 1) := dk_27 (dk_at dksX1_init_5 18 rfl rfl)
theorem dX1_init_135 : decode cX1_init 135 = .ok (.iload_n 1, 1) := dk_27 (dk_at dksX1_init_5 19 rfl rfl)
theorem dX1_init_136 : decode cX1_init 136 = .ok (.invokestatic 106, 3) := dk_184 0 106 (dk_at dksX1_init_5 20 rfl rfl)
theorem dX1_init_139 : decode cX1_init 139 = .ok (.aastore, 1) := dk_83 (dk_at dksX1_init_5 23 rfl rfl)
theorem dX1_init_140 : decode cX1_init 140 = .ok (.iinc 1 1, 3) := dk_132 1 1 (dk_at dksX1_init_6 0 rfl rfl)
theorem dX1_init_143 : decode cX1_init 143 = .ok (.goto (-22), 3) := dk_167 255 234 (dk_at dksX1_init_6 3 rfl rfl)
theorem dX1_init_146 : decode cX1_init 146 = .ok (.return_, 1) := dk_177 (dk_at dksX1_init_6 6 rfl rfl)
abbrev cX1_spoken : ByteArray := prog_1_method_9_code
def yX1_spoken : MethodName := ⟨RX1, "spoken", "(Ljava/lang/String;II)LFifthCard$Rule;"⟩
def dkwX1_spoken_6 : List UInt8 := [28, 183, 0, 47, 176]
abbrev dktX1_spoken_6 : List UInt8 := dkwX1_spoken_6 ++ []
def dkwX1_spoken_5 : List UInt8 := [183, 0, 41, 167, 0, 10, 187, 0, 42, 89, 183, 0, 44, 58, 4, 187, 0, 45, 89, 42, 27, 45, 25, 4]
abbrev dktX1_spoken_5 : List UInt8 := dkwX1_spoken_5 ++ dktX1_spoken_6
def dkwX1_spoken_4 : List UInt8 := [160, 0, 13, 187, 0, 36, 89, 183, 0, 38, 167, 0, 27, 28, 8, 112, 6, 160, 0, 13, 187, 0, 39, 89]
abbrev dktX1_spoken_4 : List UInt8 := dkwX1_spoken_4 ++ dktX1_spoken_5
def dkwX1_spoken_3 : List UInt8 := [167, 0, 61, 28, 8, 112, 4, 160, 0, 13, 187, 0, 33, 89, 183, 0, 35, 167, 0, 44, 28, 8, 112, 5]
abbrev dktX1_spoken_3 : List UInt8 := dkwX1_spoken_3 ++ dktX1_spoken_4
def dkwX1_spoken_2 : List UInt8 := [167, 0, 10, 187, 0, 27, 89, 183, 0, 29, 78, 28, 8, 112, 154, 0, 13, 187, 0, 30, 89, 183, 0, 32]
abbrev dktX1_spoken_2 : List UInt8 := dkwX1_spoken_2 ++ dktX1_spoken_3
def dkwX1_spoken_1 : List UInt8 := [187, 0, 21, 89, 183, 0, 23, 167, 0, 27, 28, 8, 108, 5, 160, 0, 13, 187, 0, 24, 89, 183, 0, 26]
abbrev dktX1_spoken_1 : List UInt8 := dkwX1_spoken_1 ++ dktX1_spoken_2
def dkwX1_spoken_0 : List UInt8 := [28, 8, 108, 154, 0, 13, 187, 0, 15, 89, 183, 0, 17, 167, 0, 44, 28, 8, 108, 4, 160, 0, 13]
abbrev dktX1_spoken_0 : List UInt8 := dkwX1_spoken_0 ++ dktX1_spoken_1
theorem dksX1_spoken_0 : cX1_spoken.data.toList.drop 0 = dktX1_spoken_0 := by decide +kernel
theorem dksX1_spoken_1 : cX1_spoken.data.toList.drop 23 = dktX1_spoken_1 := dk_seg dksX1_spoken_0 23 rfl rfl
theorem dksX1_spoken_2 : cX1_spoken.data.toList.drop 47 = dktX1_spoken_2 := dk_seg dksX1_spoken_1 24 rfl rfl
theorem dksX1_spoken_3 : cX1_spoken.data.toList.drop 71 = dktX1_spoken_3 := dk_seg dksX1_spoken_2 24 rfl rfl
theorem dksX1_spoken_4 : cX1_spoken.data.toList.drop 95 = dktX1_spoken_4 := dk_seg dksX1_spoken_3 24 rfl rfl
theorem dksX1_spoken_5 : cX1_spoken.data.toList.drop 119 = dktX1_spoken_5 := dk_seg dksX1_spoken_4 24 rfl rfl
theorem dksX1_spoken_6 : cX1_spoken.data.toList.drop 143 = dktX1_spoken_6 := dk_seg dksX1_spoken_5 24 rfl rfl
theorem dX1_spoken_0 : decode cX1_spoken 0 = .ok (.iload_n 2, 1) := dk_28 (dk_at dksX1_spoken_0 0 rfl rfl)
theorem dX1_spoken_1 : decode cX1_spoken 1 = .ok (.iconst 5, 1) := dk_8 (dk_at dksX1_spoken_0 1 rfl rfl)
theorem dX1_spoken_2 : decode cX1_spoken 2 = .ok (.idiv, 1) := dk_108 (dk_at dksX1_spoken_0 2 rfl rfl)
theorem dX1_spoken_3 : decode cX1_spoken 3 = .ok (.ifCond .ne 13, 3) := dk_154 0 13 (dk_at dksX1_spoken_0 3 rfl rfl)
theorem dX1_spoken_6 : decode cX1_spoken 6 = .ok (.new 15, 3) := dk_187 0 15 (dk_at dksX1_spoken_0 6 rfl rfl)
theorem dX1_spoken_9 : decode cX1_spoken 9 = .ok (.dup, 1) := dk_89 (dk_at dksX1_spoken_0 9 rfl rfl)
theorem dX1_spoken_10 : decode cX1_spoken 10 = .ok (.invokespecial 17, 3) := dk_183 0 17 (dk_at dksX1_spoken_0 10 rfl rfl)
theorem dX1_spoken_13 : decode cX1_spoken 13 = .ok (.goto 44, 3) := dk_167 0 44 (dk_at dksX1_spoken_0 13 rfl rfl)
theorem dX1_spoken_16 : decode cX1_spoken 16 = .ok (.iload_n 2, 1) := dk_28 (dk_at dksX1_spoken_0 16 rfl rfl)
theorem dX1_spoken_17 : decode cX1_spoken 17 = .ok (.iconst 5, 1) := dk_8 (dk_at dksX1_spoken_0 17 rfl rfl)
theorem dX1_spoken_18 : decode cX1_spoken 18 = .ok (.idiv, 1) := dk_108 (dk_at dksX1_spoken_0 18 rfl rfl)
theorem dX1_spoken_19 : decode cX1_spoken 19 = .ok (.iconst 1, 1) := dk_4 (dk_at dksX1_spoken_0 19 rfl rfl)
theorem dX1_spoken_20 : decode cX1_spoken 20 = .ok (.if_icmp .ne 13, 3) := dk_160 0 13 (dk_at dksX1_spoken_0 20 rfl rfl)
theorem dX1_spoken_23 : decode cX1_spoken 23 = .ok (.new 21, 3) := dk_187 0 21 (dk_at dksX1_spoken_1 0 rfl rfl)
theorem dX1_spoken_26 : decode cX1_spoken 26 = .ok (.dup, 1) := dk_89 (dk_at dksX1_spoken_1 3 rfl rfl)
theorem dX1_spoken_27 : decode cX1_spoken 27 = .ok (.invokespecial 23, 3) := dk_183 0 23 (dk_at dksX1_spoken_1 4 rfl rfl)
theorem dX1_spoken_30 : decode cX1_spoken 30 = .ok (.goto 27, 3) := dk_167 0 27 (dk_at dksX1_spoken_1 7 rfl rfl)
theorem dX1_spoken_33 : decode cX1_spoken 33 = .ok (.iload_n 2, 1) := dk_28 (dk_at dksX1_spoken_1 10 rfl rfl)
theorem dX1_spoken_34 : decode cX1_spoken 34 = .ok (.iconst 5, 1) := dk_8 (dk_at dksX1_spoken_1 11 rfl rfl)
theorem dX1_spoken_35 : decode cX1_spoken 35 = .ok (.idiv, 1) := dk_108 (dk_at dksX1_spoken_1 12 rfl rfl)
theorem dX1_spoken_36 : decode cX1_spoken 36 = .ok (.iconst 2, 1) := dk_5 (dk_at dksX1_spoken_1 13 rfl rfl)
theorem dX1_spoken_37 : decode cX1_spoken 37 = .ok (.if_icmp .ne 13, 3) := dk_160 0 13 (dk_at dksX1_spoken_1 14 rfl rfl)
theorem dX1_spoken_40 : decode cX1_spoken 40 = .ok (.new 24, 3) := dk_187 0 24 (dk_at dksX1_spoken_1 17 rfl rfl)
theorem dX1_spoken_43 : decode cX1_spoken 43 = .ok (.dup, 1) := dk_89 (dk_at dksX1_spoken_1 20 rfl rfl)
theorem dX1_spoken_44 : decode cX1_spoken 44 = .ok (.invokespecial 26, 3) := dk_183 0 26 (dk_at dksX1_spoken_1 21 rfl rfl)
theorem dX1_spoken_47 : decode cX1_spoken 47 = .ok (.goto 10, 3) := dk_167 0 10 (dk_at dksX1_spoken_2 0 rfl rfl)
theorem dX1_spoken_50 : decode cX1_spoken 50 = .ok (.new 27, 3) := dk_187 0 27 (dk_at dksX1_spoken_2 3 rfl rfl)
theorem dX1_spoken_53 : decode cX1_spoken 53 = .ok (.dup, 1) := dk_89 (dk_at dksX1_spoken_2 6 rfl rfl)
theorem dX1_spoken_54 : decode cX1_spoken 54 = .ok (.invokespecial 29, 3) := dk_183 0 29 (dk_at dksX1_spoken_2 7 rfl rfl)
theorem dX1_spoken_57 : decode cX1_spoken 57 = .ok (.astore_n 3, 1) := dk_78 (dk_at dksX1_spoken_2 10 rfl rfl)
theorem dX1_spoken_58 : decode cX1_spoken 58 = .ok (.iload_n 2, 1) := dk_28 (dk_at dksX1_spoken_2 11 rfl rfl)
theorem dX1_spoken_59 : decode cX1_spoken 59 = .ok (.iconst 5, 1) := dk_8 (dk_at dksX1_spoken_2 12 rfl rfl)
theorem dX1_spoken_60 : decode cX1_spoken 60 = .ok (.irem, 1) := dk_112 (dk_at dksX1_spoken_2 13 rfl rfl)
theorem dX1_spoken_61 : decode cX1_spoken 61 = .ok (.ifCond .ne 13, 3) := dk_154 0 13 (dk_at dksX1_spoken_2 14 rfl rfl)
theorem dX1_spoken_64 : decode cX1_spoken 64 = .ok (.new 30, 3) := dk_187 0 30 (dk_at dksX1_spoken_2 17 rfl rfl)
theorem dX1_spoken_67 : decode cX1_spoken 67 = .ok (.dup, 1) := dk_89 (dk_at dksX1_spoken_2 20 rfl rfl)
theorem dX1_spoken_68 : decode cX1_spoken 68 = .ok (.invokespecial 32, 3) := dk_183 0 32 (dk_at dksX1_spoken_2 21 rfl rfl)
theorem dX1_spoken_71 : decode cX1_spoken 71 = .ok (.goto 61, 3) := dk_167 0 61 (dk_at dksX1_spoken_3 0 rfl rfl)
theorem dX1_spoken_74 : decode cX1_spoken 74 = .ok (.iload_n 2, 1) := dk_28 (dk_at dksX1_spoken_3 3 rfl rfl)
theorem dX1_spoken_75 : decode cX1_spoken 75 = .ok (.iconst 5, 1) := dk_8 (dk_at dksX1_spoken_3 4 rfl rfl)
theorem dX1_spoken_76 : decode cX1_spoken 76 = .ok (.irem, 1) := dk_112 (dk_at dksX1_spoken_3 5 rfl rfl)
theorem dX1_spoken_77 : decode cX1_spoken 77 = .ok (.iconst 1, 1) := dk_4 (dk_at dksX1_spoken_3 6 rfl rfl)
theorem dX1_spoken_78 : decode cX1_spoken 78 = .ok (.if_icmp .ne 13, 3) := dk_160 0 13 (dk_at dksX1_spoken_3 7 rfl rfl)
theorem dX1_spoken_81 : decode cX1_spoken 81 = .ok (.new 33, 3) := dk_187 0 33 (dk_at dksX1_spoken_3 10 rfl rfl)
theorem dX1_spoken_84 : decode cX1_spoken 84 = .ok (.dup, 1) := dk_89 (dk_at dksX1_spoken_3 13 rfl rfl)
theorem dX1_spoken_85 : decode cX1_spoken 85 = .ok (.invokespecial 35, 3) := dk_183 0 35 (dk_at dksX1_spoken_3 14 rfl rfl)
theorem dX1_spoken_88 : decode cX1_spoken 88 = .ok (.goto 44, 3) := dk_167 0 44 (dk_at dksX1_spoken_3 17 rfl rfl)
theorem dX1_spoken_91 : decode cX1_spoken 91 = .ok (.iload_n 2, 1) := dk_28 (dk_at dksX1_spoken_3 20 rfl rfl)
theorem dX1_spoken_92 : decode cX1_spoken 92 = .ok (.iconst 5, 1) := dk_8 (dk_at dksX1_spoken_3 21 rfl rfl)
theorem dX1_spoken_93 : decode cX1_spoken 93 = .ok (.irem, 1) := dk_112 (dk_at dksX1_spoken_3 22 rfl rfl)
theorem dX1_spoken_94 : decode cX1_spoken 94 = .ok (.iconst 2, 1) := dk_5 (dk_at dksX1_spoken_3 23 rfl rfl)
theorem dX1_spoken_95 : decode cX1_spoken 95 = .ok (.if_icmp .ne 13, 3) := dk_160 0 13 (dk_at dksX1_spoken_4 0 rfl rfl)
theorem dX1_spoken_98 : decode cX1_spoken 98 = .ok (.new 36, 3) := dk_187 0 36 (dk_at dksX1_spoken_4 3 rfl rfl)
theorem dX1_spoken_101 : decode cX1_spoken 101 = .ok (.dup, 1) := dk_89 (dk_at dksX1_spoken_4 6 rfl rfl)
theorem dX1_spoken_102 : decode cX1_spoken 102 = .ok (.invokespecial 38, 3) := dk_183 0 38 (dk_at dksX1_spoken_4 7 rfl rfl)
theorem dX1_spoken_105 : decode cX1_spoken 105 = .ok (.goto 27, 3) := dk_167 0 27 (dk_at dksX1_spoken_4 10 rfl rfl)
theorem dX1_spoken_108 : decode cX1_spoken 108 = .ok (.iload_n 2, 1) := dk_28 (dk_at dksX1_spoken_4 13 rfl rfl)
theorem dX1_spoken_109 : decode cX1_spoken 109 = .ok (.iconst 5, 1) := dk_8 (dk_at dksX1_spoken_4 14 rfl rfl)
theorem dX1_spoken_110 : decode cX1_spoken 110 = .ok (.irem, 1) := dk_112 (dk_at dksX1_spoken_4 15 rfl rfl)
theorem dX1_spoken_111 : decode cX1_spoken 111 = .ok (.iconst 3, 1) := dk_6 (dk_at dksX1_spoken_4 16 rfl rfl)
theorem dX1_spoken_112 : decode cX1_spoken 112 = .ok (.if_icmp .ne 13, 3) := dk_160 0 13 (dk_at dksX1_spoken_4 17 rfl rfl)
theorem dX1_spoken_115 : decode cX1_spoken 115 = .ok (.new 39, 3) := dk_187 0 39 (dk_at dksX1_spoken_4 20 rfl rfl)
theorem dX1_spoken_118 : decode cX1_spoken 118 = .ok (.dup, 1) := dk_89 (dk_at dksX1_spoken_4 23 rfl rfl)
theorem dX1_spoken_119 : decode cX1_spoken 119 = .ok (.invokespecial 41, 3) := dk_183 0 41 (dk_at dksX1_spoken_5 0 rfl rfl)
theorem dX1_spoken_122 : decode cX1_spoken 122 = .ok (.goto 10, 3) := dk_167 0 10 (dk_at dksX1_spoken_5 3 rfl rfl)
theorem dX1_spoken_125 : decode cX1_spoken 125 = .ok (.new 42, 3) := dk_187 0 42 (dk_at dksX1_spoken_5 6 rfl rfl)
theorem dX1_spoken_128 : decode cX1_spoken 128 = .ok (.dup, 1) := dk_89 (dk_at dksX1_spoken_5 9 rfl rfl)
theorem dX1_spoken_129 : decode cX1_spoken 129 = .ok (.invokespecial 44, 3) := dk_183 0 44 (dk_at dksX1_spoken_5 10 rfl rfl)
theorem dX1_spoken_132 : decode cX1_spoken 132 = .ok (.astore 4, 2) := dk_58 4 (dk_at dksX1_spoken_5 13 rfl rfl)
theorem dX1_spoken_134 : decode cX1_spoken 134 = .ok (.new 45, 3) := dk_187 0 45 (dk_at dksX1_spoken_5 15 rfl rfl)
theorem dX1_spoken_137 : decode cX1_spoken 137 = .ok (.dup, 1) := dk_89 (dk_at dksX1_spoken_5 18 rfl rfl)
theorem dX1_spoken_138 : decode cX1_spoken 138 = .ok (.aload_n 0, 1) := dk_42 (dk_at dksX1_spoken_5 19 rfl rfl)
theorem dX1_spoken_139 : decode cX1_spoken 139 = .ok (.iload_n 1, 1) := dk_27 (dk_at dksX1_spoken_5 20 rfl rfl)
theorem dX1_spoken_140 : decode cX1_spoken 140 = .ok (.aload_n 3, 1) := dk_45 (dk_at dksX1_spoken_5 21 rfl rfl)
theorem dX1_spoken_141 : decode cX1_spoken 141 = .ok (.aload 4, 2) := dk_25 4 (dk_at dksX1_spoken_5 22 rfl rfl)
theorem dX1_spoken_143 : decode cX1_spoken 143 = .ok (.iload_n 2, 1) := dk_28 (dk_at dksX1_spoken_6 0 rfl rfl)
theorem dX1_spoken_144 : decode cX1_spoken 144 = .ok (.invokespecial 47, 3) := dk_183 0 47 (dk_at dksX1_spoken_6 1 rfl rfl)
theorem dX1_spoken_147 : decode cX1_spoken 147 = .ok (.areturn, 1) := dk_176 (dk_at dksX1_spoken_6 4 rfl rfl)
abbrev cX1_feed : ByteArray := prog_1_method_14_code
def yX1_feed : MethodName := ⟨RX1, "feed", "(IIIII)I"⟩
def dkwX1_feed_2 : List UInt8 := [172]
abbrev dktX1_feed_2 : List UInt8 := dkwX1_feed_2 ++ []
def dkwX1_feed_1 : List UInt8 := [182, 0, 119, 42, 29, 182, 0, 119, 42, 21, 4, 182, 0, 119, 42, 21, 5, 182, 0, 119, 42, 180, 0, 116]
abbrev dktX1_feed_1 : List UInt8 := dkwX1_feed_1 ++ dktX1_feed_2
def dkwX1_feed_0 : List UInt8 := [42, 180, 0, 116, 16, 20, 96, 17, 3, 132, 164, 0, 5, 2, 172, 42, 27, 182, 0, 119, 42, 28]
abbrev dktX1_feed_0 : List UInt8 := dkwX1_feed_0 ++ dktX1_feed_1
theorem dksX1_feed_0 : cX1_feed.data.toList.drop 0 = dktX1_feed_0 := by decide +kernel
theorem dksX1_feed_1 : cX1_feed.data.toList.drop 22 = dktX1_feed_1 := dk_seg dksX1_feed_0 22 rfl rfl
theorem dksX1_feed_2 : cX1_feed.data.toList.drop 46 = dktX1_feed_2 := dk_seg dksX1_feed_1 24 rfl rfl
theorem dX1_feed_0 : decode cX1_feed 0 = .ok (.aload_n 0, 1) := dk_42 (dk_at dksX1_feed_0 0 rfl rfl)
theorem dX1_feed_1 : decode cX1_feed 1 = .ok (.getfield 116, 3) := dk_180 0 116 (dk_at dksX1_feed_0 1 rfl rfl)
theorem dX1_feed_4 : decode cX1_feed 4 = .ok (.bipush 20, 2) := dk_16 20 (dk_at dksX1_feed_0 4 rfl rfl)
theorem dX1_feed_6 : decode cX1_feed 6 = .ok (.iadd, 1) := dk_96 (dk_at dksX1_feed_0 6 rfl rfl)
theorem dX1_feed_7 : decode cX1_feed 7 = .ok (.sipush 900, 3) := dk_17 3 132 (dk_at dksX1_feed_0 7 rfl rfl)
theorem dX1_feed_10 : decode cX1_feed 10 = .ok (.if_icmp .le 5, 3) := dk_164 0 5 (dk_at dksX1_feed_0 10 rfl rfl)
theorem dX1_feed_13 : decode cX1_feed 13 = .ok (.iconst (-1), 1) := dk_2 (dk_at dksX1_feed_0 13 rfl rfl)
theorem dX1_feed_14 : decode cX1_feed 14 = .ok (.ireturn, 1) := dk_172 (dk_at dksX1_feed_0 14 rfl rfl)
theorem dX1_feed_15 : decode cX1_feed 15 = .ok (.aload_n 0, 1) := dk_42 (dk_at dksX1_feed_0 15 rfl rfl)
theorem dX1_feed_16 : decode cX1_feed 16 = .ok (.iload_n 1, 1) := dk_27 (dk_at dksX1_feed_0 16 rfl rfl)
theorem dX1_feed_17 : decode cX1_feed 17 = .ok (.invokevirtual 119, 3) := dk_182 0 119 (dk_at dksX1_feed_0 17 rfl rfl)
theorem dX1_feed_20 : decode cX1_feed 20 = .ok (.aload_n 0, 1) := dk_42 (dk_at dksX1_feed_0 20 rfl rfl)
theorem dX1_feed_21 : decode cX1_feed 21 = .ok (.iload_n 2, 1) := dk_28 (dk_at dksX1_feed_0 21 rfl rfl)
theorem dX1_feed_22 : decode cX1_feed 22 = .ok (.invokevirtual 119, 3) := dk_182 0 119 (dk_at dksX1_feed_1 0 rfl rfl)
theorem dX1_feed_25 : decode cX1_feed 25 = .ok (.aload_n 0, 1) := dk_42 (dk_at dksX1_feed_1 3 rfl rfl)
theorem dX1_feed_26 : decode cX1_feed 26 = .ok (.iload_n 3, 1) := dk_29 (dk_at dksX1_feed_1 4 rfl rfl)
theorem dX1_feed_27 : decode cX1_feed 27 = .ok (.invokevirtual 119, 3) := dk_182 0 119 (dk_at dksX1_feed_1 5 rfl rfl)
theorem dX1_feed_30 : decode cX1_feed 30 = .ok (.aload_n 0, 1) := dk_42 (dk_at dksX1_feed_1 8 rfl rfl)
theorem dX1_feed_31 : decode cX1_feed 31 = .ok (.iload 4, 2) := dk_21 4 (dk_at dksX1_feed_1 9 rfl rfl)
theorem dX1_feed_33 : decode cX1_feed 33 = .ok (.invokevirtual 119, 3) := dk_182 0 119 (dk_at dksX1_feed_1 11 rfl rfl)
theorem dX1_feed_36 : decode cX1_feed 36 = .ok (.aload_n 0, 1) := dk_42 (dk_at dksX1_feed_1 14 rfl rfl)
theorem dX1_feed_37 : decode cX1_feed 37 = .ok (.iload 5, 2) := dk_21 5 (dk_at dksX1_feed_1 15 rfl rfl)
theorem dX1_feed_39 : decode cX1_feed 39 = .ok (.invokevirtual 119, 3) := dk_182 0 119 (dk_at dksX1_feed_1 17 rfl rfl)
theorem dX1_feed_42 : decode cX1_feed 42 = .ok (.aload_n 0, 1) := dk_42 (dk_at dksX1_feed_1 20 rfl rfl)
theorem dX1_feed_43 : decode cX1_feed 43 = .ok (.getfield 116, 3) := dk_180 0 116 (dk_at dksX1_feed_1 21 rfl rfl)
theorem dX1_feed_46 : decode cX1_feed 46 = .ok (.ireturn, 1) := dk_172 (dk_at dksX1_feed_2 0 rfl rfl)
abbrev cX1_bytes : ByteArray := prog_1_method_15_code
def yX1_bytes : MethodName := ⟨RX1, "bytes", "(I)V"⟩
def dkwX1_bytes_1 : List UInt8 := [180, 0, 116, 4, 96, 181, 0, 116, 132, 2, 248, 167, 255, 226, 177]
abbrev dktX1_bytes_1 : List UInt8 := dkwX1_bytes_1 ++ []
def dkwX1_bytes_0 : List UInt8 := [16, 24, 61, 28, 155, 0, 32, 42, 180, 0, 53, 42, 180, 0, 116, 27, 28, 122, 145, 84, 42, 89]
abbrev dktX1_bytes_0 : List UInt8 := dkwX1_bytes_0 ++ dktX1_bytes_1
theorem dksX1_bytes_0 : cX1_bytes.data.toList.drop 0 = dktX1_bytes_0 := by decide +kernel
theorem dksX1_bytes_1 : cX1_bytes.data.toList.drop 22 = dktX1_bytes_1 := dk_seg dksX1_bytes_0 22 rfl rfl
theorem dX1_bytes_0 : decode cX1_bytes 0 = .ok (.bipush 24, 2) := dk_16 24 (dk_at dksX1_bytes_0 0 rfl rfl)
theorem dX1_bytes_2 : decode cX1_bytes 2 = .ok (.istore_n 2, 1) := dk_61 (dk_at dksX1_bytes_0 2 rfl rfl)
theorem dX1_bytes_3 : decode cX1_bytes 3 = .ok (.iload_n 2, 1) := dk_28 (dk_at dksX1_bytes_0 3 rfl rfl)
theorem dX1_bytes_4 : decode cX1_bytes 4 = .ok (.ifCond .lt 32, 3) := dk_155 0 32 (dk_at dksX1_bytes_0 4 rfl rfl)
theorem dX1_bytes_7 : decode cX1_bytes 7 = .ok (.aload_n 0, 1) := dk_42 (dk_at dksX1_bytes_0 7 rfl rfl)
theorem dX1_bytes_8 : decode cX1_bytes 8 = .ok (.getfield 53, 3) := dk_180 0 53 (dk_at dksX1_bytes_0 8 rfl rfl)
theorem dX1_bytes_11 : decode cX1_bytes 11 = .ok (.aload_n 0, 1) := dk_42 (dk_at dksX1_bytes_0 11 rfl rfl)
theorem dX1_bytes_12 : decode cX1_bytes 12 = .ok (.getfield 116, 3) := dk_180 0 116 (dk_at dksX1_bytes_0 12 rfl rfl)
theorem dX1_bytes_15 : decode cX1_bytes 15 = .ok (.iload_n 1, 1) := dk_27 (dk_at dksX1_bytes_0 15 rfl rfl)
theorem dX1_bytes_16 : decode cX1_bytes 16 = .ok (.iload_n 2, 1) := dk_28 (dk_at dksX1_bytes_0 16 rfl rfl)
theorem dX1_bytes_17 : decode cX1_bytes 17 = .ok (.ishr, 1) := dk_122 (dk_at dksX1_bytes_0 17 rfl rfl)
theorem dX1_bytes_18 : decode cX1_bytes 18 = .ok (.i2b, 1) := dk_145 (dk_at dksX1_bytes_0 18 rfl rfl)
theorem dX1_bytes_19 : decode cX1_bytes 19 = .ok (.bastore, 1) := dk_84 (dk_at dksX1_bytes_0 19 rfl rfl)
theorem dX1_bytes_20 : decode cX1_bytes 20 = .ok (.aload_n 0, 1) := dk_42 (dk_at dksX1_bytes_0 20 rfl rfl)
theorem dX1_bytes_21 : decode cX1_bytes 21 = .ok (.dup, 1) := dk_89 (dk_at dksX1_bytes_0 21 rfl rfl)
theorem dX1_bytes_22 : decode cX1_bytes 22 = .ok (.getfield 116, 3) := dk_180 0 116 (dk_at dksX1_bytes_1 0 rfl rfl)
theorem dX1_bytes_25 : decode cX1_bytes 25 = .ok (.iconst 1, 1) := dk_4 (dk_at dksX1_bytes_1 3 rfl rfl)
theorem dX1_bytes_26 : decode cX1_bytes 26 = .ok (.iadd, 1) := dk_96 (dk_at dksX1_bytes_1 4 rfl rfl)
theorem dX1_bytes_27 : decode cX1_bytes 27 = .ok (.putfield 116, 3) := dk_181 0 116 (dk_at dksX1_bytes_1 5 rfl rfl)
theorem dX1_bytes_30 : decode cX1_bytes 30 = .ok (.iinc 2 (-8), 3) := dk_132 2 248 (dk_at dksX1_bytes_1 8 rfl rfl)
theorem dX1_bytes_33 : decode cX1_bytes 33 = .ok (.goto (-30), 3) := dk_167 255 226 (dk_at dksX1_bytes_1 11 rfl rfl)
theorem dX1_bytes_36 : decode cX1_bytes 36 = .ok (.return_, 1) := dk_177 (dk_at dksX1_bytes_1 14 rfl rfl)
abbrev cX1_trick : ByteArray := prog_1_method_16_code
def yX1_trick : MethodName := ⟨RX1, "trick", "(I)I"⟩
def dkwX1_trick_8 : List UInt8 := [180, 0, 137, 180, 0, 188, 172]
abbrev dktX1_trick_8 : List UInt8 := dkwX1_trick_8 ++ []
def dkwX1_trick_7 : List UInt8 := [42, 180, 0, 137, 180, 0, 178, 28, 46, 182, 0, 181, 132, 2, 1, 167, 255, 217, 42, 3, 181, 0, 185, 42]
abbrev dktX1_trick_7 : List UInt8 := dkwX1_trick_7 ++ dktX1_trick_8
def dkwX1_trick_6 : List UInt8 := [28, 42, 180, 0, 137, 180, 0, 172, 162, 0, 34, 42, 180, 0, 86, 42, 180, 0, 137, 180, 0, 175, 28, 46]
abbrev dktX1_trick_6 : List UInt8 := dkwX1_trick_6 ++ dktX1_trick_7
def dkwX1_trick_5 : List UInt8 := [132, 2, 1, 167, 255, 237, 42, 180, 0, 86, 3, 181, 0, 166, 42, 180, 0, 86, 3, 181, 0, 169, 3, 61]
abbrev dktX1_trick_5 : List UInt8 := dkwX1_trick_5 ++ dktX1_trick_6
def dkwX1_trick_4 : List UInt8 := [180, 0, 137, 182, 0, 158, 3, 61, 28, 16, 20, 162, 0, 19, 42, 180, 0, 79, 28, 50, 3, 181, 0, 162]
abbrev dktX1_trick_4 : List UInt8 := dkwX1_trick_4 ++ dktX1_trick_5
def dkwX1_trick_3 : List UInt8 := [180, 0, 137, 42, 180, 0, 137, 180, 0, 147, 182, 0, 151, 136, 181, 0, 155, 42, 180, 0, 73, 42]
abbrev dktX1_trick_3 : List UInt8 := dkwX1_trick_3 ++ dktX1_trick_4
def dkwX1_trick_2 : List UInt8 := [42, 44, 180, 0, 143, 181, 0, 130, 42, 44, 180, 0, 144, 181, 0, 66, 42, 7, 182, 0, 127, 172, 42, 42]
abbrev dktX1_trick_2 : List UInt8 := dkwX1_trick_2 ++ dktX1_trick_3
def dkwX1_trick_1 : List UInt8 := [181, 0, 116, 42, 3, 181, 0, 130, 42, 42, 180, 0, 62, 27, 182, 0, 133, 181, 0, 137, 167, 0, 26, 77]
abbrev dktX1_trick_1 : List UInt8 := dkwX1_trick_1 ++ dktX1_trick_2
def dkwX1_trick_0 : List UInt8 := [42, 182, 0, 113, 27, 3, 42, 180, 0, 116, 184, 0, 123, 154, 0, 9, 42, 5, 182, 0, 127, 172, 42, 3]
abbrev dktX1_trick_0 : List UInt8 := dkwX1_trick_0 ++ dktX1_trick_1
theorem dksX1_trick_0 : cX1_trick.data.toList.drop 0 = dktX1_trick_0 := by decide +kernel
theorem dksX1_trick_1 : cX1_trick.data.toList.drop 24 = dktX1_trick_1 := dk_seg dksX1_trick_0 24 rfl rfl
theorem dksX1_trick_2 : cX1_trick.data.toList.drop 48 = dktX1_trick_2 := dk_seg dksX1_trick_1 24 rfl rfl
theorem dksX1_trick_3 : cX1_trick.data.toList.drop 72 = dktX1_trick_3 := dk_seg dksX1_trick_2 24 rfl rfl
theorem dksX1_trick_4 : cX1_trick.data.toList.drop 94 = dktX1_trick_4 := dk_seg dksX1_trick_3 22 rfl rfl
theorem dksX1_trick_5 : cX1_trick.data.toList.drop 118 = dktX1_trick_5 := dk_seg dksX1_trick_4 24 rfl rfl
theorem dksX1_trick_6 : cX1_trick.data.toList.drop 142 = dktX1_trick_6 := dk_seg dksX1_trick_5 24 rfl rfl
theorem dksX1_trick_7 : cX1_trick.data.toList.drop 166 = dktX1_trick_7 := dk_seg dksX1_trick_6 24 rfl rfl
theorem dksX1_trick_8 : cX1_trick.data.toList.drop 190 = dktX1_trick_8 := dk_seg dksX1_trick_7 24 rfl rfl
theorem dX1_trick_0 : decode cX1_trick 0 = .ok (.aload_n 0, 1) := dk_42 (dk_at dksX1_trick_0 0 rfl rfl)
theorem dX1_trick_1 : decode cX1_trick 1 = .ok (.invokevirtual 113, 3) := dk_182 0 113 (dk_at dksX1_trick_0 1 rfl rfl)
theorem dX1_trick_4 : decode cX1_trick 4 = .ok (.iload_n 1, 1) := dk_27 (dk_at dksX1_trick_0 4 rfl rfl)
theorem dX1_trick_5 : decode cX1_trick 5 = .ok (.iconst 0, 1) := dk_3 (dk_at dksX1_trick_0 5 rfl rfl)
theorem dX1_trick_6 : decode cX1_trick 6 = .ok (.aload_n 0, 1) := dk_42 (dk_at dksX1_trick_0 6 rfl rfl)
theorem dX1_trick_7 : decode cX1_trick 7 = .ok (.getfield 116, 3) := dk_180 0 116 (dk_at dksX1_trick_0 7 rfl rfl)
theorem dX1_trick_10 : decode cX1_trick 10 = .ok (.invokestatic 123, 3) := dk_184 0 123 (dk_at dksX1_trick_0 10 rfl rfl)
theorem dX1_trick_13 : decode cX1_trick 13 = .ok (.ifCond .ne 9, 3) := dk_154 0 9 (dk_at dksX1_trick_0 13 rfl rfl)
theorem dX1_trick_16 : decode cX1_trick 16 = .ok (.aload_n 0, 1) := dk_42 (dk_at dksX1_trick_0 16 rfl rfl)
theorem dX1_trick_17 : decode cX1_trick 17 = .ok (.iconst 2, 1) := dk_5 (dk_at dksX1_trick_0 17 rfl rfl)
theorem dX1_trick_18 : decode cX1_trick 18 = .ok (.invokevirtual 127, 3) := dk_182 0 127 (dk_at dksX1_trick_0 18 rfl rfl)
theorem dX1_trick_21 : decode cX1_trick 21 = .ok (.ireturn, 1) := dk_172 (dk_at dksX1_trick_0 21 rfl rfl)
theorem dX1_trick_22 : decode cX1_trick 22 = .ok (.aload_n 0, 1) := dk_42 (dk_at dksX1_trick_0 22 rfl rfl)
theorem dX1_trick_23 : decode cX1_trick 23 = .ok (.iconst 0, 1) := dk_3 (dk_at dksX1_trick_0 23 rfl rfl)
theorem dX1_trick_24 : decode cX1_trick 24 = .ok (.putfield 116, 3) := dk_181 0 116 (dk_at dksX1_trick_1 0 rfl rfl)
theorem dX1_trick_27 : decode cX1_trick 27 = .ok (.aload_n 0, 1) := dk_42 (dk_at dksX1_trick_1 3 rfl rfl)
theorem dX1_trick_28 : decode cX1_trick 28 = .ok (.iconst 0, 1) := dk_3 (dk_at dksX1_trick_1 4 rfl rfl)
theorem dX1_trick_29 : decode cX1_trick 29 = .ok (.putfield 130, 3) := dk_181 0 130 (dk_at dksX1_trick_1 5 rfl rfl)
theorem dX1_trick_32 : decode cX1_trick 32 = .ok (.aload_n 0, 1) := dk_42 (dk_at dksX1_trick_1 8 rfl rfl)
theorem dX1_trick_33 : decode cX1_trick 33 = .ok (.aload_n 0, 1) := dk_42 (dk_at dksX1_trick_1 9 rfl rfl)
theorem dX1_trick_34 : decode cX1_trick 34 = .ok (.getfield 62, 3) := dk_180 0 62 (dk_at dksX1_trick_1 10 rfl rfl)
theorem dX1_trick_37 : decode cX1_trick 37 = .ok (.iload_n 1, 1) := dk_27 (dk_at dksX1_trick_1 13 rfl rfl)
theorem dX1_trick_38 : decode cX1_trick 38 = .ok (.invokevirtual 133, 3) := dk_182 0 133 (dk_at dksX1_trick_1 14 rfl rfl)
theorem dX1_trick_41 : decode cX1_trick 41 = .ok (.putfield 137, 3) := dk_181 0 137 (dk_at dksX1_trick_1 17 rfl rfl)
theorem dX1_trick_44 : decode cX1_trick 44 = .ok (.goto 26, 3) := dk_167 0 26 (dk_at dksX1_trick_1 20 rfl rfl)
theorem dX1_trick_47 : decode cX1_trick 47 = .ok (.astore_n 2, 1) := dk_77 (dk_at dksX1_trick_1 23 rfl rfl)
theorem dX1_trick_48 : decode cX1_trick 48 = .ok (.aload_n 0, 1) := dk_42 (dk_at dksX1_trick_2 0 rfl rfl)
theorem dX1_trick_49 : decode cX1_trick 49 = .ok (.aload_n 2, 1) := dk_44 (dk_at dksX1_trick_2 1 rfl rfl)
theorem dX1_trick_50 : decode cX1_trick 50 = .ok (.getfield 143, 3) := dk_180 0 143 (dk_at dksX1_trick_2 2 rfl rfl)
theorem dX1_trick_53 : decode cX1_trick 53 = .ok (.putfield 130, 3) := dk_181 0 130 (dk_at dksX1_trick_2 5 rfl rfl)
theorem dX1_trick_56 : decode cX1_trick 56 = .ok (.aload_n 0, 1) := dk_42 (dk_at dksX1_trick_2 8 rfl rfl)
theorem dX1_trick_57 : decode cX1_trick 57 = .ok (.aload_n 2, 1) := dk_44 (dk_at dksX1_trick_2 9 rfl rfl)
theorem dX1_trick_58 : decode cX1_trick 58 = .ok (.getfield 144, 3) := dk_180 0 144 (dk_at dksX1_trick_2 10 rfl rfl)
theorem dX1_trick_61 : decode cX1_trick 61 = .ok (.putfield 66, 3) := dk_181 0 66 (dk_at dksX1_trick_2 13 rfl rfl)
theorem dX1_trick_64 : decode cX1_trick 64 = .ok (.aload_n 0, 1) := dk_42 (dk_at dksX1_trick_2 16 rfl rfl)
theorem dX1_trick_65 : decode cX1_trick 65 = .ok (.iconst 4, 1) := dk_7 (dk_at dksX1_trick_2 17 rfl rfl)
theorem dX1_trick_66 : decode cX1_trick 66 = .ok (.invokevirtual 127, 3) := dk_182 0 127 (dk_at dksX1_trick_2 18 rfl rfl)
theorem dX1_trick_69 : decode cX1_trick 69 = .ok (.ireturn, 1) := dk_172 (dk_at dksX1_trick_2 21 rfl rfl)
theorem dX1_trick_70 : decode cX1_trick 70 = .ok (.aload_n 0, 1) := dk_42 (dk_at dksX1_trick_2 22 rfl rfl)
theorem dX1_trick_71 : decode cX1_trick 71 = .ok (.aload_n 0, 1) := dk_42 (dk_at dksX1_trick_2 23 rfl rfl)
theorem dX1_trick_72 : decode cX1_trick 72 = .ok (.getfield 137, 3) := dk_180 0 137 (dk_at dksX1_trick_3 0 rfl rfl)
theorem dX1_trick_75 : decode cX1_trick 75 = .ok (.aload_n 0, 1) := dk_42 (dk_at dksX1_trick_3 3 rfl rfl)
theorem dX1_trick_76 : decode cX1_trick 76 = .ok (.getfield 137, 3) := dk_180 0 137 (dk_at dksX1_trick_3 4 rfl rfl)
theorem dX1_trick_79 : decode cX1_trick 79 = .ok (.getfield 147, 3) := dk_180 0 147 (dk_at dksX1_trick_3 7 rfl rfl)
theorem dX1_trick_82 : decode cX1_trick 82 = .ok (.invokevirtual 151, 3) := dk_182 0 151 (dk_at dksX1_trick_3 10 rfl rfl)
theorem dX1_trick_85 : decode cX1_trick 85 = .ok (.l2i, 1) := dk_136 (dk_at dksX1_trick_3 13 rfl rfl)
theorem dX1_trick_86 : decode cX1_trick 86 = .ok (.putfield 155, 3) := dk_181 0 155 (dk_at dksX1_trick_3 14 rfl rfl)
theorem dX1_trick_89 : decode cX1_trick 89 = .ok (.aload_n 0, 1) := dk_42 (dk_at dksX1_trick_3 17 rfl rfl)
theorem dX1_trick_90 : decode cX1_trick 90 = .ok (.getfield 73, 3) := dk_180 0 73 (dk_at dksX1_trick_3 18 rfl rfl)
theorem dX1_trick_93 : decode cX1_trick 93 = .ok (.aload_n 0, 1) := dk_42 (dk_at dksX1_trick_3 21 rfl rfl)
theorem dX1_trick_94 : decode cX1_trick 94 = .ok (.getfield 137, 3) := dk_180 0 137 (dk_at dksX1_trick_4 0 rfl rfl)
theorem dX1_trick_97 : decode cX1_trick 97 = .ok (.invokevirtual 158, 3) := dk_182 0 158 (dk_at dksX1_trick_4 3 rfl rfl)
theorem dX1_trick_100 : decode cX1_trick 100 = .ok (.iconst 0, 1) := dk_3 (dk_at dksX1_trick_4 6 rfl rfl)
theorem dX1_trick_101 : decode cX1_trick 101 = .ok (.istore_n 2, 1) := dk_61 (dk_at dksX1_trick_4 7 rfl rfl)
theorem dX1_trick_102 : decode cX1_trick 102 = .ok (.iload_n 2, 1) := dk_28 (dk_at dksX1_trick_4 8 rfl rfl)
theorem dX1_trick_103 : decode cX1_trick 103 = .ok (.bipush 20, 2) := dk_16 20 (dk_at dksX1_trick_4 9 rfl rfl)
theorem dX1_trick_105 : decode cX1_trick 105 = .ok (.if_icmp .ge 19, 3) := dk_162 0 19 (dk_at dksX1_trick_4 11 rfl rfl)
theorem dX1_trick_108 : decode cX1_trick 108 = .ok (.aload_n 0, 1) := dk_42 (dk_at dksX1_trick_4 14 rfl rfl)
theorem dX1_trick_109 : decode cX1_trick 109 = .ok (.getfield 79, 3) := dk_180 0 79 (dk_at dksX1_trick_4 15 rfl rfl)
theorem dX1_trick_112 : decode cX1_trick 112 = .ok (.iload_n 2, 1) := dk_28 (dk_at dksX1_trick_4 18 rfl rfl)
theorem dX1_trick_113 : decode cX1_trick 113 = .ok (.aaload, 1) := dk_50 (dk_at dksX1_trick_4 19 rfl rfl)
theorem dX1_trick_114 : decode cX1_trick 114 = .ok (.iconst 0, 1) := dk_3 (dk_at dksX1_trick_4 20 rfl rfl)
theorem dX1_trick_115 : decode cX1_trick 115 = .ok (.putfield 162, 3) := dk_181 0 162 (dk_at dksX1_trick_4 21 rfl rfl)
theorem dX1_trick_118 : decode cX1_trick 118 = .ok (.iinc 2 1, 3) := dk_132 2 1 (dk_at dksX1_trick_5 0 rfl rfl)
theorem dX1_trick_121 : decode cX1_trick 121 = .ok (.goto (-19), 3) := dk_167 255 237 (dk_at dksX1_trick_5 3 rfl rfl)
theorem dX1_trick_124 : decode cX1_trick 124 = .ok (.aload_n 0, 1) := dk_42 (dk_at dksX1_trick_5 6 rfl rfl)
theorem dX1_trick_125 : decode cX1_trick 125 = .ok (.getfield 86, 3) := dk_180 0 86 (dk_at dksX1_trick_5 7 rfl rfl)
theorem dX1_trick_128 : decode cX1_trick 128 = .ok (.iconst 0, 1) := dk_3 (dk_at dksX1_trick_5 10 rfl rfl)
theorem dX1_trick_129 : decode cX1_trick 129 = .ok (.putfield 166, 3) := dk_181 0 166 (dk_at dksX1_trick_5 11 rfl rfl)
theorem dX1_trick_132 : decode cX1_trick 132 = .ok (.aload_n 0, 1) := dk_42 (dk_at dksX1_trick_5 14 rfl rfl)
theorem dX1_trick_133 : decode cX1_trick 133 = .ok (.getfield 86, 3) := dk_180 0 86 (dk_at dksX1_trick_5 15 rfl rfl)
theorem dX1_trick_136 : decode cX1_trick 136 = .ok (.iconst 0, 1) := dk_3 (dk_at dksX1_trick_5 18 rfl rfl)
theorem dX1_trick_137 : decode cX1_trick 137 = .ok (.putfield 169, 3) := dk_181 0 169 (dk_at dksX1_trick_5 19 rfl rfl)
theorem dX1_trick_140 : decode cX1_trick 140 = .ok (.iconst 0, 1) := dk_3 (dk_at dksX1_trick_5 22 rfl rfl)
theorem dX1_trick_141 : decode cX1_trick 141 = .ok (.istore_n 2, 1) := dk_61 (dk_at dksX1_trick_5 23 rfl rfl)
theorem dX1_trick_142 : decode cX1_trick 142 = .ok (.iload_n 2, 1) := dk_28 (dk_at dksX1_trick_6 0 rfl rfl)
theorem dX1_trick_143 : decode cX1_trick 143 = .ok (.aload_n 0, 1) := dk_42 (dk_at dksX1_trick_6 1 rfl rfl)
theorem dX1_trick_144 : decode cX1_trick 144 = .ok (.getfield 137, 3) := dk_180 0 137 (dk_at dksX1_trick_6 2 rfl rfl)
theorem dX1_trick_147 : decode cX1_trick 147 = .ok (.getfield 172, 3) := dk_180 0 172 (dk_at dksX1_trick_6 5 rfl rfl)
theorem dX1_trick_150 : decode cX1_trick 150 = .ok (.if_icmp .ge 34, 3) := dk_162 0 34 (dk_at dksX1_trick_6 8 rfl rfl)
theorem dX1_trick_153 : decode cX1_trick 153 = .ok (.aload_n 0, 1) := dk_42 (dk_at dksX1_trick_6 11 rfl rfl)
theorem dX1_trick_154 : decode cX1_trick 154 = .ok (.getfield 86, 3) := dk_180 0 86 (dk_at dksX1_trick_6 12 rfl rfl)
theorem dX1_trick_157 : decode cX1_trick 157 = .ok (.aload_n 0, 1) := dk_42 (dk_at dksX1_trick_6 15 rfl rfl)
theorem dX1_trick_158 : decode cX1_trick 158 = .ok (.getfield 137, 3) := dk_180 0 137 (dk_at dksX1_trick_6 16 rfl rfl)
theorem dX1_trick_161 : decode cX1_trick 161 = .ok (.getfield 175, 3) := dk_180 0 175 (dk_at dksX1_trick_6 19 rfl rfl)
theorem dX1_trick_164 : decode cX1_trick 164 = .ok (.iload_n 2, 1) := dk_28 (dk_at dksX1_trick_6 22 rfl rfl)
theorem dX1_trick_165 : decode cX1_trick 165 = .ok (.iaload, 1) := dk_46 (dk_at dksX1_trick_6 23 rfl rfl)
theorem dX1_trick_166 : decode cX1_trick 166 = .ok (.aload_n 0, 1) := dk_42 (dk_at dksX1_trick_7 0 rfl rfl)
theorem dX1_trick_167 : decode cX1_trick 167 = .ok (.getfield 137, 3) := dk_180 0 137 (dk_at dksX1_trick_7 1 rfl rfl)
theorem dX1_trick_170 : decode cX1_trick 170 = .ok (.getfield 178, 3) := dk_180 0 178 (dk_at dksX1_trick_7 4 rfl rfl)
theorem dX1_trick_173 : decode cX1_trick 173 = .ok (.iload_n 2, 1) := dk_28 (dk_at dksX1_trick_7 7 rfl rfl)
theorem dX1_trick_174 : decode cX1_trick 174 = .ok (.iaload, 1) := dk_46 (dk_at dksX1_trick_7 8 rfl rfl)
theorem dX1_trick_175 : decode cX1_trick 175 = .ok (.invokevirtual 181, 3) := dk_182 0 181 (dk_at dksX1_trick_7 9 rfl rfl)
theorem dX1_trick_178 : decode cX1_trick 178 = .ok (.iinc 2 1, 3) := dk_132 2 1 (dk_at dksX1_trick_7 12 rfl rfl)
theorem dX1_trick_181 : decode cX1_trick 181 = .ok (.goto (-39), 3) := dk_167 255 217 (dk_at dksX1_trick_7 15 rfl rfl)
theorem dX1_trick_184 : decode cX1_trick 184 = .ok (.aload_n 0, 1) := dk_42 (dk_at dksX1_trick_7 18 rfl rfl)
theorem dX1_trick_185 : decode cX1_trick 185 = .ok (.iconst 0, 1) := dk_3 (dk_at dksX1_trick_7 19 rfl rfl)
theorem dX1_trick_186 : decode cX1_trick 186 = .ok (.putfield 185, 3) := dk_181 0 185 (dk_at dksX1_trick_7 20 rfl rfl)
theorem dX1_trick_189 : decode cX1_trick 189 = .ok (.aload_n 0, 1) := dk_42 (dk_at dksX1_trick_7 23 rfl rfl)
theorem dX1_trick_190 : decode cX1_trick 190 = .ok (.getfield 137, 3) := dk_180 0 137 (dk_at dksX1_trick_8 0 rfl rfl)
theorem dX1_trick_193 : decode cX1_trick 193 = .ok (.getfield 188, 3) := dk_180 0 188 (dk_at dksX1_trick_8 3 rfl rfl)
theorem dX1_trick_196 : decode cX1_trick 196 = .ok (.ireturn, 1) := dk_172 (dk_at dksX1_trick_8 6 rfl rfl)
abbrev cX1_anew : ByteArray := prog_1_method_11_code
def yX1_anew : MethodName := ⟨RX1, "anew", "()V"⟩
def dkwX1_anew_0 : List UInt8 := [42, 3, 181, 0, 110, 42, 2, 181, 0, 66, 177]
abbrev dktX1_anew_0 : List UInt8 := dkwX1_anew_0 ++ []
theorem dksX1_anew_0 : cX1_anew.data.toList.drop 0 = dktX1_anew_0 := by decide +kernel
theorem dX1_anew_0 : decode cX1_anew 0 = .ok (.aload_n 0, 1) := dk_42 (dk_at dksX1_anew_0 0 rfl rfl)
theorem dX1_anew_1 : decode cX1_anew 1 = .ok (.iconst 0, 1) := dk_3 (dk_at dksX1_anew_0 1 rfl rfl)
theorem dX1_anew_2 : decode cX1_anew 2 = .ok (.putfield 110, 3) := dk_181 0 110 (dk_at dksX1_anew_0 2 rfl rfl)
theorem dX1_anew_5 : decode cX1_anew 5 = .ok (.aload_n 0, 1) := dk_42 (dk_at dksX1_anew_0 5 rfl rfl)
theorem dX1_anew_6 : decode cX1_anew 6 = .ok (.iconst (-1), 1) := dk_2 (dk_at dksX1_anew_0 6 rfl rfl)
theorem dX1_anew_7 : decode cX1_anew 7 = .ok (.putfield 66, 3) := dk_181 0 66 (dk_at dksX1_anew_0 7 rfl rfl)
theorem dX1_anew_10 : decode cX1_anew 10 = .ok (.return_, 1) := dk_177 (dk_at dksX1_anew_0 10 rfl rfl)
abbrev cX1_in : ByteArray := prog_1_method_1_code
def yX1_in : MethodName := ⟨RX1, "in", "(III)Z"⟩
def dkwX1_in_0 : List UInt8 := [26, 27, 161, 0, 12, 26, 28, 163, 0, 7, 4, 167, 0, 4, 3, 172]
abbrev dktX1_in_0 : List UInt8 := dkwX1_in_0 ++ []
theorem dksX1_in_0 : cX1_in.data.toList.drop 0 = dktX1_in_0 := by decide +kernel
theorem dX1_in_0 : decode cX1_in 0 = .ok (.iload_n 0, 1) := dk_26 (dk_at dksX1_in_0 0 rfl rfl)
theorem dX1_in_1 : decode cX1_in 1 = .ok (.iload_n 1, 1) := dk_27 (dk_at dksX1_in_0 1 rfl rfl)
theorem dX1_in_2 : decode cX1_in 2 = .ok (.if_icmp .lt 12, 3) := dk_161 0 12 (dk_at dksX1_in_0 2 rfl rfl)
theorem dX1_in_5 : decode cX1_in 5 = .ok (.iload_n 0, 1) := dk_26 (dk_at dksX1_in_0 5 rfl rfl)
theorem dX1_in_6 : decode cX1_in 6 = .ok (.iload_n 2, 1) := dk_28 (dk_at dksX1_in_0 6 rfl rfl)
theorem dX1_in_7 : decode cX1_in 7 = .ok (.if_icmp .gt 7, 3) := dk_163 0 7 (dk_at dksX1_in_0 7 rfl rfl)
theorem dX1_in_10 : decode cX1_in 10 = .ok (.iconst 1, 1) := dk_4 (dk_at dksX1_in_0 10 rfl rfl)
theorem dX1_in_11 : decode cX1_in 11 = .ok (.goto 4, 3) := dk_167 0 4 (dk_at dksX1_in_0 11 rfl rfl)
theorem dX1_in_14 : decode cX1_in 14 = .ok (.iconst 0, 1) := dk_3 (dk_at dksX1_in_0 14 rfl rfl)
theorem dX1_in_15 : decode cX1_in 15 = .ok (.ireturn, 1) := dk_172 (dk_at dksX1_in_0 15 rfl rfl)
abbrev cX1_no : ByteArray := prog_1_method_12_code
def yX1_no : MethodName := ⟨RX1, "no", "(I)I"⟩
def dkwX1_no_0 : List UInt8 := [42, 27, 181, 0, 110, 2, 172]
abbrev dktX1_no_0 : List UInt8 := dkwX1_no_0 ++ []
theorem dksX1_no_0 : cX1_no.data.toList.drop 0 = dktX1_no_0 := by decide +kernel
theorem dX1_no_0 : decode cX1_no 0 = .ok (.aload_n 0, 1) := dk_42 (dk_at dksX1_no_0 0 rfl rfl)
theorem dX1_no_1 : decode cX1_no 1 = .ok (.iload_n 1, 1) := dk_27 (dk_at dksX1_no_0 1 rfl rfl)
theorem dX1_no_2 : decode cX1_no 2 = .ok (.putfield 110, 3) := dk_181 0 110 (dk_at dksX1_no_0 2 rfl rfl)
theorem dX1_no_5 : decode cX1_no 5 = .ok (.iconst (-1), 1) := dk_2 (dk_at dksX1_no_0 5 rfl rfl)
theorem dX1_no_6 : decode cX1_no 6 = .ok (.ireturn, 1) := dk_172 (dk_at dksX1_no_0 6 rfl rfl)
abbrev cX1_falling : ByteArray := prog_1_method_4_code
def yX1_falling : MethodName := ⟨RX1, "falling", "(II)J"⟩
def dkwX1_falling_1 : List UInt8 := [167, 255, 239, 32, 173]
abbrev dktX1_falling_1 : List UInt8 := dkwX1_falling_1 ++ []
def dkwX1_falling_0 : List UInt8 := [10, 65, 3, 54, 4, 21, 4, 27, 162, 0, 17, 32, 26, 21, 4, 100, 133, 105, 65, 132, 4, 1]
abbrev dktX1_falling_0 : List UInt8 := dkwX1_falling_0 ++ dktX1_falling_1
theorem dksX1_falling_0 : cX1_falling.data.toList.drop 0 = dktX1_falling_0 := by decide +kernel
theorem dksX1_falling_1 : cX1_falling.data.toList.drop 22 = dktX1_falling_1 := dk_seg dksX1_falling_0 22 rfl rfl
theorem dX1_falling_0 : decode cX1_falling 0 = .ok (.lconst 1, 1) := dk_10 (dk_at dksX1_falling_0 0 rfl rfl)
theorem dX1_falling_1 : decode cX1_falling 1 = .ok (.lstore_n 2, 1) := dk_65 (dk_at dksX1_falling_0 1 rfl rfl)
theorem dX1_falling_2 : decode cX1_falling 2 = .ok (.iconst 0, 1) := dk_3 (dk_at dksX1_falling_0 2 rfl rfl)
theorem dX1_falling_3 : decode cX1_falling 3 = .ok (.istore 4, 2) := dk_54 4 (dk_at dksX1_falling_0 3 rfl rfl)
theorem dX1_falling_5 : decode cX1_falling 5 = .ok (.iload 4, 2) := dk_21 4 (dk_at dksX1_falling_0 5 rfl rfl)
theorem dX1_falling_7 : decode cX1_falling 7 = .ok (.iload_n 1, 1) := dk_27 (dk_at dksX1_falling_0 7 rfl rfl)
theorem dX1_falling_8 : decode cX1_falling 8 = .ok (.if_icmp .ge 17, 3) := dk_162 0 17 (dk_at dksX1_falling_0 8 rfl rfl)
theorem dX1_falling_11 : decode cX1_falling 11 = .ok (.lload_n 2, 1) := dk_32 (dk_at dksX1_falling_0 11 rfl rfl)
theorem dX1_falling_12 : decode cX1_falling 12 = .ok (.iload_n 0, 1) := dk_26 (dk_at dksX1_falling_0 12 rfl rfl)
theorem dX1_falling_13 : decode cX1_falling 13 = .ok (.iload 4, 2) := dk_21 4 (dk_at dksX1_falling_0 13 rfl rfl)
theorem dX1_falling_15 : decode cX1_falling 15 = .ok (.isub, 1) := dk_100 (dk_at dksX1_falling_0 15 rfl rfl)
theorem dX1_falling_16 : decode cX1_falling 16 = .ok (.i2l, 1) := dk_133 (dk_at dksX1_falling_0 16 rfl rfl)
theorem dX1_falling_17 : decode cX1_falling 17 = .ok (.lmul, 1) := dk_105 (dk_at dksX1_falling_0 17 rfl rfl)
theorem dX1_falling_18 : decode cX1_falling 18 = .ok (.lstore_n 2, 1) := dk_65 (dk_at dksX1_falling_0 18 rfl rfl)
theorem dX1_falling_19 : decode cX1_falling 19 = .ok (.iinc 4 1, 3) := dk_132 4 1 (dk_at dksX1_falling_0 19 rfl rfl)
theorem dX1_falling_22 : decode cX1_falling 22 = .ok (.goto (-17), 3) := dk_167 255 239 (dk_at dksX1_falling_1 0 rfl rfl)
theorem dX1_falling_25 : decode cX1_falling 25 = .ok (.lload_n 2, 1) := dk_32 (dk_at dksX1_falling_1 3 rfl rfl)
theorem dX1_falling_26 : decode cX1_falling 26 = .ok (.lreturn, 1) := dk_173 (dk_at dksX1_falling_1 4 rfl rfl)
abbrev cX1_factorial : ByteArray := prog_1_method_5_code
def yX1_factorial : MethodName := ⟨RX1, "factorial", "(I)I"⟩
def dkwX1_factorial_0 : List UInt8 := [26, 26, 184, 0, 1, 136, 172]
abbrev dktX1_factorial_0 : List UInt8 := dkwX1_factorial_0 ++ []
theorem dksX1_factorial_0 : cX1_factorial.data.toList.drop 0 = dktX1_factorial_0 := by decide +kernel
theorem dX1_factorial_0 : decode cX1_factorial 0 = .ok (.iload_n 0, 1) := dk_26 (dk_at dksX1_factorial_0 0 rfl rfl)
theorem dX1_factorial_1 : decode cX1_factorial 1 = .ok (.iload_n 0, 1) := dk_26 (dk_at dksX1_factorial_0 1 rfl rfl)
theorem dX1_factorial_2 : decode cX1_factorial 2 = .ok (.invokestatic 1, 3) := dk_184 0 1 (dk_at dksX1_factorial_0 2 rfl rfl)
theorem dX1_factorial_5 : decode cX1_factorial 5 = .ok (.l2i, 1) := dk_136 (dk_at dksX1_factorial_0 5 rfl rfl)
theorem dX1_factorial_6 : decode cX1_factorial 6 = .ok (.ireturn, 1) := dk_172 (dk_at dksX1_factorial_0 6 rfl rfl)
abbrev cX1_has : ByteArray := prog_1_method_2_code
def yX1_has : MethodName := ⟨RX1, "has", "(II)Z"⟩
def dkwX1_has_0 : List UInt8 := [26, 27, 122, 4, 126, 4, 160, 0, 7, 4, 167, 0, 4, 3, 172]
abbrev dktX1_has_0 : List UInt8 := dkwX1_has_0 ++ []
theorem dksX1_has_0 : cX1_has.data.toList.drop 0 = dktX1_has_0 := by decide +kernel
theorem dX1_has_0 : decode cX1_has 0 = .ok (.iload_n 0, 1) := dk_26 (dk_at dksX1_has_0 0 rfl rfl)
theorem dX1_has_1 : decode cX1_has 1 = .ok (.iload_n 1, 1) := dk_27 (dk_at dksX1_has_0 1 rfl rfl)
theorem dX1_has_2 : decode cX1_has 2 = .ok (.ishr, 1) := dk_122 (dk_at dksX1_has_0 2 rfl rfl)
theorem dX1_has_3 : decode cX1_has 3 = .ok (.iconst 1, 1) := dk_4 (dk_at dksX1_has_0 3 rfl rfl)
theorem dX1_has_4 : decode cX1_has 4 = .ok (.iand, 1) := dk_126 (dk_at dksX1_has_0 4 rfl rfl)
theorem dX1_has_5 : decode cX1_has 5 = .ok (.iconst 1, 1) := dk_4 (dk_at dksX1_has_0 5 rfl rfl)
theorem dX1_has_6 : decode cX1_has 6 = .ok (.if_icmp .ne 7, 3) := dk_160 0 7 (dk_at dksX1_has_0 6 rfl rfl)
theorem dX1_has_9 : decode cX1_has 9 = .ok (.iconst 1, 1) := dk_4 (dk_at dksX1_has_0 9 rfl rfl)
theorem dX1_has_10 : decode cX1_has 10 = .ok (.goto 4, 3) := dk_167 0 4 (dk_at dksX1_has_0 10 rfl rfl)
theorem dX1_has_13 : decode cX1_has 13 = .ok (.iconst 0, 1) := dk_3 (dk_at dksX1_has_0 13 rfl rfl)
theorem dX1_has_14 : decode cX1_has 14 = .ok (.ireturn, 1) := dk_172 (dk_at dksX1_has_0 14 rfl rfl)
abbrev cX1_ones : ByteArray := prog_1_method_3_code
def yX1_ones : MethodName := ⟨RX1, "ones", "(I)I"⟩
def dkwX1_ones_0 : List UInt8 := [3, 60, 26, 61, 28, 153, 0, 15, 132, 1, 1, 28, 28, 4, 100, 126, 61, 167, 255, 243, 27, 172]
abbrev dktX1_ones_0 : List UInt8 := dkwX1_ones_0 ++ []
theorem dksX1_ones_0 : cX1_ones.data.toList.drop 0 = dktX1_ones_0 := by decide +kernel
theorem dX1_ones_0 : decode cX1_ones 0 = .ok (.iconst 0, 1) := dk_3 (dk_at dksX1_ones_0 0 rfl rfl)
theorem dX1_ones_1 : decode cX1_ones 1 = .ok (.istore_n 1, 1) := dk_60 (dk_at dksX1_ones_0 1 rfl rfl)
theorem dX1_ones_2 : decode cX1_ones 2 = .ok (.iload_n 0, 1) := dk_26 (dk_at dksX1_ones_0 2 rfl rfl)
theorem dX1_ones_3 : decode cX1_ones 3 = .ok (.istore_n 2, 1) := dk_61 (dk_at dksX1_ones_0 3 rfl rfl)
theorem dX1_ones_4 : decode cX1_ones 4 = .ok (.iload_n 2, 1) := dk_28 (dk_at dksX1_ones_0 4 rfl rfl)
theorem dX1_ones_5 : decode cX1_ones 5 = .ok (.ifCond .eq 15, 3) := dk_153 0 15 (dk_at dksX1_ones_0 5 rfl rfl)
theorem dX1_ones_8 : decode cX1_ones 8 = .ok (.iinc 1 1, 3) := dk_132 1 1 (dk_at dksX1_ones_0 8 rfl rfl)
theorem dX1_ones_11 : decode cX1_ones 11 = .ok (.iload_n 2, 1) := dk_28 (dk_at dksX1_ones_0 11 rfl rfl)
theorem dX1_ones_12 : decode cX1_ones 12 = .ok (.iload_n 2, 1) := dk_28 (dk_at dksX1_ones_0 12 rfl rfl)
theorem dX1_ones_13 : decode cX1_ones 13 = .ok (.iconst 1, 1) := dk_4 (dk_at dksX1_ones_0 13 rfl rfl)
theorem dX1_ones_14 : decode cX1_ones 14 = .ok (.isub, 1) := dk_100 (dk_at dksX1_ones_0 14 rfl rfl)
theorem dX1_ones_15 : decode cX1_ones 15 = .ok (.iand, 1) := dk_126 (dk_at dksX1_ones_0 15 rfl rfl)
theorem dX1_ones_16 : decode cX1_ones 16 = .ok (.istore_n 2, 1) := dk_61 (dk_at dksX1_ones_0 16 rfl rfl)
theorem dX1_ones_17 : decode cX1_ones 17 = .ok (.goto (-13), 3) := dk_167 255 243 (dk_at dksX1_ones_0 17 rfl rfl)
theorem dX1_ones_20 : decode cX1_ones 20 = .ok (.iload_n 1, 1) := dk_27 (dk_at dksX1_ones_0 20 rfl rfl)
theorem dX1_ones_21 : decode cX1_ones 21 = .ok (.ireturn, 1) := dk_172 (dk_at dksX1_ones_0 21 rfl rfl)
abbrev cX1_fault : ByteArray := prog_1_method_17_code
def yX1_fault : MethodName := ⟨RX1, "fault", "()I"⟩
theorem dX1_fault_0 : decode cX1_fault 0 = .ok (.aload_n 0, 1) := by decide +kernel
theorem dX1_fault_1 : decode cX1_fault 1 = .ok (.getfield 130, 3) := by decide +kernel
theorem dX1_fault_4 : decode cX1_fault 4 = .ok (.ireturn, 1) := by decide +kernel
abbrev cX1_where : ByteArray := prog_1_method_18_code
def yX1_where : MethodName := ⟨RX1, "where", "()I"⟩
def dkwX1_where_0 : List UInt8 := [42, 180, 0, 110, 7, 160, 0, 10, 42, 180, 0, 66, 167, 0, 4, 2, 172]
abbrev dktX1_where_0 : List UInt8 := dkwX1_where_0 ++ []
theorem dksX1_where_0 : cX1_where.data.toList.drop 0 = dktX1_where_0 := by decide +kernel
theorem dX1_where_0 : decode cX1_where 0 = .ok (.aload_n 0, 1) := dk_42 (dk_at dksX1_where_0 0 rfl rfl)
theorem dX1_where_1 : decode cX1_where 1 = .ok (.getfield 110, 3) := dk_180 0 110 (dk_at dksX1_where_0 1 rfl rfl)
theorem dX1_where_4 : decode cX1_where 4 = .ok (.iconst 4, 1) := dk_7 (dk_at dksX1_where_0 4 rfl rfl)
theorem dX1_where_5 : decode cX1_where 5 = .ok (.if_icmp .ne 10, 3) := dk_160 0 10 (dk_at dksX1_where_0 5 rfl rfl)
theorem dX1_where_8 : decode cX1_where 8 = .ok (.aload_n 0, 1) := dk_42 (dk_at dksX1_where_0 8 rfl rfl)
theorem dX1_where_9 : decode cX1_where 9 = .ok (.getfield 66, 3) := dk_180 0 66 (dk_at dksX1_where_0 9 rfl rfl)
theorem dX1_where_12 : decode cX1_where 12 = .ok (.goto 4, 3) := dk_167 0 4 (dk_at dksX1_where_0 12 rfl rfl)
theorem dX1_where_15 : decode cX1_where 15 = .ok (.iconst (-1), 1) := dk_2 (dk_at dksX1_where_0 15 rfl rfl)
theorem dX1_where_16 : decode cX1_where 16 = .ok (.ireturn, 1) := dk_172 (dk_at dksX1_where_0 16 rfl rfl)
abbrev cX1_hands : ByteArray := prog_1_method_24_code
def yX1_hands : MethodName := ⟨RX1, "hands", "()I"⟩
def dkwX1_hands_0 : List UInt8 := [42, 182, 0, 113, 42, 180, 0, 137, 199, 0, 11, 42, 4, 182, 0, 127, 167, 0, 7, 42, 180, 0, 155, 172]
abbrev dktX1_hands_0 : List UInt8 := dkwX1_hands_0 ++ []
theorem dksX1_hands_0 : cX1_hands.data.toList.drop 0 = dktX1_hands_0 := by decide +kernel
theorem dX1_hands_0 : decode cX1_hands 0 = .ok (.aload_n 0, 1) := dk_42 (dk_at dksX1_hands_0 0 rfl rfl)
theorem dX1_hands_1 : decode cX1_hands 1 = .ok (.invokevirtual 113, 3) := dk_182 0 113 (dk_at dksX1_hands_0 1 rfl rfl)
theorem dX1_hands_4 : decode cX1_hands 4 = .ok (.aload_n 0, 1) := dk_42 (dk_at dksX1_hands_0 4 rfl rfl)
theorem dX1_hands_5 : decode cX1_hands 5 = .ok (.getfield 137, 3) := dk_180 0 137 (dk_at dksX1_hands_0 5 rfl rfl)
theorem dX1_hands_8 : decode cX1_hands 8 = .ok (.ifnonnull 11, 3) := dk_199 0 11 (dk_at dksX1_hands_0 8 rfl rfl)
theorem dX1_hands_11 : decode cX1_hands 11 = .ok (.aload_n 0, 1) := dk_42 (dk_at dksX1_hands_0 11 rfl rfl)
theorem dX1_hands_12 : decode cX1_hands 12 = .ok (.iconst 1, 1) := dk_4 (dk_at dksX1_hands_0 12 rfl rfl)
theorem dX1_hands_13 : decode cX1_hands 13 = .ok (.invokevirtual 127, 3) := dk_182 0 127 (dk_at dksX1_hands_0 13 rfl rfl)
theorem dX1_hands_16 : decode cX1_hands 16 = .ok (.goto 7, 3) := dk_167 0 7 (dk_at dksX1_hands_0 16 rfl rfl)
theorem dX1_hands_19 : decode cX1_hands 19 = .ok (.aload_n 0, 1) := dk_42 (dk_at dksX1_hands_0 19 rfl rfl)
theorem dX1_hands_20 : decode cX1_hands 20 = .ok (.getfield 155, 3) := dk_180 0 155 (dk_at dksX1_hands_0 20 rfl rfl)
theorem dX1_hands_23 : decode cX1_hands 23 = .ok (.ireturn, 1) := dk_172 (dk_at dksX1_hands_0 23 rfl rfl)
abbrev cX1_rows : ByteArray := prog_1_method_25_code
def yX1_rows : MethodName := ⟨RX1, "rows", "()I"⟩
def dkwX1_rows_0 : List UInt8 := [42, 182, 0, 113, 42, 180, 0, 137, 199, 0, 11, 42, 4, 182, 0, 127, 167, 0, 7, 42, 182, 0, 191, 172]
abbrev dktX1_rows_0 : List UInt8 := dkwX1_rows_0 ++ []
theorem dksX1_rows_0 : cX1_rows.data.toList.drop 0 = dktX1_rows_0 := by decide +kernel
theorem dX1_rows_0 : decode cX1_rows 0 = .ok (.aload_n 0, 1) := dk_42 (dk_at dksX1_rows_0 0 rfl rfl)
theorem dX1_rows_1 : decode cX1_rows 1 = .ok (.invokevirtual 113, 3) := dk_182 0 113 (dk_at dksX1_rows_0 1 rfl rfl)
theorem dX1_rows_4 : decode cX1_rows 4 = .ok (.aload_n 0, 1) := dk_42 (dk_at dksX1_rows_0 4 rfl rfl)
theorem dX1_rows_5 : decode cX1_rows 5 = .ok (.getfield 137, 3) := dk_180 0 137 (dk_at dksX1_rows_0 5 rfl rfl)
theorem dX1_rows_8 : decode cX1_rows 8 = .ok (.ifnonnull 11, 3) := dk_199 0 11 (dk_at dksX1_rows_0 8 rfl rfl)
theorem dX1_rows_11 : decode cX1_rows 11 = .ok (.aload_n 0, 1) := dk_42 (dk_at dksX1_rows_0 11 rfl rfl)
theorem dX1_rows_12 : decode cX1_rows 12 = .ok (.iconst 1, 1) := dk_4 (dk_at dksX1_rows_0 12 rfl rfl)
theorem dX1_rows_13 : decode cX1_rows 13 = .ok (.invokevirtual 127, 3) := dk_182 0 127 (dk_at dksX1_rows_0 13 rfl rfl)
theorem dX1_rows_16 : decode cX1_rows 16 = .ok (.goto 7, 3) := dk_167 0 7 (dk_at dksX1_rows_0 16 rfl rfl)
theorem dX1_rows_19 : decode cX1_rows 19 = .ok (.aload_n 0, 1) := dk_42 (dk_at dksX1_rows_0 19 rfl rfl)
theorem dX1_rows_20 : decode cX1_rows 20 = .ok (.invokevirtual 191, 3) := dk_182 0 191 (dk_at dksX1_rows_0 20 rfl rfl)
theorem dX1_rows_23 : decode cX1_rows 23 = .ok (.ireturn, 1) := dk_172 (dk_at dksX1_rows_0 23 rfl rfl)
abbrev cX1_rowMany : ByteArray := prog_1_method_23_code
def yX1_rowMany : MethodName := ⟨RX1, "rowMany", "()I"⟩
def dkwX1_rowMany_1 : List UInt8 := [182, 0, 198, 104, 172]
abbrev dktX1_rowMany_1 : List UInt8 := dkwX1_rowMany_1 ++ []
def dkwX1_rowMany_0 : List UInt8 := [42, 180, 0, 137, 180, 0, 147, 42, 180, 0, 137, 182, 0, 195, 184, 0, 1, 136, 42, 180, 0, 137]
abbrev dktX1_rowMany_0 : List UInt8 := dkwX1_rowMany_0 ++ dktX1_rowMany_1
theorem dksX1_rowMany_0 : cX1_rowMany.data.toList.drop 0 = dktX1_rowMany_0 := by decide +kernel
theorem dksX1_rowMany_1 : cX1_rowMany.data.toList.drop 22 = dktX1_rowMany_1 := dk_seg dksX1_rowMany_0 22 rfl rfl
theorem dX1_rowMany_0 : decode cX1_rowMany 0 = .ok (.aload_n 0, 1) := dk_42 (dk_at dksX1_rowMany_0 0 rfl rfl)
theorem dX1_rowMany_1 : decode cX1_rowMany 1 = .ok (.getfield 137, 3) := dk_180 0 137 (dk_at dksX1_rowMany_0 1 rfl rfl)
theorem dX1_rowMany_4 : decode cX1_rowMany 4 = .ok (.getfield 147, 3) := dk_180 0 147 (dk_at dksX1_rowMany_0 4 rfl rfl)
theorem dX1_rowMany_7 : decode cX1_rowMany 7 = .ok (.aload_n 0, 1) := dk_42 (dk_at dksX1_rowMany_0 7 rfl rfl)
theorem dX1_rowMany_8 : decode cX1_rowMany 8 = .ok (.getfield 137, 3) := dk_180 0 137 (dk_at dksX1_rowMany_0 8 rfl rfl)
theorem dX1_rowMany_11 : decode cX1_rowMany 11 = .ok (.invokevirtual 195, 3) := dk_182 0 195 (dk_at dksX1_rowMany_0 11 rfl rfl)
theorem dX1_rowMany_14 : decode cX1_rowMany 14 = .ok (.invokestatic 1, 3) := dk_184 0 1 (dk_at dksX1_rowMany_0 14 rfl rfl)
theorem dX1_rowMany_17 : decode cX1_rowMany 17 = .ok (.l2i, 1) := dk_136 (dk_at dksX1_rowMany_0 17 rfl rfl)
theorem dX1_rowMany_18 : decode cX1_rowMany 18 = .ok (.aload_n 0, 1) := dk_42 (dk_at dksX1_rowMany_0 18 rfl rfl)
theorem dX1_rowMany_19 : decode cX1_rowMany 19 = .ok (.getfield 137, 3) := dk_180 0 137 (dk_at dksX1_rowMany_0 19 rfl rfl)
theorem dX1_rowMany_22 : decode cX1_rowMany 22 = .ok (.invokevirtual 198, 3) := dk_182 0 198 (dk_at dksX1_rowMany_1 0 rfl rfl)
theorem dX1_rowMany_25 : decode cX1_rowMany 25 = .ok (.imul, 1) := dk_104 (dk_at dksX1_rowMany_1 3 rfl rfl)
theorem dX1_rowMany_26 : decode cX1_rowMany 26 = .ok (.ireturn, 1) := dk_172 (dk_at dksX1_rowMany_1 4 rfl rfl)
abbrev cX1_hand : ByteArray := prog_1_method_26_code
def yX1_hand : MethodName := ⟨RX1, "hand", "(II)I"⟩
def dkwX1_hand_2 : List UInt8 := [42, 180, 0, 94, 28, 46, 172]
abbrev dktX1_hand_2 : List UInt8 := dkwX1_hand_2 ++ []
def dkwX1_hand_1 : List UInt8 := [184, 0, 123, 154, 0, 9, 42, 4, 182, 0, 127, 172, 42, 180, 0, 137, 27, 42, 180, 0, 94, 182, 0, 208]
abbrev dktX1_hand_1 : List UInt8 := dkwX1_hand_1 ++ dktX1_hand_2
def dkwX1_hand_0 : List UInt8 := [42, 182, 0, 113, 42, 27, 182, 0, 201, 153, 0, 20, 28, 3, 42, 180, 0, 137, 180, 0, 205, 4, 100]
abbrev dktX1_hand_0 : List UInt8 := dkwX1_hand_0 ++ dktX1_hand_1
theorem dksX1_hand_0 : cX1_hand.data.toList.drop 0 = dktX1_hand_0 := by decide +kernel
theorem dksX1_hand_1 : cX1_hand.data.toList.drop 23 = dktX1_hand_1 := dk_seg dksX1_hand_0 23 rfl rfl
theorem dksX1_hand_2 : cX1_hand.data.toList.drop 47 = dktX1_hand_2 := dk_seg dksX1_hand_1 24 rfl rfl
theorem dX1_hand_0 : decode cX1_hand 0 = .ok (.aload_n 0, 1) := dk_42 (dk_at dksX1_hand_0 0 rfl rfl)
theorem dX1_hand_1 : decode cX1_hand 1 = .ok (.invokevirtual 113, 3) := dk_182 0 113 (dk_at dksX1_hand_0 1 rfl rfl)
theorem dX1_hand_4 : decode cX1_hand 4 = .ok (.aload_n 0, 1) := dk_42 (dk_at dksX1_hand_0 4 rfl rfl)
theorem dX1_hand_5 : decode cX1_hand 5 = .ok (.iload_n 1, 1) := dk_27 (dk_at dksX1_hand_0 5 rfl rfl)
theorem dX1_hand_6 : decode cX1_hand 6 = .ok (.invokevirtual 201, 3) := dk_182 0 201 (dk_at dksX1_hand_0 6 rfl rfl)
theorem dX1_hand_9 : decode cX1_hand 9 = .ok (.ifCond .eq 20, 3) := dk_153 0 20 (dk_at dksX1_hand_0 9 rfl rfl)
theorem dX1_hand_12 : decode cX1_hand 12 = .ok (.iload_n 2, 1) := dk_28 (dk_at dksX1_hand_0 12 rfl rfl)
theorem dX1_hand_13 : decode cX1_hand 13 = .ok (.iconst 0, 1) := dk_3 (dk_at dksX1_hand_0 13 rfl rfl)
theorem dX1_hand_14 : decode cX1_hand 14 = .ok (.aload_n 0, 1) := dk_42 (dk_at dksX1_hand_0 14 rfl rfl)
theorem dX1_hand_15 : decode cX1_hand 15 = .ok (.getfield 137, 3) := dk_180 0 137 (dk_at dksX1_hand_0 15 rfl rfl)
theorem dX1_hand_18 : decode cX1_hand 18 = .ok (.getfield 205, 3) := dk_180 0 205 (dk_at dksX1_hand_0 18 rfl rfl)
theorem dX1_hand_21 : decode cX1_hand 21 = .ok (.iconst 1, 1) := dk_4 (dk_at dksX1_hand_0 21 rfl rfl)
theorem dX1_hand_22 : decode cX1_hand 22 = .ok (.isub, 1) := dk_100 (dk_at dksX1_hand_0 22 rfl rfl)
theorem dX1_hand_23 : decode cX1_hand 23 = .ok (.invokestatic 123, 3) := dk_184 0 123 (dk_at dksX1_hand_1 0 rfl rfl)
theorem dX1_hand_26 : decode cX1_hand 26 = .ok (.ifCond .ne 9, 3) := dk_154 0 9 (dk_at dksX1_hand_1 3 rfl rfl)
theorem dX1_hand_29 : decode cX1_hand 29 = .ok (.aload_n 0, 1) := dk_42 (dk_at dksX1_hand_1 6 rfl rfl)
theorem dX1_hand_30 : decode cX1_hand 30 = .ok (.iconst 1, 1) := dk_4 (dk_at dksX1_hand_1 7 rfl rfl)
theorem dX1_hand_31 : decode cX1_hand 31 = .ok (.invokevirtual 127, 3) := dk_182 0 127 (dk_at dksX1_hand_1 8 rfl rfl)
theorem dX1_hand_34 : decode cX1_hand 34 = .ok (.ireturn, 1) := dk_172 (dk_at dksX1_hand_1 11 rfl rfl)
theorem dX1_hand_35 : decode cX1_hand 35 = .ok (.aload_n 0, 1) := dk_42 (dk_at dksX1_hand_1 12 rfl rfl)
theorem dX1_hand_36 : decode cX1_hand 36 = .ok (.getfield 137, 3) := dk_180 0 137 (dk_at dksX1_hand_1 13 rfl rfl)
theorem dX1_hand_39 : decode cX1_hand 39 = .ok (.iload_n 1, 1) := dk_27 (dk_at dksX1_hand_1 16 rfl rfl)
theorem dX1_hand_40 : decode cX1_hand 40 = .ok (.aload_n 0, 1) := dk_42 (dk_at dksX1_hand_1 17 rfl rfl)
theorem dX1_hand_41 : decode cX1_hand 41 = .ok (.getfield 94, 3) := dk_180 0 94 (dk_at dksX1_hand_1 18 rfl rfl)
theorem dX1_hand_44 : decode cX1_hand 44 = .ok (.invokevirtual 208, 3) := dk_182 0 208 (dk_at dksX1_hand_1 21 rfl rfl)
theorem dX1_hand_47 : decode cX1_hand 47 = .ok (.aload_n 0, 1) := dk_42 (dk_at dksX1_hand_2 0 rfl rfl)
theorem dX1_hand_48 : decode cX1_hand 48 = .ok (.getfield 94, 3) := dk_180 0 94 (dk_at dksX1_hand_2 1 rfl rfl)
theorem dX1_hand_51 : decode cX1_hand 51 = .ok (.iload_n 2, 1) := dk_28 (dk_at dksX1_hand_2 4 rfl rfl)
theorem dX1_hand_52 : decode cX1_hand 52 = .ok (.iaload, 1) := dk_46 (dk_at dksX1_hand_2 5 rfl rfl)
theorem dX1_hand_53 : decode cX1_hand 53 = .ok (.ireturn, 1) := dk_172 (dk_at dksX1_hand_2 6 rfl rfl)
abbrev cX1_isHand : ByteArray := prog_1_method_19_code
def yX1_isHand : MethodName := ⟨RX1, "isHand", "(I)Z"⟩
def dkwX1_isHand_1 : List UInt8 := [167, 0, 4, 3, 172]
abbrev dktX1_isHand_1 : List UInt8 := dkwX1_isHand_1 ++ []
def dkwX1_isHand_0 : List UInt8 := [42, 180, 0, 137, 198, 0, 21, 27, 3, 42, 180, 0, 155, 4, 100, 184, 0, 123, 153, 0, 7, 4]
abbrev dktX1_isHand_0 : List UInt8 := dkwX1_isHand_0 ++ dktX1_isHand_1
theorem dksX1_isHand_0 : cX1_isHand.data.toList.drop 0 = dktX1_isHand_0 := by decide +kernel
theorem dksX1_isHand_1 : cX1_isHand.data.toList.drop 22 = dktX1_isHand_1 := dk_seg dksX1_isHand_0 22 rfl rfl
theorem dX1_isHand_0 : decode cX1_isHand 0 = .ok (.aload_n 0, 1) := dk_42 (dk_at dksX1_isHand_0 0 rfl rfl)
theorem dX1_isHand_1 : decode cX1_isHand 1 = .ok (.getfield 137, 3) := dk_180 0 137 (dk_at dksX1_isHand_0 1 rfl rfl)
theorem dX1_isHand_4 : decode cX1_isHand 4 = .ok (.ifnull 21, 3) := dk_198 0 21 (dk_at dksX1_isHand_0 4 rfl rfl)
theorem dX1_isHand_7 : decode cX1_isHand 7 = .ok (.iload_n 1, 1) := dk_27 (dk_at dksX1_isHand_0 7 rfl rfl)
theorem dX1_isHand_8 : decode cX1_isHand 8 = .ok (.iconst 0, 1) := dk_3 (dk_at dksX1_isHand_0 8 rfl rfl)
theorem dX1_isHand_9 : decode cX1_isHand 9 = .ok (.aload_n 0, 1) := dk_42 (dk_at dksX1_isHand_0 9 rfl rfl)
theorem dX1_isHand_10 : decode cX1_isHand 10 = .ok (.getfield 155, 3) := dk_180 0 155 (dk_at dksX1_isHand_0 10 rfl rfl)
theorem dX1_isHand_13 : decode cX1_isHand 13 = .ok (.iconst 1, 1) := dk_4 (dk_at dksX1_isHand_0 13 rfl rfl)
theorem dX1_isHand_14 : decode cX1_isHand 14 = .ok (.isub, 1) := dk_100 (dk_at dksX1_isHand_0 14 rfl rfl)
theorem dX1_isHand_15 : decode cX1_isHand 15 = .ok (.invokestatic 123, 3) := dk_184 0 123 (dk_at dksX1_isHand_0 15 rfl rfl)
theorem dX1_isHand_18 : decode cX1_isHand 18 = .ok (.ifCond .eq 7, 3) := dk_153 0 7 (dk_at dksX1_isHand_0 18 rfl rfl)
theorem dX1_isHand_21 : decode cX1_isHand 21 = .ok (.iconst 1, 1) := dk_4 (dk_at dksX1_isHand_0 21 rfl rfl)
theorem dX1_isHand_22 : decode cX1_isHand 22 = .ok (.goto 4, 3) := dk_167 0 4 (dk_at dksX1_isHand_1 0 rfl rfl)
theorem dX1_isHand_25 : decode cX1_isHand 25 = .ok (.iconst 0, 1) := dk_3 (dk_at dksX1_isHand_1 3 rfl rfl)
theorem dX1_isHand_26 : decode cX1_isHand 26 = .ok (.ireturn, 1) := dk_172 (dk_at dksX1_isHand_1 4 rfl rfl)
abbrev cX1_handOf : ByteArray := prog_1_method_28_code
def yX1_handOf : MethodName := ⟨RX1, "handOf", "(IIIII)I"⟩
def dkwX1_handOf_4 : List UInt8 := [182, 0, 127, 172]
abbrev dktX1_handOf_4 : List UInt8 := dkwX1_handOf_4 ++ []
def dkwX1_handOf_3 : List UInt8 := [54, 6, 21, 6, 153, 0, 17, 42, 180, 0, 137, 42, 180, 0, 94, 182, 0, 215, 167, 0, 8, 42, 5]
abbrev dktX1_handOf_3 : List UInt8 := dkwX1_handOf_3 ++ dktX1_handOf_4
def dkwX1_handOf_2 : List UInt8 := [21, 4, 182, 0, 212, 153, 0, 17, 42, 7, 21, 5, 182, 0, 212, 153, 0, 7, 4, 167, 0, 4, 3]
abbrev dktX1_handOf_2 : List UInt8 := dkwX1_handOf_2 ++ dktX1_handOf_3
def dkwX1_handOf_1 : List UInt8 := [153, 0, 45, 42, 4, 28, 182, 0, 212, 153, 0, 36, 42, 5, 29, 182, 0, 212, 153, 0, 27, 42, 6]
abbrev dktX1_handOf_1 : List UInt8 := dkwX1_handOf_1 ++ dktX1_handOf_2
def dkwX1_handOf_0 : List UInt8 := [42, 182, 0, 113, 42, 180, 0, 137, 199, 0, 9, 42, 4, 182, 0, 127, 172, 42, 3, 27, 182, 0, 212]
abbrev dktX1_handOf_0 : List UInt8 := dkwX1_handOf_0 ++ dktX1_handOf_1
theorem dksX1_handOf_0 : cX1_handOf.data.toList.drop 0 = dktX1_handOf_0 := by decide +kernel
theorem dksX1_handOf_1 : cX1_handOf.data.toList.drop 23 = dktX1_handOf_1 := dk_seg dksX1_handOf_0 23 rfl rfl
theorem dksX1_handOf_2 : cX1_handOf.data.toList.drop 46 = dktX1_handOf_2 := dk_seg dksX1_handOf_1 23 rfl rfl
theorem dksX1_handOf_3 : cX1_handOf.data.toList.drop 69 = dktX1_handOf_3 := dk_seg dksX1_handOf_2 23 rfl rfl
theorem dksX1_handOf_4 : cX1_handOf.data.toList.drop 92 = dktX1_handOf_4 := dk_seg dksX1_handOf_3 23 rfl rfl
theorem dX1_handOf_0 : decode cX1_handOf 0 = .ok (.aload_n 0, 1) := dk_42 (dk_at dksX1_handOf_0 0 rfl rfl)
theorem dX1_handOf_1 : decode cX1_handOf 1 = .ok (.invokevirtual 113, 3) := dk_182 0 113 (dk_at dksX1_handOf_0 1 rfl rfl)
theorem dX1_handOf_4 : decode cX1_handOf 4 = .ok (.aload_n 0, 1) := dk_42 (dk_at dksX1_handOf_0 4 rfl rfl)
theorem dX1_handOf_5 : decode cX1_handOf 5 = .ok (.getfield 137, 3) := dk_180 0 137 (dk_at dksX1_handOf_0 5 rfl rfl)
theorem dX1_handOf_8 : decode cX1_handOf 8 = .ok (.ifnonnull 9, 3) := dk_199 0 9 (dk_at dksX1_handOf_0 8 rfl rfl)
theorem dX1_handOf_11 : decode cX1_handOf 11 = .ok (.aload_n 0, 1) := dk_42 (dk_at dksX1_handOf_0 11 rfl rfl)
theorem dX1_handOf_12 : decode cX1_handOf 12 = .ok (.iconst 1, 1) := dk_4 (dk_at dksX1_handOf_0 12 rfl rfl)
theorem dX1_handOf_13 : decode cX1_handOf 13 = .ok (.invokevirtual 127, 3) := dk_182 0 127 (dk_at dksX1_handOf_0 13 rfl rfl)
theorem dX1_handOf_16 : decode cX1_handOf 16 = .ok (.ireturn, 1) := dk_172 (dk_at dksX1_handOf_0 16 rfl rfl)
theorem dX1_handOf_17 : decode cX1_handOf 17 = .ok (.aload_n 0, 1) := dk_42 (dk_at dksX1_handOf_0 17 rfl rfl)
theorem dX1_handOf_18 : decode cX1_handOf 18 = .ok (.iconst 0, 1) := dk_3 (dk_at dksX1_handOf_0 18 rfl rfl)
theorem dX1_handOf_19 : decode cX1_handOf 19 = .ok (.iload_n 1, 1) := dk_27 (dk_at dksX1_handOf_0 19 rfl rfl)
theorem dX1_handOf_20 : decode cX1_handOf 20 = .ok (.invokevirtual 212, 3) := dk_182 0 212 (dk_at dksX1_handOf_0 20 rfl rfl)
theorem dX1_handOf_23 : decode cX1_handOf 23 = .ok (.ifCond .eq 45, 3) := dk_153 0 45 (dk_at dksX1_handOf_1 0 rfl rfl)
theorem dX1_handOf_26 : decode cX1_handOf 26 = .ok (.aload_n 0, 1) := dk_42 (dk_at dksX1_handOf_1 3 rfl rfl)
theorem dX1_handOf_27 : decode cX1_handOf 27 = .ok (.iconst 1, 1) := dk_4 (dk_at dksX1_handOf_1 4 rfl rfl)
theorem dX1_handOf_28 : decode cX1_handOf 28 = .ok (.iload_n 2, 1) := dk_28 (dk_at dksX1_handOf_1 5 rfl rfl)
theorem dX1_handOf_29 : decode cX1_handOf 29 = .ok (.invokevirtual 212, 3) := dk_182 0 212 (dk_at dksX1_handOf_1 6 rfl rfl)
theorem dX1_handOf_32 : decode cX1_handOf 32 = .ok (.ifCond .eq 36, 3) := dk_153 0 36 (dk_at dksX1_handOf_1 9 rfl rfl)
theorem dX1_handOf_35 : decode cX1_handOf 35 = .ok (.aload_n 0, 1) := dk_42 (dk_at dksX1_handOf_1 12 rfl rfl)
theorem dX1_handOf_36 : decode cX1_handOf 36 = .ok (.iconst 2, 1) := dk_5 (dk_at dksX1_handOf_1 13 rfl rfl)
theorem dX1_handOf_37 : decode cX1_handOf 37 = .ok (.iload_n 3, 1) := dk_29 (dk_at dksX1_handOf_1 14 rfl rfl)
theorem dX1_handOf_38 : decode cX1_handOf 38 = .ok (.invokevirtual 212, 3) := dk_182 0 212 (dk_at dksX1_handOf_1 15 rfl rfl)
theorem dX1_handOf_41 : decode cX1_handOf 41 = .ok (.ifCond .eq 27, 3) := dk_153 0 27 (dk_at dksX1_handOf_1 18 rfl rfl)
theorem dX1_handOf_44 : decode cX1_handOf 44 = .ok (.aload_n 0, 1) := dk_42 (dk_at dksX1_handOf_1 21 rfl rfl)
theorem dX1_handOf_45 : decode cX1_handOf 45 = .ok (.iconst 3, 1) := dk_6 (dk_at dksX1_handOf_1 22 rfl rfl)
theorem dX1_handOf_46 : decode cX1_handOf 46 = .ok (.iload 4, 2) := dk_21 4 (dk_at dksX1_handOf_2 0 rfl rfl)
theorem dX1_handOf_48 : decode cX1_handOf 48 = .ok (.invokevirtual 212, 3) := dk_182 0 212 (dk_at dksX1_handOf_2 2 rfl rfl)
theorem dX1_handOf_51 : decode cX1_handOf 51 = .ok (.ifCond .eq 17, 3) := dk_153 0 17 (dk_at dksX1_handOf_2 5 rfl rfl)
theorem dX1_handOf_54 : decode cX1_handOf 54 = .ok (.aload_n 0, 1) := dk_42 (dk_at dksX1_handOf_2 8 rfl rfl)
theorem dX1_handOf_55 : decode cX1_handOf 55 = .ok (.iconst 4, 1) := dk_7 (dk_at dksX1_handOf_2 9 rfl rfl)
theorem dX1_handOf_56 : decode cX1_handOf 56 = .ok (.iload 5, 2) := dk_21 5 (dk_at dksX1_handOf_2 10 rfl rfl)
theorem dX1_handOf_58 : decode cX1_handOf 58 = .ok (.invokevirtual 212, 3) := dk_182 0 212 (dk_at dksX1_handOf_2 12 rfl rfl)
theorem dX1_handOf_61 : decode cX1_handOf 61 = .ok (.ifCond .eq 7, 3) := dk_153 0 7 (dk_at dksX1_handOf_2 15 rfl rfl)
theorem dX1_handOf_64 : decode cX1_handOf 64 = .ok (.iconst 1, 1) := dk_4 (dk_at dksX1_handOf_2 18 rfl rfl)
theorem dX1_handOf_65 : decode cX1_handOf 65 = .ok (.goto 4, 3) := dk_167 0 4 (dk_at dksX1_handOf_2 19 rfl rfl)
theorem dX1_handOf_68 : decode cX1_handOf 68 = .ok (.iconst 0, 1) := dk_3 (dk_at dksX1_handOf_2 22 rfl rfl)
theorem dX1_handOf_69 : decode cX1_handOf 69 = .ok (.istore 6, 2) := dk_54 6 (dk_at dksX1_handOf_3 0 rfl rfl)
theorem dX1_handOf_71 : decode cX1_handOf 71 = .ok (.iload 6, 2) := dk_21 6 (dk_at dksX1_handOf_3 2 rfl rfl)
theorem dX1_handOf_73 : decode cX1_handOf 73 = .ok (.ifCond .eq 17, 3) := dk_153 0 17 (dk_at dksX1_handOf_3 4 rfl rfl)
theorem dX1_handOf_76 : decode cX1_handOf 76 = .ok (.aload_n 0, 1) := dk_42 (dk_at dksX1_handOf_3 7 rfl rfl)
theorem dX1_handOf_77 : decode cX1_handOf 77 = .ok (.getfield 137, 3) := dk_180 0 137 (dk_at dksX1_handOf_3 8 rfl rfl)
theorem dX1_handOf_80 : decode cX1_handOf 80 = .ok (.aload_n 0, 1) := dk_42 (dk_at dksX1_handOf_3 11 rfl rfl)
theorem dX1_handOf_81 : decode cX1_handOf 81 = .ok (.getfield 94, 3) := dk_180 0 94 (dk_at dksX1_handOf_3 12 rfl rfl)
theorem dX1_handOf_84 : decode cX1_handOf 84 = .ok (.invokevirtual 215, 3) := dk_182 0 215 (dk_at dksX1_handOf_3 15 rfl rfl)
theorem dX1_handOf_87 : decode cX1_handOf 87 = .ok (.goto 8, 3) := dk_167 0 8 (dk_at dksX1_handOf_3 18 rfl rfl)
theorem dX1_handOf_90 : decode cX1_handOf 90 = .ok (.aload_n 0, 1) := dk_42 (dk_at dksX1_handOf_3 21 rfl rfl)
theorem dX1_handOf_91 : decode cX1_handOf 91 = .ok (.iconst 2, 1) := dk_5 (dk_at dksX1_handOf_3 22 rfl rfl)
theorem dX1_handOf_92 : decode cX1_handOf 92 = .ok (.invokevirtual 127, 3) := dk_182 0 127 (dk_at dksX1_handOf_4 0 rfl rfl)
theorem dX1_handOf_95 : decode cX1_handOf 95 = .ok (.ireturn, 1) := dk_172 (dk_at dksX1_handOf_4 3 rfl rfl)
abbrev cX1_puts : ByteArray := prog_1_method_27_code
def yX1_puts : MethodName := ⟨RX1, "puts", "(II)Z"⟩
def dkwX1_puts_3 : List UInt8 := [167, 0, 4, 3, 62, 132, 4, 1, 167, 255, 226, 29, 172]
abbrev dktX1_puts_3 : List UInt8 := dkwX1_puts_3 ++ []
def dkwX1_puts_2 : List UInt8 := [21, 4, 27, 162, 0, 30, 29, 153, 0, 26, 42, 180, 0, 94, 21, 4, 46, 28, 159, 0, 7, 4]
abbrev dktX1_puts_2 : List UInt8 := dkwX1_puts_2 ++ dktX1_puts_3
def dkwX1_puts_1 : List UInt8 := [180, 0, 94, 27, 28, 79, 28, 3, 42, 180, 0, 137, 180, 0, 147, 4, 100, 184, 0, 123, 62, 3, 54, 4]
abbrev dktX1_puts_1 : List UInt8 := dkwX1_puts_1 ++ dktX1_puts_2
def dkwX1_puts_0 : List UInt8 := [27, 42, 180, 0, 137, 180, 0, 205, 161, 0, 14, 28, 2, 160, 0, 7, 4, 167, 0, 4, 3, 172, 42]
abbrev dktX1_puts_0 : List UInt8 := dkwX1_puts_0 ++ dktX1_puts_1
theorem dksX1_puts_0 : cX1_puts.data.toList.drop 0 = dktX1_puts_0 := by decide +kernel
theorem dksX1_puts_1 : cX1_puts.data.toList.drop 23 = dktX1_puts_1 := dk_seg dksX1_puts_0 23 rfl rfl
theorem dksX1_puts_2 : cX1_puts.data.toList.drop 47 = dktX1_puts_2 := dk_seg dksX1_puts_1 24 rfl rfl
theorem dksX1_puts_3 : cX1_puts.data.toList.drop 69 = dktX1_puts_3 := dk_seg dksX1_puts_2 22 rfl rfl
theorem dX1_puts_0 : decode cX1_puts 0 = .ok (.iload_n 1, 1) := dk_27 (dk_at dksX1_puts_0 0 rfl rfl)
theorem dX1_puts_1 : decode cX1_puts 1 = .ok (.aload_n 0, 1) := dk_42 (dk_at dksX1_puts_0 1 rfl rfl)
theorem dX1_puts_2 : decode cX1_puts 2 = .ok (.getfield 137, 3) := dk_180 0 137 (dk_at dksX1_puts_0 2 rfl rfl)
theorem dX1_puts_5 : decode cX1_puts 5 = .ok (.getfield 205, 3) := dk_180 0 205 (dk_at dksX1_puts_0 5 rfl rfl)
theorem dX1_puts_8 : decode cX1_puts 8 = .ok (.if_icmp .lt 14, 3) := dk_161 0 14 (dk_at dksX1_puts_0 8 rfl rfl)
theorem dX1_puts_11 : decode cX1_puts 11 = .ok (.iload_n 2, 1) := dk_28 (dk_at dksX1_puts_0 11 rfl rfl)
theorem dX1_puts_12 : decode cX1_puts 12 = .ok (.iconst (-1), 1) := dk_2 (dk_at dksX1_puts_0 12 rfl rfl)
theorem dX1_puts_13 : decode cX1_puts 13 = .ok (.if_icmp .ne 7, 3) := dk_160 0 7 (dk_at dksX1_puts_0 13 rfl rfl)
theorem dX1_puts_16 : decode cX1_puts 16 = .ok (.iconst 1, 1) := dk_4 (dk_at dksX1_puts_0 16 rfl rfl)
theorem dX1_puts_17 : decode cX1_puts 17 = .ok (.goto 4, 3) := dk_167 0 4 (dk_at dksX1_puts_0 17 rfl rfl)
theorem dX1_puts_20 : decode cX1_puts 20 = .ok (.iconst 0, 1) := dk_3 (dk_at dksX1_puts_0 20 rfl rfl)
theorem dX1_puts_21 : decode cX1_puts 21 = .ok (.ireturn, 1) := dk_172 (dk_at dksX1_puts_0 21 rfl rfl)
theorem dX1_puts_22 : decode cX1_puts 22 = .ok (.aload_n 0, 1) := dk_42 (dk_at dksX1_puts_0 22 rfl rfl)
theorem dX1_puts_23 : decode cX1_puts 23 = .ok (.getfield 94, 3) := dk_180 0 94 (dk_at dksX1_puts_1 0 rfl rfl)
theorem dX1_puts_26 : decode cX1_puts 26 = .ok (.iload_n 1, 1) := dk_27 (dk_at dksX1_puts_1 3 rfl rfl)
theorem dX1_puts_27 : decode cX1_puts 27 = .ok (.iload_n 2, 1) := dk_28 (dk_at dksX1_puts_1 4 rfl rfl)
theorem dX1_puts_28 : decode cX1_puts 28 = .ok (.iastore, 1) := dk_79 (dk_at dksX1_puts_1 5 rfl rfl)
theorem dX1_puts_29 : decode cX1_puts 29 = .ok (.iload_n 2, 1) := dk_28 (dk_at dksX1_puts_1 6 rfl rfl)
theorem dX1_puts_30 : decode cX1_puts 30 = .ok (.iconst 0, 1) := dk_3 (dk_at dksX1_puts_1 7 rfl rfl)
theorem dX1_puts_31 : decode cX1_puts 31 = .ok (.aload_n 0, 1) := dk_42 (dk_at dksX1_puts_1 8 rfl rfl)
theorem dX1_puts_32 : decode cX1_puts 32 = .ok (.getfield 137, 3) := dk_180 0 137 (dk_at dksX1_puts_1 9 rfl rfl)
theorem dX1_puts_35 : decode cX1_puts 35 = .ok (.getfield 147, 3) := dk_180 0 147 (dk_at dksX1_puts_1 12 rfl rfl)
theorem dX1_puts_38 : decode cX1_puts 38 = .ok (.iconst 1, 1) := dk_4 (dk_at dksX1_puts_1 15 rfl rfl)
theorem dX1_puts_39 : decode cX1_puts 39 = .ok (.isub, 1) := dk_100 (dk_at dksX1_puts_1 16 rfl rfl)
theorem dX1_puts_40 : decode cX1_puts 40 = .ok (.invokestatic 123, 3) := dk_184 0 123 (dk_at dksX1_puts_1 17 rfl rfl)
theorem dX1_puts_43 : decode cX1_puts 43 = .ok (.istore_n 3, 1) := dk_62 (dk_at dksX1_puts_1 20 rfl rfl)
theorem dX1_puts_44 : decode cX1_puts 44 = .ok (.iconst 0, 1) := dk_3 (dk_at dksX1_puts_1 21 rfl rfl)
theorem dX1_puts_45 : decode cX1_puts 45 = .ok (.istore 4, 2) := dk_54 4 (dk_at dksX1_puts_1 22 rfl rfl)
theorem dX1_puts_47 : decode cX1_puts 47 = .ok (.iload 4, 2) := dk_21 4 (dk_at dksX1_puts_2 0 rfl rfl)
theorem dX1_puts_49 : decode cX1_puts 49 = .ok (.iload_n 1, 1) := dk_27 (dk_at dksX1_puts_2 2 rfl rfl)
theorem dX1_puts_50 : decode cX1_puts 50 = .ok (.if_icmp .ge 30, 3) := dk_162 0 30 (dk_at dksX1_puts_2 3 rfl rfl)
theorem dX1_puts_53 : decode cX1_puts 53 = .ok (.iload_n 3, 1) := dk_29 (dk_at dksX1_puts_2 6 rfl rfl)
theorem dX1_puts_54 : decode cX1_puts 54 = .ok (.ifCond .eq 26, 3) := dk_153 0 26 (dk_at dksX1_puts_2 7 rfl rfl)
theorem dX1_puts_57 : decode cX1_puts 57 = .ok (.aload_n 0, 1) := dk_42 (dk_at dksX1_puts_2 10 rfl rfl)
theorem dX1_puts_58 : decode cX1_puts 58 = .ok (.getfield 94, 3) := dk_180 0 94 (dk_at dksX1_puts_2 11 rfl rfl)
theorem dX1_puts_61 : decode cX1_puts 61 = .ok (.iload 4, 2) := dk_21 4 (dk_at dksX1_puts_2 14 rfl rfl)
theorem dX1_puts_63 : decode cX1_puts 63 = .ok (.iaload, 1) := dk_46 (dk_at dksX1_puts_2 16 rfl rfl)
theorem dX1_puts_64 : decode cX1_puts 64 = .ok (.iload_n 2, 1) := dk_28 (dk_at dksX1_puts_2 17 rfl rfl)
theorem dX1_puts_65 : decode cX1_puts 65 = .ok (.if_icmp .eq 7, 3) := dk_159 0 7 (dk_at dksX1_puts_2 18 rfl rfl)
theorem dX1_puts_68 : decode cX1_puts 68 = .ok (.iconst 1, 1) := dk_4 (dk_at dksX1_puts_2 21 rfl rfl)
theorem dX1_puts_69 : decode cX1_puts 69 = .ok (.goto 4, 3) := dk_167 0 4 (dk_at dksX1_puts_3 0 rfl rfl)
theorem dX1_puts_72 : decode cX1_puts 72 = .ok (.iconst 0, 1) := dk_3 (dk_at dksX1_puts_3 3 rfl rfl)
theorem dX1_puts_73 : decode cX1_puts 73 = .ok (.istore_n 3, 1) := dk_62 (dk_at dksX1_puts_3 4 rfl rfl)
theorem dX1_puts_74 : decode cX1_puts 74 = .ok (.iinc 4 1, 3) := dk_132 4 1 (dk_at dksX1_puts_3 5 rfl rfl)
theorem dX1_puts_77 : decode cX1_puts 77 = .ok (.goto (-30), 3) := dk_167 255 226 (dk_at dksX1_puts_3 8 rfl rfl)
theorem dX1_puts_80 : decode cX1_puts 80 = .ok (.iload_n 3, 1) := dk_29 (dk_at dksX1_puts_3 11 rfl rfl)
theorem dX1_puts_81 : decode cX1_puts 81 = .ok (.ireturn, 1) := dk_172 (dk_at dksX1_puts_3 12 rfl rfl)
abbrev cX1_row : ByteArray := prog_1_method_29_code
def yX1_row : MethodName := ⟨RX1, "row", "(II)I"⟩
def dkwX1_row_2 : List UInt8 := [108, 42, 180, 0, 137, 182, 0, 195, 42, 180, 0, 98, 182, 0, 222, 42, 180, 0, 98, 28, 46, 172]
abbrev dktX1_row_2 : List UInt8 := dkwX1_row_2 ++ []
def dkwX1_row_1 : List UInt8 := [184, 0, 123, 154, 0, 9, 42, 4, 182, 0, 127, 172, 42, 180, 0, 137, 27, 42, 180, 0, 137, 182, 0, 198]
abbrev dktX1_row_1 : List UInt8 := dkwX1_row_1 ++ dktX1_row_2
def dkwX1_row_0 : List UInt8 := [42, 182, 0, 113, 42, 27, 182, 0, 219, 153, 0, 20, 28, 3, 42, 180, 0, 137, 182, 0, 195, 4, 100]
abbrev dktX1_row_0 : List UInt8 := dkwX1_row_0 ++ dktX1_row_1
theorem dksX1_row_0 : cX1_row.data.toList.drop 0 = dktX1_row_0 := by decide +kernel
theorem dksX1_row_1 : cX1_row.data.toList.drop 23 = dktX1_row_1 := dk_seg dksX1_row_0 23 rfl rfl
theorem dksX1_row_2 : cX1_row.data.toList.drop 47 = dktX1_row_2 := dk_seg dksX1_row_1 24 rfl rfl
theorem dX1_row_0 : decode cX1_row 0 = .ok (.aload_n 0, 1) := dk_42 (dk_at dksX1_row_0 0 rfl rfl)
theorem dX1_row_1 : decode cX1_row 1 = .ok (.invokevirtual 113, 3) := dk_182 0 113 (dk_at dksX1_row_0 1 rfl rfl)
theorem dX1_row_4 : decode cX1_row 4 = .ok (.aload_n 0, 1) := dk_42 (dk_at dksX1_row_0 4 rfl rfl)
theorem dX1_row_5 : decode cX1_row 5 = .ok (.iload_n 1, 1) := dk_27 (dk_at dksX1_row_0 5 rfl rfl)
theorem dX1_row_6 : decode cX1_row 6 = .ok (.invokevirtual 219, 3) := dk_182 0 219 (dk_at dksX1_row_0 6 rfl rfl)
theorem dX1_row_9 : decode cX1_row 9 = .ok (.ifCond .eq 20, 3) := dk_153 0 20 (dk_at dksX1_row_0 9 rfl rfl)
theorem dX1_row_12 : decode cX1_row 12 = .ok (.iload_n 2, 1) := dk_28 (dk_at dksX1_row_0 12 rfl rfl)
theorem dX1_row_13 : decode cX1_row 13 = .ok (.iconst 0, 1) := dk_3 (dk_at dksX1_row_0 13 rfl rfl)
theorem dX1_row_14 : decode cX1_row 14 = .ok (.aload_n 0, 1) := dk_42 (dk_at dksX1_row_0 14 rfl rfl)
theorem dX1_row_15 : decode cX1_row 15 = .ok (.getfield 137, 3) := dk_180 0 137 (dk_at dksX1_row_0 15 rfl rfl)
theorem dX1_row_18 : decode cX1_row 18 = .ok (.invokevirtual 195, 3) := dk_182 0 195 (dk_at dksX1_row_0 18 rfl rfl)
theorem dX1_row_21 : decode cX1_row 21 = .ok (.iconst 1, 1) := dk_4 (dk_at dksX1_row_0 21 rfl rfl)
theorem dX1_row_22 : decode cX1_row 22 = .ok (.isub, 1) := dk_100 (dk_at dksX1_row_0 22 rfl rfl)
theorem dX1_row_23 : decode cX1_row 23 = .ok (.invokestatic 123, 3) := dk_184 0 123 (dk_at dksX1_row_1 0 rfl rfl)
theorem dX1_row_26 : decode cX1_row 26 = .ok (.ifCond .ne 9, 3) := dk_154 0 9 (dk_at dksX1_row_1 3 rfl rfl)
theorem dX1_row_29 : decode cX1_row 29 = .ok (.aload_n 0, 1) := dk_42 (dk_at dksX1_row_1 6 rfl rfl)
theorem dX1_row_30 : decode cX1_row 30 = .ok (.iconst 1, 1) := dk_4 (dk_at dksX1_row_1 7 rfl rfl)
theorem dX1_row_31 : decode cX1_row 31 = .ok (.invokevirtual 127, 3) := dk_182 0 127 (dk_at dksX1_row_1 8 rfl rfl)
theorem dX1_row_34 : decode cX1_row 34 = .ok (.ireturn, 1) := dk_172 (dk_at dksX1_row_1 11 rfl rfl)
theorem dX1_row_35 : decode cX1_row 35 = .ok (.aload_n 0, 1) := dk_42 (dk_at dksX1_row_1 12 rfl rfl)
theorem dX1_row_36 : decode cX1_row 36 = .ok (.getfield 137, 3) := dk_180 0 137 (dk_at dksX1_row_1 13 rfl rfl)
theorem dX1_row_39 : decode cX1_row 39 = .ok (.iload_n 1, 1) := dk_27 (dk_at dksX1_row_1 16 rfl rfl)
theorem dX1_row_40 : decode cX1_row 40 = .ok (.aload_n 0, 1) := dk_42 (dk_at dksX1_row_1 17 rfl rfl)
theorem dX1_row_41 : decode cX1_row 41 = .ok (.getfield 137, 3) := dk_180 0 137 (dk_at dksX1_row_1 18 rfl rfl)
theorem dX1_row_44 : decode cX1_row 44 = .ok (.invokevirtual 198, 3) := dk_182 0 198 (dk_at dksX1_row_1 21 rfl rfl)
theorem dX1_row_47 : decode cX1_row 47 = .ok (.idiv, 1) := dk_108 (dk_at dksX1_row_2 0 rfl rfl)
theorem dX1_row_48 : decode cX1_row 48 = .ok (.aload_n 0, 1) := dk_42 (dk_at dksX1_row_2 1 rfl rfl)
theorem dX1_row_49 : decode cX1_row 49 = .ok (.getfield 137, 3) := dk_180 0 137 (dk_at dksX1_row_2 2 rfl rfl)
theorem dX1_row_52 : decode cX1_row 52 = .ok (.invokevirtual 195, 3) := dk_182 0 195 (dk_at dksX1_row_2 5 rfl rfl)
theorem dX1_row_55 : decode cX1_row 55 = .ok (.aload_n 0, 1) := dk_42 (dk_at dksX1_row_2 8 rfl rfl)
theorem dX1_row_56 : decode cX1_row 56 = .ok (.getfield 98, 3) := dk_180 0 98 (dk_at dksX1_row_2 9 rfl rfl)
theorem dX1_row_59 : decode cX1_row 59 = .ok (.invokevirtual 222, 3) := dk_182 0 222 (dk_at dksX1_row_2 12 rfl rfl)
theorem dX1_row_62 : decode cX1_row 62 = .ok (.aload_n 0, 1) := dk_42 (dk_at dksX1_row_2 15 rfl rfl)
theorem dX1_row_63 : decode cX1_row 63 = .ok (.getfield 98, 3) := dk_180 0 98 (dk_at dksX1_row_2 16 rfl rfl)
theorem dX1_row_66 : decode cX1_row 66 = .ok (.iload_n 2, 1) := dk_28 (dk_at dksX1_row_2 19 rfl rfl)
theorem dX1_row_67 : decode cX1_row 67 = .ok (.iaload, 1) := dk_46 (dk_at dksX1_row_2 20 rfl rfl)
theorem dX1_row_68 : decode cX1_row 68 = .ok (.ireturn, 1) := dk_172 (dk_at dksX1_row_2 21 rfl rfl)
abbrev cX1_isRow : ByteArray := prog_1_method_20_code
def yX1_isRow : MethodName := ⟨RX1, "isRow", "(I)Z"⟩
def dkwX1_isRow_1 : List UInt8 := [167, 0, 4, 3, 172]
abbrev dktX1_isRow_1 : List UInt8 := dkwX1_isRow_1 ++ []
def dkwX1_isRow_0 : List UInt8 := [42, 180, 0, 137, 198, 0, 21, 27, 3, 42, 182, 0, 191, 4, 100, 184, 0, 123, 153, 0, 7, 4]
abbrev dktX1_isRow_0 : List UInt8 := dkwX1_isRow_0 ++ dktX1_isRow_1
theorem dksX1_isRow_0 : cX1_isRow.data.toList.drop 0 = dktX1_isRow_0 := by decide +kernel
theorem dksX1_isRow_1 : cX1_isRow.data.toList.drop 22 = dktX1_isRow_1 := dk_seg dksX1_isRow_0 22 rfl rfl
theorem dX1_isRow_0 : decode cX1_isRow 0 = .ok (.aload_n 0, 1) := dk_42 (dk_at dksX1_isRow_0 0 rfl rfl)
theorem dX1_isRow_1 : decode cX1_isRow 1 = .ok (.getfield 137, 3) := dk_180 0 137 (dk_at dksX1_isRow_0 1 rfl rfl)
theorem dX1_isRow_4 : decode cX1_isRow 4 = .ok (.ifnull 21, 3) := dk_198 0 21 (dk_at dksX1_isRow_0 4 rfl rfl)
theorem dX1_isRow_7 : decode cX1_isRow 7 = .ok (.iload_n 1, 1) := dk_27 (dk_at dksX1_isRow_0 7 rfl rfl)
theorem dX1_isRow_8 : decode cX1_isRow 8 = .ok (.iconst 0, 1) := dk_3 (dk_at dksX1_isRow_0 8 rfl rfl)
theorem dX1_isRow_9 : decode cX1_isRow 9 = .ok (.aload_n 0, 1) := dk_42 (dk_at dksX1_isRow_0 9 rfl rfl)
theorem dX1_isRow_10 : decode cX1_isRow 10 = .ok (.invokevirtual 191, 3) := dk_182 0 191 (dk_at dksX1_isRow_0 10 rfl rfl)
theorem dX1_isRow_13 : decode cX1_isRow 13 = .ok (.iconst 1, 1) := dk_4 (dk_at dksX1_isRow_0 13 rfl rfl)
theorem dX1_isRow_14 : decode cX1_isRow 14 = .ok (.isub, 1) := dk_100 (dk_at dksX1_isRow_0 14 rfl rfl)
theorem dX1_isRow_15 : decode cX1_isRow 15 = .ok (.invokestatic 123, 3) := dk_184 0 123 (dk_at dksX1_isRow_0 15 rfl rfl)
theorem dX1_isRow_18 : decode cX1_isRow 18 = .ok (.ifCond .eq 7, 3) := dk_153 0 7 (dk_at dksX1_isRow_0 18 rfl rfl)
theorem dX1_isRow_21 : decode cX1_isRow 21 = .ok (.iconst 1, 1) := dk_4 (dk_at dksX1_isRow_0 21 rfl rfl)
theorem dX1_isRow_22 : decode cX1_isRow 22 = .ok (.goto 4, 3) := dk_167 0 4 (dk_at dksX1_isRow_1 0 rfl rfl)
theorem dX1_isRow_25 : decode cX1_isRow 25 = .ok (.iconst 0, 1) := dk_3 (dk_at dksX1_isRow_1 3 rfl rfl)
theorem dX1_isRow_26 : decode cX1_isRow 26 = .ok (.ireturn, 1) := dk_172 (dk_at dksX1_isRow_1 4 rfl rfl)
abbrev cX1_tilted : ByteArray := prog_1_method_30_code
def yX1_tilted : MethodName := ⟨RX1, "tilted", "(I)I"⟩
def dkwX1_tilted_1 : List UInt8 := [42, 4, 182, 0, 127, 172]
abbrev dktX1_tilted_1 : List UInt8 := dkwX1_tilted_1 ++ []
def dkwX1_tilted_0 : List UInt8 := [42, 182, 0, 113, 42, 27, 182, 0, 219, 153, 0, 15, 27, 42, 180, 0, 137, 182, 0, 198, 112, 167, 0, 8]
abbrev dktX1_tilted_0 : List UInt8 := dkwX1_tilted_0 ++ dktX1_tilted_1
theorem dksX1_tilted_0 : cX1_tilted.data.toList.drop 0 = dktX1_tilted_0 := by decide +kernel
theorem dksX1_tilted_1 : cX1_tilted.data.toList.drop 24 = dktX1_tilted_1 := dk_seg dksX1_tilted_0 24 rfl rfl
theorem dX1_tilted_0 : decode cX1_tilted 0 = .ok (.aload_n 0, 1) := dk_42 (dk_at dksX1_tilted_0 0 rfl rfl)
theorem dX1_tilted_1 : decode cX1_tilted 1 = .ok (.invokevirtual 113, 3) := dk_182 0 113 (dk_at dksX1_tilted_0 1 rfl rfl)
theorem dX1_tilted_4 : decode cX1_tilted 4 = .ok (.aload_n 0, 1) := dk_42 (dk_at dksX1_tilted_0 4 rfl rfl)
theorem dX1_tilted_5 : decode cX1_tilted 5 = .ok (.iload_n 1, 1) := dk_27 (dk_at dksX1_tilted_0 5 rfl rfl)
theorem dX1_tilted_6 : decode cX1_tilted 6 = .ok (.invokevirtual 219, 3) := dk_182 0 219 (dk_at dksX1_tilted_0 6 rfl rfl)
theorem dX1_tilted_9 : decode cX1_tilted 9 = .ok (.ifCond .eq 15, 3) := dk_153 0 15 (dk_at dksX1_tilted_0 9 rfl rfl)
theorem dX1_tilted_12 : decode cX1_tilted 12 = .ok (.iload_n 1, 1) := dk_27 (dk_at dksX1_tilted_0 12 rfl rfl)
theorem dX1_tilted_13 : decode cX1_tilted 13 = .ok (.aload_n 0, 1) := dk_42 (dk_at dksX1_tilted_0 13 rfl rfl)
theorem dX1_tilted_14 : decode cX1_tilted 14 = .ok (.getfield 137, 3) := dk_180 0 137 (dk_at dksX1_tilted_0 14 rfl rfl)
theorem dX1_tilted_17 : decode cX1_tilted 17 = .ok (.invokevirtual 198, 3) := dk_182 0 198 (dk_at dksX1_tilted_0 17 rfl rfl)
theorem dX1_tilted_20 : decode cX1_tilted 20 = .ok (.irem, 1) := dk_112 (dk_at dksX1_tilted_0 20 rfl rfl)
theorem dX1_tilted_21 : decode cX1_tilted 21 = .ok (.goto 8, 3) := dk_167 0 8 (dk_at dksX1_tilted_0 21 rfl rfl)
theorem dX1_tilted_24 : decode cX1_tilted 24 = .ok (.aload_n 0, 1) := dk_42 (dk_at dksX1_tilted_1 0 rfl rfl)
theorem dX1_tilted_25 : decode cX1_tilted 25 = .ok (.iconst 1, 1) := dk_4 (dk_at dksX1_tilted_1 1 rfl rfl)
theorem dX1_tilted_26 : decode cX1_tilted 26 = .ok (.invokevirtual 127, 3) := dk_182 0 127 (dk_at dksX1_tilted_1 2 rfl rfl)
theorem dX1_tilted_29 : decode cX1_tilted 29 = .ok (.ireturn, 1) := dk_172 (dk_at dksX1_tilted_1 5 rfl rfl)
abbrev cX1_fits : ByteArray := prog_1_method_31_code
def yX1_fits : MethodName := ⟨RX1, "fits", "(II)I"⟩
def dkwX1_fits_1 : List UInt8 := [27, 28, 182, 0, 226, 153, 0, 7, 4, 167, 0, 12, 3, 167, 0, 8, 42, 4, 182, 0, 127, 172]
abbrev dktX1_fits_1 : List UInt8 := dkwX1_fits_1 ++ []
def dkwX1_fits_0 : List UInt8 := [42, 182, 0, 113, 42, 27, 182, 0, 201, 153, 0, 31, 42, 28, 182, 0, 219, 153, 0, 23, 42, 180, 0, 73]
abbrev dktX1_fits_0 : List UInt8 := dkwX1_fits_0 ++ dktX1_fits_1
theorem dksX1_fits_0 : cX1_fits.data.toList.drop 0 = dktX1_fits_0 := by decide +kernel
theorem dksX1_fits_1 : cX1_fits.data.toList.drop 24 = dktX1_fits_1 := dk_seg dksX1_fits_0 24 rfl rfl
theorem dX1_fits_0 : decode cX1_fits 0 = .ok (.aload_n 0, 1) := dk_42 (dk_at dksX1_fits_0 0 rfl rfl)
theorem dX1_fits_1 : decode cX1_fits 1 = .ok (.invokevirtual 113, 3) := dk_182 0 113 (dk_at dksX1_fits_0 1 rfl rfl)
theorem dX1_fits_4 : decode cX1_fits 4 = .ok (.aload_n 0, 1) := dk_42 (dk_at dksX1_fits_0 4 rfl rfl)
theorem dX1_fits_5 : decode cX1_fits 5 = .ok (.iload_n 1, 1) := dk_27 (dk_at dksX1_fits_0 5 rfl rfl)
theorem dX1_fits_6 : decode cX1_fits 6 = .ok (.invokevirtual 201, 3) := dk_182 0 201 (dk_at dksX1_fits_0 6 rfl rfl)
theorem dX1_fits_9 : decode cX1_fits 9 = .ok (.ifCond .eq 31, 3) := dk_153 0 31 (dk_at dksX1_fits_0 9 rfl rfl)
theorem dX1_fits_12 : decode cX1_fits 12 = .ok (.aload_n 0, 1) := dk_42 (dk_at dksX1_fits_0 12 rfl rfl)
theorem dX1_fits_13 : decode cX1_fits 13 = .ok (.iload_n 2, 1) := dk_28 (dk_at dksX1_fits_0 13 rfl rfl)
theorem dX1_fits_14 : decode cX1_fits 14 = .ok (.invokevirtual 219, 3) := dk_182 0 219 (dk_at dksX1_fits_0 14 rfl rfl)
theorem dX1_fits_17 : decode cX1_fits 17 = .ok (.ifCond .eq 23, 3) := dk_153 0 23 (dk_at dksX1_fits_0 17 rfl rfl)
theorem dX1_fits_20 : decode cX1_fits 20 = .ok (.aload_n 0, 1) := dk_42 (dk_at dksX1_fits_0 20 rfl rfl)
theorem dX1_fits_21 : decode cX1_fits 21 = .ok (.getfield 73, 3) := dk_180 0 73 (dk_at dksX1_fits_0 21 rfl rfl)
theorem dX1_fits_24 : decode cX1_fits 24 = .ok (.iload_n 1, 1) := dk_27 (dk_at dksX1_fits_1 0 rfl rfl)
theorem dX1_fits_25 : decode cX1_fits 25 = .ok (.iload_n 2, 1) := dk_28 (dk_at dksX1_fits_1 1 rfl rfl)
theorem dX1_fits_26 : decode cX1_fits 26 = .ok (.invokevirtual 226, 3) := dk_182 0 226 (dk_at dksX1_fits_1 2 rfl rfl)
theorem dX1_fits_29 : decode cX1_fits 29 = .ok (.ifCond .eq 7, 3) := dk_153 0 7 (dk_at dksX1_fits_1 5 rfl rfl)
theorem dX1_fits_32 : decode cX1_fits 32 = .ok (.iconst 1, 1) := dk_4 (dk_at dksX1_fits_1 8 rfl rfl)
theorem dX1_fits_33 : decode cX1_fits 33 = .ok (.goto 12, 3) := dk_167 0 12 (dk_at dksX1_fits_1 9 rfl rfl)
theorem dX1_fits_36 : decode cX1_fits 36 = .ok (.iconst 0, 1) := dk_3 (dk_at dksX1_fits_1 12 rfl rfl)
theorem dX1_fits_37 : decode cX1_fits 37 = .ok (.goto 8, 3) := dk_167 0 8 (dk_at dksX1_fits_1 13 rfl rfl)
theorem dX1_fits_40 : decode cX1_fits 40 = .ok (.aload_n 0, 1) := dk_42 (dk_at dksX1_fits_1 16 rfl rfl)
theorem dX1_fits_41 : decode cX1_fits 41 = .ok (.iconst 1, 1) := dk_4 (dk_at dksX1_fits_1 17 rfl rfl)
theorem dX1_fits_42 : decode cX1_fits 42 = .ok (.invokevirtual 127, 3) := dk_182 0 127 (dk_at dksX1_fits_1 18 rfl rfl)
theorem dX1_fits_45 : decode cX1_fits 45 = .ok (.ireturn, 1) := dk_172 (dk_at dksX1_fits_1 21 rfl rfl)
abbrev cX1_fitting : ByteArray := prog_1_method_32_code
def yX1_fitting : MethodName := ⟨RX1, "fitting", "()I"⟩
def dkwX1_fitting_1 : List UInt8 := [182, 0, 229, 172]
abbrev dktX1_fitting_1 : List UInt8 := dkwX1_fitting_1 ++ []
def dkwX1_fitting_0 : List UInt8 := [42, 182, 0, 113, 42, 180, 0, 137, 199, 0, 11, 42, 4, 182, 0, 127, 167, 0, 10, 42, 180, 0, 73]
abbrev dktX1_fitting_0 : List UInt8 := dkwX1_fitting_0 ++ dktX1_fitting_1
theorem dksX1_fitting_0 : cX1_fitting.data.toList.drop 0 = dktX1_fitting_0 := by decide +kernel
theorem dksX1_fitting_1 : cX1_fitting.data.toList.drop 23 = dktX1_fitting_1 := dk_seg dksX1_fitting_0 23 rfl rfl
theorem dX1_fitting_0 : decode cX1_fitting 0 = .ok (.aload_n 0, 1) := dk_42 (dk_at dksX1_fitting_0 0 rfl rfl)
theorem dX1_fitting_1 : decode cX1_fitting 1 = .ok (.invokevirtual 113, 3) := dk_182 0 113 (dk_at dksX1_fitting_0 1 rfl rfl)
theorem dX1_fitting_4 : decode cX1_fitting 4 = .ok (.aload_n 0, 1) := dk_42 (dk_at dksX1_fitting_0 4 rfl rfl)
theorem dX1_fitting_5 : decode cX1_fitting 5 = .ok (.getfield 137, 3) := dk_180 0 137 (dk_at dksX1_fitting_0 5 rfl rfl)
theorem dX1_fitting_8 : decode cX1_fitting 8 = .ok (.ifnonnull 11, 3) := dk_199 0 11 (dk_at dksX1_fitting_0 8 rfl rfl)
theorem dX1_fitting_11 : decode cX1_fitting 11 = .ok (.aload_n 0, 1) := dk_42 (dk_at dksX1_fitting_0 11 rfl rfl)
theorem dX1_fitting_12 : decode cX1_fitting 12 = .ok (.iconst 1, 1) := dk_4 (dk_at dksX1_fitting_0 12 rfl rfl)
theorem dX1_fitting_13 : decode cX1_fitting 13 = .ok (.invokevirtual 127, 3) := dk_182 0 127 (dk_at dksX1_fitting_0 13 rfl rfl)
theorem dX1_fitting_16 : decode cX1_fitting 16 = .ok (.goto 10, 3) := dk_167 0 10 (dk_at dksX1_fitting_0 16 rfl rfl)
theorem dX1_fitting_19 : decode cX1_fitting 19 = .ok (.aload_n 0, 1) := dk_42 (dk_at dksX1_fitting_0 19 rfl rfl)
theorem dX1_fitting_20 : decode cX1_fitting 20 = .ok (.getfield 73, 3) := dk_180 0 73 (dk_at dksX1_fitting_0 20 rfl rfl)
theorem dX1_fitting_23 : decode cX1_fitting 23 = .ok (.invokevirtual 229, 3) := dk_182 0 229 (dk_at dksX1_fitting_1 0 rfl rfl)
theorem dX1_fitting_26 : decode cX1_fitting 26 = .ok (.ireturn, 1) := dk_172 (dk_at dksX1_fitting_1 3 rfl rfl)
abbrev cX1_lays : ByteArray := prog_1_method_35_code
def yX1_lays : MethodName := ⟨RX1, "lays", "(II)I"⟩
def dkwX1_lays_1 : List UInt8 := [182, 0, 255, 167, 0, 8, 42, 4, 182, 0, 127, 172]
abbrev dktX1_lays_1 : List UInt8 := dkwX1_lays_1 ++ []
def dkwX1_lays_0 : List UInt8 := [42, 182, 0, 113, 42, 27, 182, 0, 252, 153, 0, 20, 42, 28, 182, 0, 201, 153, 0, 12, 42, 27, 28]
abbrev dktX1_lays_0 : List UInt8 := dkwX1_lays_0 ++ dktX1_lays_1
theorem dksX1_lays_0 : cX1_lays.data.toList.drop 0 = dktX1_lays_0 := by decide +kernel
theorem dksX1_lays_1 : cX1_lays.data.toList.drop 23 = dktX1_lays_1 := dk_seg dksX1_lays_0 23 rfl rfl
theorem dX1_lays_0 : decode cX1_lays 0 = .ok (.aload_n 0, 1) := dk_42 (dk_at dksX1_lays_0 0 rfl rfl)
theorem dX1_lays_1 : decode cX1_lays 1 = .ok (.invokevirtual 113, 3) := dk_182 0 113 (dk_at dksX1_lays_0 1 rfl rfl)
theorem dX1_lays_4 : decode cX1_lays 4 = .ok (.aload_n 0, 1) := dk_42 (dk_at dksX1_lays_0 4 rfl rfl)
theorem dX1_lays_5 : decode cX1_lays 5 = .ok (.iload_n 1, 1) := dk_27 (dk_at dksX1_lays_0 5 rfl rfl)
theorem dX1_lays_6 : decode cX1_lays 6 = .ok (.invokevirtual 252, 3) := dk_182 0 252 (dk_at dksX1_lays_0 6 rfl rfl)
theorem dX1_lays_9 : decode cX1_lays 9 = .ok (.ifCond .eq 20, 3) := dk_153 0 20 (dk_at dksX1_lays_0 9 rfl rfl)
theorem dX1_lays_12 : decode cX1_lays 12 = .ok (.aload_n 0, 1) := dk_42 (dk_at dksX1_lays_0 12 rfl rfl)
theorem dX1_lays_13 : decode cX1_lays 13 = .ok (.iload_n 2, 1) := dk_28 (dk_at dksX1_lays_0 13 rfl rfl)
theorem dX1_lays_14 : decode cX1_lays 14 = .ok (.invokevirtual 201, 3) := dk_182 0 201 (dk_at dksX1_lays_0 14 rfl rfl)
theorem dX1_lays_17 : decode cX1_lays 17 = .ok (.ifCond .eq 12, 3) := dk_153 0 12 (dk_at dksX1_lays_0 17 rfl rfl)
theorem dX1_lays_20 : decode cX1_lays 20 = .ok (.aload_n 0, 1) := dk_42 (dk_at dksX1_lays_0 20 rfl rfl)
theorem dX1_lays_21 : decode cX1_lays 21 = .ok (.iload_n 1, 1) := dk_27 (dk_at dksX1_lays_0 21 rfl rfl)
theorem dX1_lays_22 : decode cX1_lays 22 = .ok (.iload_n 2, 1) := dk_28 (dk_at dksX1_lays_0 22 rfl rfl)
theorem dX1_lays_23 : decode cX1_lays 23 = .ok (.invokevirtual 255, 3) := dk_182 0 255 (dk_at dksX1_lays_1 0 rfl rfl)
theorem dX1_lays_26 : decode cX1_lays 26 = .ok (.goto 8, 3) := dk_167 0 8 (dk_at dksX1_lays_1 3 rfl rfl)
theorem dX1_lays_29 : decode cX1_lays 29 = .ok (.aload_n 0, 1) := dk_42 (dk_at dksX1_lays_1 6 rfl rfl)
theorem dX1_lays_30 : decode cX1_lays 30 = .ok (.iconst 1, 1) := dk_4 (dk_at dksX1_lays_1 7 rfl rfl)
theorem dX1_lays_31 : decode cX1_lays 31 = .ok (.invokevirtual 127, 3) := dk_182 0 127 (dk_at dksX1_lays_1 8 rfl rfl)
theorem dX1_lays_34 : decode cX1_lays 34 = .ok (.ireturn, 1) := dk_172 (dk_at dksX1_lays_1 11 rfl rfl)
abbrev cX1_isRule : ByteArray := prog_1_method_21_code
def yX1_isRule : MethodName := ⟨RX1, "isRule", "(I)Z"⟩
def dkwX1_isRule_1 : List UInt8 := [4, 167, 0, 4, 3, 172]
abbrev dktX1_isRule_1 : List UInt8 := dkwX1_isRule_1 ++ []
def dkwX1_isRule_0 : List UInt8 := [42, 180, 0, 137, 198, 0, 24, 27, 3, 42, 180, 0, 137, 180, 0, 188, 4, 100, 184, 0, 123, 153, 0, 7]
abbrev dktX1_isRule_0 : List UInt8 := dkwX1_isRule_0 ++ dktX1_isRule_1
theorem dksX1_isRule_0 : cX1_isRule.data.toList.drop 0 = dktX1_isRule_0 := by decide +kernel
theorem dksX1_isRule_1 : cX1_isRule.data.toList.drop 24 = dktX1_isRule_1 := dk_seg dksX1_isRule_0 24 rfl rfl
theorem dX1_isRule_0 : decode cX1_isRule 0 = .ok (.aload_n 0, 1) := dk_42 (dk_at dksX1_isRule_0 0 rfl rfl)
theorem dX1_isRule_1 : decode cX1_isRule 1 = .ok (.getfield 137, 3) := dk_180 0 137 (dk_at dksX1_isRule_0 1 rfl rfl)
theorem dX1_isRule_4 : decode cX1_isRule 4 = .ok (.ifnull 24, 3) := dk_198 0 24 (dk_at dksX1_isRule_0 4 rfl rfl)
theorem dX1_isRule_7 : decode cX1_isRule 7 = .ok (.iload_n 1, 1) := dk_27 (dk_at dksX1_isRule_0 7 rfl rfl)
theorem dX1_isRule_8 : decode cX1_isRule 8 = .ok (.iconst 0, 1) := dk_3 (dk_at dksX1_isRule_0 8 rfl rfl)
theorem dX1_isRule_9 : decode cX1_isRule 9 = .ok (.aload_n 0, 1) := dk_42 (dk_at dksX1_isRule_0 9 rfl rfl)
theorem dX1_isRule_10 : decode cX1_isRule 10 = .ok (.getfield 137, 3) := dk_180 0 137 (dk_at dksX1_isRule_0 10 rfl rfl)
theorem dX1_isRule_13 : decode cX1_isRule 13 = .ok (.getfield 188, 3) := dk_180 0 188 (dk_at dksX1_isRule_0 13 rfl rfl)
theorem dX1_isRule_16 : decode cX1_isRule 16 = .ok (.iconst 1, 1) := dk_4 (dk_at dksX1_isRule_0 16 rfl rfl)
theorem dX1_isRule_17 : decode cX1_isRule 17 = .ok (.isub, 1) := dk_100 (dk_at dksX1_isRule_0 17 rfl rfl)
theorem dX1_isRule_18 : decode cX1_isRule 18 = .ok (.invokestatic 123, 3) := dk_184 0 123 (dk_at dksX1_isRule_0 18 rfl rfl)
theorem dX1_isRule_21 : decode cX1_isRule 21 = .ok (.ifCond .eq 7, 3) := dk_153 0 7 (dk_at dksX1_isRule_0 21 rfl rfl)
theorem dX1_isRule_24 : decode cX1_isRule 24 = .ok (.iconst 1, 1) := dk_4 (dk_at dksX1_isRule_1 0 rfl rfl)
theorem dX1_isRule_25 : decode cX1_isRule 25 = .ok (.goto 4, 3) := dk_167 0 4 (dk_at dksX1_isRule_1 1 rfl rfl)
theorem dX1_isRule_28 : decode cX1_isRule 28 = .ok (.iconst 0, 1) := dk_3 (dk_at dksX1_isRule_1 4 rfl rfl)
theorem dX1_isRule_29 : decode cX1_isRule 29 = .ok (.ireturn, 1) := dk_172 (dk_at dksX1_isRule_1 5 rfl rfl)
abbrev cX1_rowOf : ByteArray := prog_1_method_34_code
def yX1_rowOf : MethodName := ⟨RX1, "rowOf", "(II)I"⟩
def dkwX1_rowOf_1 : List UInt8 := [180, 0, 238, 28, 46, 172]
abbrev dktX1_rowOf_1 : List UInt8 := dkwX1_rowOf_1 ++ []
def dkwX1_rowOf_0 : List UInt8 := [42, 42, 180, 0, 137, 180, 0, 246, 27, 50, 182, 0, 249, 42, 180, 0, 137, 180, 0, 246, 27, 50]
abbrev dktX1_rowOf_0 : List UInt8 := dkwX1_rowOf_0 ++ dktX1_rowOf_1
theorem dksX1_rowOf_0 : cX1_rowOf.data.toList.drop 0 = dktX1_rowOf_0 := by decide +kernel
theorem dksX1_rowOf_1 : cX1_rowOf.data.toList.drop 22 = dktX1_rowOf_1 := dk_seg dksX1_rowOf_0 22 rfl rfl
theorem dX1_rowOf_0 : decode cX1_rowOf 0 = .ok (.aload_n 0, 1) := dk_42 (dk_at dksX1_rowOf_0 0 rfl rfl)
theorem dX1_rowOf_1 : decode cX1_rowOf 1 = .ok (.aload_n 0, 1) := dk_42 (dk_at dksX1_rowOf_0 1 rfl rfl)
theorem dX1_rowOf_2 : decode cX1_rowOf 2 = .ok (.getfield 137, 3) := dk_180 0 137 (dk_at dksX1_rowOf_0 2 rfl rfl)
theorem dX1_rowOf_5 : decode cX1_rowOf 5 = .ok (.getfield 246, 3) := dk_180 0 246 (dk_at dksX1_rowOf_0 5 rfl rfl)
theorem dX1_rowOf_8 : decode cX1_rowOf 8 = .ok (.iload_n 1, 1) := dk_27 (dk_at dksX1_rowOf_0 8 rfl rfl)
theorem dX1_rowOf_9 : decode cX1_rowOf 9 = .ok (.aaload, 1) := dk_50 (dk_at dksX1_rowOf_0 9 rfl rfl)
theorem dX1_rowOf_10 : decode cX1_rowOf 10 = .ok (.invokevirtual 249, 3) := dk_182 0 249 (dk_at dksX1_rowOf_0 10 rfl rfl)
theorem dX1_rowOf_13 : decode cX1_rowOf 13 = .ok (.aload_n 0, 1) := dk_42 (dk_at dksX1_rowOf_0 13 rfl rfl)
theorem dX1_rowOf_14 : decode cX1_rowOf 14 = .ok (.getfield 137, 3) := dk_180 0 137 (dk_at dksX1_rowOf_0 14 rfl rfl)
theorem dX1_rowOf_17 : decode cX1_rowOf 17 = .ok (.getfield 246, 3) := dk_180 0 246 (dk_at dksX1_rowOf_0 17 rfl rfl)
theorem dX1_rowOf_20 : decode cX1_rowOf 20 = .ok (.iload_n 1, 1) := dk_27 (dk_at dksX1_rowOf_0 20 rfl rfl)
theorem dX1_rowOf_21 : decode cX1_rowOf 21 = .ok (.aaload, 1) := dk_50 (dk_at dksX1_rowOf_0 21 rfl rfl)
theorem dX1_rowOf_22 : decode cX1_rowOf 22 = .ok (.getfield 238, 3) := dk_180 0 238 (dk_at dksX1_rowOf_1 0 rfl rfl)
theorem dX1_rowOf_25 : decode cX1_rowOf 25 = .ok (.iload_n 2, 1) := dk_28 (dk_at dksX1_rowOf_1 3 rfl rfl)
theorem dX1_rowOf_26 : decode cX1_rowOf 26 = .ok (.iaload, 1) := dk_46 (dk_at dksX1_rowOf_1 4 rfl rfl)
theorem dX1_rowOf_27 : decode cX1_rowOf 27 = .ok (.ireturn, 1) := dk_172 (dk_at dksX1_rowOf_1 5 rfl rfl)
abbrev cX1_lay : ByteArray := prog_1_method_33_code
def yX1_lay : MethodName := ⟨RX1, "lay", "(LFifthCard$Rule;)V"⟩
def dkwX1_lay_4 : List UInt8 := [181, 0, 162, 177]
abbrev dktX1_lay_4 : List UInt8 := dkwX1_lay_4 ++ []
def dkwX1_lay_3 : List UInt8 := [167, 0, 15, 43, 42, 180, 0, 94, 42, 180, 0, 137, 182, 0, 243, 79, 132, 3, 1, 167, 255, 200, 43, 4]
abbrev dktX1_lay_3 : List UInt8 := dkwX1_lay_3 ++ dktX1_lay_4
def dkwX1_lay_2 : List UInt8 := [42, 180, 0, 94, 182, 0, 208, 43, 180, 0, 238, 29, 28, 153, 0, 14, 42, 180, 0, 73, 29, 182, 0, 240]
abbrev dktX1_lay_2 : List UInt8 := dkwX1_lay_2 ++ dktX1_lay_3
def dkwX1_lay_1 : List UInt8 := [153, 0, 7, 4, 167, 0, 4, 3, 61, 3, 62, 29, 42, 180, 0, 155, 162, 0, 54, 42, 180, 0, 137, 29]
abbrev dktX1_lay_1 : List UInt8 := dkwX1_lay_1 ++ dktX1_lay_2
def dkwX1_lay_0 : List UInt8 := [43, 180, 0, 162, 153, 0, 4, 177, 43, 193, 0, 232, 153, 0, 17, 42, 180, 0, 73, 182, 0, 234]
abbrev dktX1_lay_0 : List UInt8 := dkwX1_lay_0 ++ dktX1_lay_1
theorem dksX1_lay_0 : cX1_lay.data.toList.drop 0 = dktX1_lay_0 := by decide +kernel
theorem dksX1_lay_1 : cX1_lay.data.toList.drop 22 = dktX1_lay_1 := dk_seg dksX1_lay_0 22 rfl rfl
theorem dksX1_lay_2 : cX1_lay.data.toList.drop 46 = dktX1_lay_2 := dk_seg dksX1_lay_1 24 rfl rfl
theorem dksX1_lay_3 : cX1_lay.data.toList.drop 70 = dktX1_lay_3 := dk_seg dksX1_lay_2 24 rfl rfl
theorem dksX1_lay_4 : cX1_lay.data.toList.drop 94 = dktX1_lay_4 := dk_seg dksX1_lay_3 24 rfl rfl
theorem dX1_lay_0 : decode cX1_lay 0 = .ok (.aload_n 1, 1) := dk_43 (dk_at dksX1_lay_0 0 rfl rfl)
theorem dX1_lay_1 : decode cX1_lay 1 = .ok (.getfield 162, 3) := dk_180 0 162 (dk_at dksX1_lay_0 1 rfl rfl)
theorem dX1_lay_4 : decode cX1_lay 4 = .ok (.ifCond .eq 4, 3) := dk_153 0 4 (dk_at dksX1_lay_0 4 rfl rfl)
theorem dX1_lay_7 : decode cX1_lay 7 = .ok (.return_, 1) := dk_177 (dk_at dksX1_lay_0 7 rfl rfl)
theorem dX1_lay_8 : decode cX1_lay 8 = .ok (.aload_n 1, 1) := dk_43 (dk_at dksX1_lay_0 8 rfl rfl)
theorem dX1_lay_9 : decode cX1_lay 9 = .ok (.instanceof 232, 3) := dk_193 0 232 (dk_at dksX1_lay_0 9 rfl rfl)
theorem dX1_lay_12 : decode cX1_lay 12 = .ok (.ifCond .eq 17, 3) := dk_153 0 17 (dk_at dksX1_lay_0 12 rfl rfl)
theorem dX1_lay_15 : decode cX1_lay 15 = .ok (.aload_n 0, 1) := dk_42 (dk_at dksX1_lay_0 15 rfl rfl)
theorem dX1_lay_16 : decode cX1_lay 16 = .ok (.getfield 73, 3) := dk_180 0 73 (dk_at dksX1_lay_0 16 rfl rfl)
theorem dX1_lay_19 : decode cX1_lay 19 = .ok (.invokevirtual 234, 3) := dk_182 0 234 (dk_at dksX1_lay_0 19 rfl rfl)
theorem dX1_lay_22 : decode cX1_lay 22 = .ok (.ifCond .eq 7, 3) := dk_153 0 7 (dk_at dksX1_lay_1 0 rfl rfl)
theorem dX1_lay_25 : decode cX1_lay 25 = .ok (.iconst 1, 1) := dk_4 (dk_at dksX1_lay_1 3 rfl rfl)
theorem dX1_lay_26 : decode cX1_lay 26 = .ok (.goto 4, 3) := dk_167 0 4 (dk_at dksX1_lay_1 4 rfl rfl)
theorem dX1_lay_29 : decode cX1_lay 29 = .ok (.iconst 0, 1) := dk_3 (dk_at dksX1_lay_1 7 rfl rfl)
theorem dX1_lay_30 : decode cX1_lay 30 = .ok (.istore_n 2, 1) := dk_61 (dk_at dksX1_lay_1 8 rfl rfl)
theorem dX1_lay_31 : decode cX1_lay 31 = .ok (.iconst 0, 1) := dk_3 (dk_at dksX1_lay_1 9 rfl rfl)
theorem dX1_lay_32 : decode cX1_lay 32 = .ok (.istore_n 3, 1) := dk_62 (dk_at dksX1_lay_1 10 rfl rfl)
theorem dX1_lay_33 : decode cX1_lay 33 = .ok (.iload_n 3, 1) := dk_29 (dk_at dksX1_lay_1 11 rfl rfl)
theorem dX1_lay_34 : decode cX1_lay 34 = .ok (.aload_n 0, 1) := dk_42 (dk_at dksX1_lay_1 12 rfl rfl)
theorem dX1_lay_35 : decode cX1_lay 35 = .ok (.getfield 155, 3) := dk_180 0 155 (dk_at dksX1_lay_1 13 rfl rfl)
theorem dX1_lay_38 : decode cX1_lay 38 = .ok (.if_icmp .ge 54, 3) := dk_162 0 54 (dk_at dksX1_lay_1 16 rfl rfl)
theorem dX1_lay_41 : decode cX1_lay 41 = .ok (.aload_n 0, 1) := dk_42 (dk_at dksX1_lay_1 19 rfl rfl)
theorem dX1_lay_42 : decode cX1_lay 42 = .ok (.getfield 137, 3) := dk_180 0 137 (dk_at dksX1_lay_1 20 rfl rfl)
theorem dX1_lay_45 : decode cX1_lay 45 = .ok (.iload_n 3, 1) := dk_29 (dk_at dksX1_lay_1 23 rfl rfl)
theorem dX1_lay_46 : decode cX1_lay 46 = .ok (.aload_n 0, 1) := dk_42 (dk_at dksX1_lay_2 0 rfl rfl)
theorem dX1_lay_47 : decode cX1_lay 47 = .ok (.getfield 94, 3) := dk_180 0 94 (dk_at dksX1_lay_2 1 rfl rfl)
theorem dX1_lay_50 : decode cX1_lay 50 = .ok (.invokevirtual 208, 3) := dk_182 0 208 (dk_at dksX1_lay_2 4 rfl rfl)
theorem dX1_lay_53 : decode cX1_lay 53 = .ok (.aload_n 1, 1) := dk_43 (dk_at dksX1_lay_2 7 rfl rfl)
theorem dX1_lay_54 : decode cX1_lay 54 = .ok (.getfield 238, 3) := dk_180 0 238 (dk_at dksX1_lay_2 8 rfl rfl)
theorem dX1_lay_57 : decode cX1_lay 57 = .ok (.iload_n 3, 1) := dk_29 (dk_at dksX1_lay_2 11 rfl rfl)
theorem dX1_lay_58 : decode cX1_lay 58 = .ok (.iload_n 2, 1) := dk_28 (dk_at dksX1_lay_2 12 rfl rfl)
theorem dX1_lay_59 : decode cX1_lay 59 = .ok (.ifCond .eq 14, 3) := dk_153 0 14 (dk_at dksX1_lay_2 13 rfl rfl)
theorem dX1_lay_62 : decode cX1_lay 62 = .ok (.aload_n 0, 1) := dk_42 (dk_at dksX1_lay_2 16 rfl rfl)
theorem dX1_lay_63 : decode cX1_lay 63 = .ok (.getfield 73, 3) := dk_180 0 73 (dk_at dksX1_lay_2 17 rfl rfl)
theorem dX1_lay_66 : decode cX1_lay 66 = .ok (.iload_n 3, 1) := dk_29 (dk_at dksX1_lay_2 20 rfl rfl)
theorem dX1_lay_67 : decode cX1_lay 67 = .ok (.invokevirtual 240, 3) := dk_182 0 240 (dk_at dksX1_lay_2 21 rfl rfl)
theorem dX1_lay_70 : decode cX1_lay 70 = .ok (.goto 15, 3) := dk_167 0 15 (dk_at dksX1_lay_3 0 rfl rfl)
theorem dX1_lay_73 : decode cX1_lay 73 = .ok (.aload_n 1, 1) := dk_43 (dk_at dksX1_lay_3 3 rfl rfl)
theorem dX1_lay_74 : decode cX1_lay 74 = .ok (.aload_n 0, 1) := dk_42 (dk_at dksX1_lay_3 4 rfl rfl)
theorem dX1_lay_75 : decode cX1_lay 75 = .ok (.getfield 94, 3) := dk_180 0 94 (dk_at dksX1_lay_3 5 rfl rfl)
theorem dX1_lay_78 : decode cX1_lay 78 = .ok (.aload_n 0, 1) := dk_42 (dk_at dksX1_lay_3 8 rfl rfl)
theorem dX1_lay_79 : decode cX1_lay 79 = .ok (.getfield 137, 3) := dk_180 0 137 (dk_at dksX1_lay_3 9 rfl rfl)
theorem dX1_lay_82 : decode cX1_lay 82 = .ok (.invokevirtual 243, 3) := dk_182 0 243 (dk_at dksX1_lay_3 12 rfl rfl)
theorem dX1_lay_85 : decode cX1_lay 85 = .ok (.iastore, 1) := dk_79 (dk_at dksX1_lay_3 15 rfl rfl)
theorem dX1_lay_86 : decode cX1_lay 86 = .ok (.iinc 3 1, 3) := dk_132 3 1 (dk_at dksX1_lay_3 16 rfl rfl)
theorem dX1_lay_89 : decode cX1_lay 89 = .ok (.goto (-56), 3) := dk_167 255 200 (dk_at dksX1_lay_3 19 rfl rfl)
theorem dX1_lay_92 : decode cX1_lay 92 = .ok (.aload_n 1, 1) := dk_43 (dk_at dksX1_lay_3 22 rfl rfl)
theorem dX1_lay_93 : decode cX1_lay 93 = .ok (.iconst 1, 1) := dk_4 (dk_at dksX1_lay_3 23 rfl rfl)
theorem dX1_lay_94 : decode cX1_lay 94 = .ok (.putfield 162, 3) := dk_181 0 162 (dk_at dksX1_lay_4 0 rfl rfl)
theorem dX1_lay_97 : decode cX1_lay 97 = .ok (.return_, 1) := dk_177 (dk_at dksX1_lay_4 3 rfl rfl)
abbrev cX1_spread : ByteArray := prog_1_method_7_code
def yX1_spread : MethodName := ⟨RX1, "spread", "(I[I)I"⟩
def dkwX1_spread_1 : List UInt8 := [79, 132, 2, 1, 132, 3, 1, 167, 255, 229, 28, 172]
abbrev dktX1_spread_1 : List UInt8 := dkwX1_spread_1 ++ []
def dkwX1_spread_0 : List UInt8 := [3, 61, 3, 62, 29, 16, 12, 162, 0, 27, 26, 29, 184, 0, 7, 154, 0, 6, 167, 0, 10, 43, 28, 29]
abbrev dktX1_spread_0 : List UInt8 := dkwX1_spread_0 ++ dktX1_spread_1
theorem dksX1_spread_0 : cX1_spread.data.toList.drop 0 = dktX1_spread_0 := by decide +kernel
theorem dksX1_spread_1 : cX1_spread.data.toList.drop 24 = dktX1_spread_1 := dk_seg dksX1_spread_0 24 rfl rfl
theorem dX1_spread_0 : decode cX1_spread 0 = .ok (.iconst 0, 1) := dk_3 (dk_at dksX1_spread_0 0 rfl rfl)
theorem dX1_spread_1 : decode cX1_spread 1 = .ok (.istore_n 2, 1) := dk_61 (dk_at dksX1_spread_0 1 rfl rfl)
theorem dX1_spread_2 : decode cX1_spread 2 = .ok (.iconst 0, 1) := dk_3 (dk_at dksX1_spread_0 2 rfl rfl)
theorem dX1_spread_3 : decode cX1_spread 3 = .ok (.istore_n 3, 1) := dk_62 (dk_at dksX1_spread_0 3 rfl rfl)
theorem dX1_spread_4 : decode cX1_spread 4 = .ok (.iload_n 3, 1) := dk_29 (dk_at dksX1_spread_0 4 rfl rfl)
theorem dX1_spread_5 : decode cX1_spread 5 = .ok (.bipush 12, 2) := dk_16 12 (dk_at dksX1_spread_0 5 rfl rfl)
theorem dX1_spread_7 : decode cX1_spread 7 = .ok (.if_icmp .ge 27, 3) := dk_162 0 27 (dk_at dksX1_spread_0 7 rfl rfl)
theorem dX1_spread_10 : decode cX1_spread 10 = .ok (.iload_n 0, 1) := dk_26 (dk_at dksX1_spread_0 10 rfl rfl)
theorem dX1_spread_11 : decode cX1_spread 11 = .ok (.iload_n 3, 1) := dk_29 (dk_at dksX1_spread_0 11 rfl rfl)
theorem dX1_spread_12 : decode cX1_spread 12 = .ok (.invokestatic 7, 3) := dk_184 0 7 (dk_at dksX1_spread_0 12 rfl rfl)
theorem dX1_spread_15 : decode cX1_spread 15 = .ok (.ifCond .ne 6, 3) := dk_154 0 6 (dk_at dksX1_spread_0 15 rfl rfl)
theorem dX1_spread_18 : decode cX1_spread 18 = .ok (.goto 10, 3) := dk_167 0 10 (dk_at dksX1_spread_0 18 rfl rfl)
theorem dX1_spread_21 : decode cX1_spread 21 = .ok (.aload_n 1, 1) := dk_43 (dk_at dksX1_spread_0 21 rfl rfl)
theorem dX1_spread_22 : decode cX1_spread 22 = .ok (.iload_n 2, 1) := dk_28 (dk_at dksX1_spread_0 22 rfl rfl)
theorem dX1_spread_23 : decode cX1_spread 23 = .ok (.iload_n 3, 1) := dk_29 (dk_at dksX1_spread_0 23 rfl rfl)
theorem dX1_spread_24 : decode cX1_spread 24 = .ok (.iastore, 1) := dk_79 (dk_at dksX1_spread_1 0 rfl rfl)
theorem dX1_spread_25 : decode cX1_spread 25 = .ok (.iinc 2 1, 3) := dk_132 2 1 (dk_at dksX1_spread_1 1 rfl rfl)
theorem dX1_spread_28 : decode cX1_spread 28 = .ok (.iinc 3 1, 3) := dk_132 3 1 (dk_at dksX1_spread_1 4 rfl rfl)
theorem dX1_spread_31 : decode cX1_spread 31 = .ok (.goto (-27), 3) := dk_167 255 229 (dk_at dksX1_spread_1 7 rfl rfl)
theorem dX1_spread_34 : decode cX1_spread 34 = .ok (.iload_n 2, 1) := dk_28 (dk_at dksX1_spread_1 10 rfl rfl)
theorem dX1_spread_35 : decode cX1_spread 35 = .ok (.ireturn, 1) := dk_172 (dk_at dksX1_spread_1 11 rfl rfl)
abbrev cX1_arrange : ByteArray := prog_1_method_8_code
def yX1_arrange : MethodName := ⟨RX1, "arrange", "([IIII[I)V"⟩
def dkwX1_arrange_4 : List UInt8 := [21, 5, 4, 21, 10, 120, 128, 54, 5, 132, 7, 1, 167, 255, 158, 177]
abbrev dktX1_arrange_4 : List UInt8 := dkwX1_arrange_4 ++ []
def dkwX1_arrange_3 : List UInt8 := [167, 0, 4, 4, 100, 54, 9, 132, 10, 1, 167, 255, 218, 25, 4, 27, 21, 7, 96, 42, 21, 10, 46, 79]
abbrev dktX1_arrange_3 : List UInt8 := dkwX1_arrange_3 ++ dktX1_arrange_4
def dkwX1_arrange_2 : List UInt8 := [184, 0, 7, 154, 0, 8, 21, 9, 158, 0, 29, 21, 9, 21, 5, 21, 10, 184, 0, 7, 153, 0, 7, 3]
abbrev dktX1_arrange_2 : List UInt8 := dkwX1_arrange_2 ++ dktX1_arrange_3
def dkwX1_arrange_1 : List UInt8 := [54, 8, 21, 6, 21, 8, 108, 54, 9, 21, 6, 21, 8, 112, 54, 6, 3, 54, 10, 21, 5, 21, 10]
abbrev dktX1_arrange_1 : List UInt8 := dkwX1_arrange_1 ++ dktX1_arrange_2
def dkwX1_arrange_0 : List UInt8 := [3, 54, 5, 29, 54, 6, 3, 54, 7, 21, 7, 28, 162, 0, 98, 28, 4, 100, 21, 7, 100, 184, 0, 11]
abbrev dktX1_arrange_0 : List UInt8 := dkwX1_arrange_0 ++ dktX1_arrange_1
theorem dksX1_arrange_0 : cX1_arrange.data.toList.drop 0 = dktX1_arrange_0 := by decide +kernel
theorem dksX1_arrange_1 : cX1_arrange.data.toList.drop 24 = dktX1_arrange_1 := dk_seg dksX1_arrange_0 24 rfl rfl
theorem dksX1_arrange_2 : cX1_arrange.data.toList.drop 47 = dktX1_arrange_2 := dk_seg dksX1_arrange_1 23 rfl rfl
theorem dksX1_arrange_3 : cX1_arrange.data.toList.drop 71 = dktX1_arrange_3 := dk_seg dksX1_arrange_2 24 rfl rfl
theorem dksX1_arrange_4 : cX1_arrange.data.toList.drop 95 = dktX1_arrange_4 := dk_seg dksX1_arrange_3 24 rfl rfl
theorem dX1_arrange_0 : decode cX1_arrange 0 = .ok (.iconst 0, 1) := dk_3 (dk_at dksX1_arrange_0 0 rfl rfl)
theorem dX1_arrange_1 : decode cX1_arrange 1 = .ok (.istore 5, 2) := dk_54 5 (dk_at dksX1_arrange_0 1 rfl rfl)
theorem dX1_arrange_3 : decode cX1_arrange 3 = .ok (.iload_n 3, 1) := dk_29 (dk_at dksX1_arrange_0 3 rfl rfl)
theorem dX1_arrange_4 : decode cX1_arrange 4 = .ok (.istore 6, 2) := dk_54 6 (dk_at dksX1_arrange_0 4 rfl rfl)
theorem dX1_arrange_6 : decode cX1_arrange 6 = .ok (.iconst 0, 1) := dk_3 (dk_at dksX1_arrange_0 6 rfl rfl)
theorem dX1_arrange_7 : decode cX1_arrange 7 = .ok (.istore 7, 2) := dk_54 7 (dk_at dksX1_arrange_0 7 rfl rfl)
theorem dX1_arrange_9 : decode cX1_arrange 9 = .ok (.iload 7, 2) := dk_21 7 (dk_at dksX1_arrange_0 9 rfl rfl)
theorem dX1_arrange_11 : decode cX1_arrange 11 = .ok (.iload_n 2, 1) := dk_28 (dk_at dksX1_arrange_0 11 rfl rfl)
theorem dX1_arrange_12 : decode cX1_arrange 12 = .ok (.if_icmp .ge 98, 3) := dk_162 0 98 (dk_at dksX1_arrange_0 12 rfl rfl)
theorem dX1_arrange_15 : decode cX1_arrange 15 = .ok (.iload_n 2, 1) := dk_28 (dk_at dksX1_arrange_0 15 rfl rfl)
theorem dX1_arrange_16 : decode cX1_arrange 16 = .ok (.iconst 1, 1) := dk_4 (dk_at dksX1_arrange_0 16 rfl rfl)
theorem dX1_arrange_17 : decode cX1_arrange 17 = .ok (.isub, 1) := dk_100 (dk_at dksX1_arrange_0 17 rfl rfl)
theorem dX1_arrange_18 : decode cX1_arrange 18 = .ok (.iload 7, 2) := dk_21 7 (dk_at dksX1_arrange_0 18 rfl rfl)
theorem dX1_arrange_20 : decode cX1_arrange 20 = .ok (.isub, 1) := dk_100 (dk_at dksX1_arrange_0 20 rfl rfl)
theorem dX1_arrange_21 : decode cX1_arrange 21 = .ok (.invokestatic 11, 3) := dk_184 0 11 (dk_at dksX1_arrange_0 21 rfl rfl)
theorem dX1_arrange_24 : decode cX1_arrange 24 = .ok (.istore 8, 2) := dk_54 8 (dk_at dksX1_arrange_1 0 rfl rfl)
theorem dX1_arrange_26 : decode cX1_arrange 26 = .ok (.iload 6, 2) := dk_21 6 (dk_at dksX1_arrange_1 2 rfl rfl)
theorem dX1_arrange_28 : decode cX1_arrange 28 = .ok (.iload 8, 2) := dk_21 8 (dk_at dksX1_arrange_1 4 rfl rfl)
theorem dX1_arrange_30 : decode cX1_arrange 30 = .ok (.idiv, 1) := dk_108 (dk_at dksX1_arrange_1 6 rfl rfl)
theorem dX1_arrange_31 : decode cX1_arrange 31 = .ok (.istore 9, 2) := dk_54 9 (dk_at dksX1_arrange_1 7 rfl rfl)
theorem dX1_arrange_33 : decode cX1_arrange 33 = .ok (.iload 6, 2) := dk_21 6 (dk_at dksX1_arrange_1 9 rfl rfl)
theorem dX1_arrange_35 : decode cX1_arrange 35 = .ok (.iload 8, 2) := dk_21 8 (dk_at dksX1_arrange_1 11 rfl rfl)
theorem dX1_arrange_37 : decode cX1_arrange 37 = .ok (.irem, 1) := dk_112 (dk_at dksX1_arrange_1 13 rfl rfl)
theorem dX1_arrange_38 : decode cX1_arrange 38 = .ok (.istore 6, 2) := dk_54 6 (dk_at dksX1_arrange_1 14 rfl rfl)
theorem dX1_arrange_40 : decode cX1_arrange 40 = .ok (.iconst 0, 1) := dk_3 (dk_at dksX1_arrange_1 16 rfl rfl)
theorem dX1_arrange_41 : decode cX1_arrange 41 = .ok (.istore 10, 2) := dk_54 10 (dk_at dksX1_arrange_1 17 rfl rfl)
theorem dX1_arrange_43 : decode cX1_arrange 43 = .ok (.iload 5, 2) := dk_21 5 (dk_at dksX1_arrange_1 19 rfl rfl)
theorem dX1_arrange_45 : decode cX1_arrange 45 = .ok (.iload 10, 2) := dk_21 10 (dk_at dksX1_arrange_1 21 rfl rfl)
theorem dX1_arrange_47 : decode cX1_arrange 47 = .ok (.invokestatic 7, 3) := dk_184 0 7 (dk_at dksX1_arrange_2 0 rfl rfl)
theorem dX1_arrange_50 : decode cX1_arrange 50 = .ok (.ifCond .ne 8, 3) := dk_154 0 8 (dk_at dksX1_arrange_2 3 rfl rfl)
theorem dX1_arrange_53 : decode cX1_arrange 53 = .ok (.iload 9, 2) := dk_21 9 (dk_at dksX1_arrange_2 6 rfl rfl)
theorem dX1_arrange_55 : decode cX1_arrange 55 = .ok (.ifCond .le 29, 3) := dk_158 0 29 (dk_at dksX1_arrange_2 8 rfl rfl)
theorem dX1_arrange_58 : decode cX1_arrange 58 = .ok (.iload 9, 2) := dk_21 9 (dk_at dksX1_arrange_2 11 rfl rfl)
theorem dX1_arrange_60 : decode cX1_arrange 60 = .ok (.iload 5, 2) := dk_21 5 (dk_at dksX1_arrange_2 13 rfl rfl)
theorem dX1_arrange_62 : decode cX1_arrange 62 = .ok (.iload 10, 2) := dk_21 10 (dk_at dksX1_arrange_2 15 rfl rfl)
theorem dX1_arrange_64 : decode cX1_arrange 64 = .ok (.invokestatic 7, 3) := dk_184 0 7 (dk_at dksX1_arrange_2 17 rfl rfl)
theorem dX1_arrange_67 : decode cX1_arrange 67 = .ok (.ifCond .eq 7, 3) := dk_153 0 7 (dk_at dksX1_arrange_2 20 rfl rfl)
theorem dX1_arrange_70 : decode cX1_arrange 70 = .ok (.iconst 0, 1) := dk_3 (dk_at dksX1_arrange_2 23 rfl rfl)
theorem dX1_arrange_71 : decode cX1_arrange 71 = .ok (.goto 4, 3) := dk_167 0 4 (dk_at dksX1_arrange_3 0 rfl rfl)
theorem dX1_arrange_74 : decode cX1_arrange 74 = .ok (.iconst 1, 1) := dk_4 (dk_at dksX1_arrange_3 3 rfl rfl)
theorem dX1_arrange_75 : decode cX1_arrange 75 = .ok (.isub, 1) := dk_100 (dk_at dksX1_arrange_3 4 rfl rfl)
theorem dX1_arrange_76 : decode cX1_arrange 76 = .ok (.istore 9, 2) := dk_54 9 (dk_at dksX1_arrange_3 5 rfl rfl)
theorem dX1_arrange_78 : decode cX1_arrange 78 = .ok (.iinc 10 1, 3) := dk_132 10 1 (dk_at dksX1_arrange_3 7 rfl rfl)
theorem dX1_arrange_81 : decode cX1_arrange 81 = .ok (.goto (-38), 3) := dk_167 255 218 (dk_at dksX1_arrange_3 10 rfl rfl)
theorem dX1_arrange_84 : decode cX1_arrange 84 = .ok (.aload 4, 2) := dk_25 4 (dk_at dksX1_arrange_3 13 rfl rfl)
theorem dX1_arrange_86 : decode cX1_arrange 86 = .ok (.iload_n 1, 1) := dk_27 (dk_at dksX1_arrange_3 15 rfl rfl)
theorem dX1_arrange_87 : decode cX1_arrange 87 = .ok (.iload 7, 2) := dk_21 7 (dk_at dksX1_arrange_3 16 rfl rfl)
theorem dX1_arrange_89 : decode cX1_arrange 89 = .ok (.iadd, 1) := dk_96 (dk_at dksX1_arrange_3 18 rfl rfl)
theorem dX1_arrange_90 : decode cX1_arrange 90 = .ok (.aload_n 0, 1) := dk_42 (dk_at dksX1_arrange_3 19 rfl rfl)
theorem dX1_arrange_91 : decode cX1_arrange 91 = .ok (.iload 10, 2) := dk_21 10 (dk_at dksX1_arrange_3 20 rfl rfl)
theorem dX1_arrange_93 : decode cX1_arrange 93 = .ok (.iaload, 1) := dk_46 (dk_at dksX1_arrange_3 22 rfl rfl)
theorem dX1_arrange_94 : decode cX1_arrange 94 = .ok (.iastore, 1) := dk_79 (dk_at dksX1_arrange_3 23 rfl rfl)
theorem dX1_arrange_95 : decode cX1_arrange 95 = .ok (.iload 5, 2) := dk_21 5 (dk_at dksX1_arrange_4 0 rfl rfl)
theorem dX1_arrange_97 : decode cX1_arrange 97 = .ok (.iconst 1, 1) := dk_4 (dk_at dksX1_arrange_4 2 rfl rfl)
theorem dX1_arrange_98 : decode cX1_arrange 98 = .ok (.iload 10, 2) := dk_21 10 (dk_at dksX1_arrange_4 3 rfl rfl)
theorem dX1_arrange_100 : decode cX1_arrange 100 = .ok (.ishl, 1) := dk_120 (dk_at dksX1_arrange_4 5 rfl rfl)
theorem dX1_arrange_101 : decode cX1_arrange 101 = .ok (.ior, 1) := dk_128 (dk_at dksX1_arrange_4 6 rfl rfl)
theorem dX1_arrange_102 : decode cX1_arrange 102 = .ok (.istore 5, 2) := dk_54 5 (dk_at dksX1_arrange_4 7 rfl rfl)
theorem dX1_arrange_104 : decode cX1_arrange 104 = .ok (.iinc 7 1, 3) := dk_132 7 1 (dk_at dksX1_arrange_4 9 rfl rfl)
theorem dX1_arrange_107 : decode cX1_arrange 107 = .ok (.goto (-98), 3) := dk_167 255 158 (dk_at dksX1_arrange_4 12 rfl rfl)
theorem dX1_arrange_110 : decode cX1_arrange 110 = .ok (.return_, 1) := dk_177 (dk_at dksX1_arrange_4 15 rfl rfl)
abbrev cX1_kept : ByteArray := prog_1_method_36_code
def yX1_kept : MethodName := ⟨RX1, "kept", "(III)I"⟩
def dkwX1_kept_7 : List UInt8 := [2, 172]
abbrev dktX1_kept_7 : List UInt8 := dkwX1_kept_7 ++ []
def dkwX1_kept_6 : List UInt8 := [42, 180, 0, 94, 184, 1, 9, 54, 6, 29, 21, 6, 162, 0, 12, 42, 180, 0, 94, 29, 46, 167, 0, 4]
abbrev dktX1_kept_6 : List UInt8 := dkwX1_kept_6 ++ dktX1_kept_7
def dkwX1_kept_5 : List UInt8 := [184, 1, 5, 42, 180, 0, 98, 42, 180, 0, 137, 182, 0, 195, 184, 1, 5, 2, 130, 126, 54, 5, 21, 5]
abbrev dktX1_kept_5 : List UInt8 := dkwX1_kept_5 ++ dktX1_kept_6
def dkwX1_kept_4 : List UInt8 := [180, 0, 137, 182, 0, 195, 42, 180, 0, 98, 182, 0, 222, 42, 180, 0, 94, 42, 180, 0, 137, 180, 0, 205]
abbrev dktX1_kept_4 : List UInt8 := dkwX1_kept_4 ++ dktX1_kept_5
def dkwX1_kept_3 : List UInt8 := [42, 180, 0, 94, 182, 0, 208, 42, 180, 0, 137, 21, 4, 42, 180, 0, 137, 182, 0, 198, 108, 42]
abbrev dktX1_kept_3 : List UInt8 := dkwX1_kept_3 ++ dktX1_kept_4
def dkwX1_kept_2 : List UInt8 := [182, 0, 255, 54, 4, 21, 4, 16, 254, 160, 0, 10, 42, 16, 6, 182, 0, 127, 172, 42, 180, 0, 137, 28]
abbrev dktX1_kept_2 : List UInt8 := dkwX1_kept_2 ++ dktX1_kept_3
def dkwX1_kept_1 : List UInt8 := [180, 0, 137, 180, 1, 2, 4, 100, 184, 0, 123, 154, 0, 9, 42, 4, 182, 0, 127, 172, 42, 27, 28]
abbrev dktX1_kept_1 : List UInt8 := dkwX1_kept_1 ++ dktX1_kept_2
def dkwX1_kept_0 : List UInt8 := [42, 182, 0, 113, 42, 27, 182, 0, 252, 153, 0, 28, 42, 28, 182, 0, 201, 153, 0, 20, 29, 3, 42]
abbrev dktX1_kept_0 : List UInt8 := dkwX1_kept_0 ++ dktX1_kept_1
theorem dksX1_kept_0 : cX1_kept.data.toList.drop 0 = dktX1_kept_0 := by decide +kernel
theorem dksX1_kept_1 : cX1_kept.data.toList.drop 23 = dktX1_kept_1 := dk_seg dksX1_kept_0 23 rfl rfl
theorem dksX1_kept_2 : cX1_kept.data.toList.drop 46 = dktX1_kept_2 := dk_seg dksX1_kept_1 23 rfl rfl
theorem dksX1_kept_3 : cX1_kept.data.toList.drop 70 = dktX1_kept_3 := dk_seg dksX1_kept_2 24 rfl rfl
theorem dksX1_kept_4 : cX1_kept.data.toList.drop 92 = dktX1_kept_4 := dk_seg dksX1_kept_3 22 rfl rfl
theorem dksX1_kept_5 : cX1_kept.data.toList.drop 116 = dktX1_kept_5 := dk_seg dksX1_kept_4 24 rfl rfl
theorem dksX1_kept_6 : cX1_kept.data.toList.drop 140 = dktX1_kept_6 := dk_seg dksX1_kept_5 24 rfl rfl
theorem dksX1_kept_7 : cX1_kept.data.toList.drop 164 = dktX1_kept_7 := dk_seg dksX1_kept_6 24 rfl rfl
theorem dX1_kept_0 : decode cX1_kept 0 = .ok (.aload_n 0, 1) := dk_42 (dk_at dksX1_kept_0 0 rfl rfl)
theorem dX1_kept_1 : decode cX1_kept 1 = .ok (.invokevirtual 113, 3) := dk_182 0 113 (dk_at dksX1_kept_0 1 rfl rfl)
theorem dX1_kept_4 : decode cX1_kept 4 = .ok (.aload_n 0, 1) := dk_42 (dk_at dksX1_kept_0 4 rfl rfl)
theorem dX1_kept_5 : decode cX1_kept 5 = .ok (.iload_n 1, 1) := dk_27 (dk_at dksX1_kept_0 5 rfl rfl)
theorem dX1_kept_6 : decode cX1_kept 6 = .ok (.invokevirtual 252, 3) := dk_182 0 252 (dk_at dksX1_kept_0 6 rfl rfl)
theorem dX1_kept_9 : decode cX1_kept 9 = .ok (.ifCond .eq 28, 3) := dk_153 0 28 (dk_at dksX1_kept_0 9 rfl rfl)
theorem dX1_kept_12 : decode cX1_kept 12 = .ok (.aload_n 0, 1) := dk_42 (dk_at dksX1_kept_0 12 rfl rfl)
theorem dX1_kept_13 : decode cX1_kept 13 = .ok (.iload_n 2, 1) := dk_28 (dk_at dksX1_kept_0 13 rfl rfl)
theorem dX1_kept_14 : decode cX1_kept 14 = .ok (.invokevirtual 201, 3) := dk_182 0 201 (dk_at dksX1_kept_0 14 rfl rfl)
theorem dX1_kept_17 : decode cX1_kept 17 = .ok (.ifCond .eq 20, 3) := dk_153 0 20 (dk_at dksX1_kept_0 17 rfl rfl)
theorem dX1_kept_20 : decode cX1_kept 20 = .ok (.iload_n 3, 1) := dk_29 (dk_at dksX1_kept_0 20 rfl rfl)
theorem dX1_kept_21 : decode cX1_kept 21 = .ok (.iconst 0, 1) := dk_3 (dk_at dksX1_kept_0 21 rfl rfl)
theorem dX1_kept_22 : decode cX1_kept 22 = .ok (.aload_n 0, 1) := dk_42 (dk_at dksX1_kept_0 22 rfl rfl)
theorem dX1_kept_23 : decode cX1_kept 23 = .ok (.getfield 137, 3) := dk_180 0 137 (dk_at dksX1_kept_1 0 rfl rfl)
theorem dX1_kept_26 : decode cX1_kept 26 = .ok (.getfield 258, 3) := dk_180 1 2 (dk_at dksX1_kept_1 3 rfl rfl)
theorem dX1_kept_29 : decode cX1_kept 29 = .ok (.iconst 1, 1) := dk_4 (dk_at dksX1_kept_1 6 rfl rfl)
theorem dX1_kept_30 : decode cX1_kept 30 = .ok (.isub, 1) := dk_100 (dk_at dksX1_kept_1 7 rfl rfl)
theorem dX1_kept_31 : decode cX1_kept 31 = .ok (.invokestatic 123, 3) := dk_184 0 123 (dk_at dksX1_kept_1 8 rfl rfl)
theorem dX1_kept_34 : decode cX1_kept 34 = .ok (.ifCond .ne 9, 3) := dk_154 0 9 (dk_at dksX1_kept_1 11 rfl rfl)
theorem dX1_kept_37 : decode cX1_kept 37 = .ok (.aload_n 0, 1) := dk_42 (dk_at dksX1_kept_1 14 rfl rfl)
theorem dX1_kept_38 : decode cX1_kept 38 = .ok (.iconst 1, 1) := dk_4 (dk_at dksX1_kept_1 15 rfl rfl)
theorem dX1_kept_39 : decode cX1_kept 39 = .ok (.invokevirtual 127, 3) := dk_182 0 127 (dk_at dksX1_kept_1 16 rfl rfl)
theorem dX1_kept_42 : decode cX1_kept 42 = .ok (.ireturn, 1) := dk_172 (dk_at dksX1_kept_1 19 rfl rfl)
theorem dX1_kept_43 : decode cX1_kept 43 = .ok (.aload_n 0, 1) := dk_42 (dk_at dksX1_kept_1 20 rfl rfl)
theorem dX1_kept_44 : decode cX1_kept 44 = .ok (.iload_n 1, 1) := dk_27 (dk_at dksX1_kept_1 21 rfl rfl)
theorem dX1_kept_45 : decode cX1_kept 45 = .ok (.iload_n 2, 1) := dk_28 (dk_at dksX1_kept_1 22 rfl rfl)
theorem dX1_kept_46 : decode cX1_kept 46 = .ok (.invokevirtual 255, 3) := dk_182 0 255 (dk_at dksX1_kept_2 0 rfl rfl)
theorem dX1_kept_49 : decode cX1_kept 49 = .ok (.istore 4, 2) := dk_54 4 (dk_at dksX1_kept_2 3 rfl rfl)
theorem dX1_kept_51 : decode cX1_kept 51 = .ok (.iload 4, 2) := dk_21 4 (dk_at dksX1_kept_2 5 rfl rfl)
theorem dX1_kept_53 : decode cX1_kept 53 = .ok (.bipush (-2), 2) := dk_16 254 (dk_at dksX1_kept_2 7 rfl rfl)
theorem dX1_kept_55 : decode cX1_kept 55 = .ok (.if_icmp .ne 10, 3) := dk_160 0 10 (dk_at dksX1_kept_2 9 rfl rfl)
theorem dX1_kept_58 : decode cX1_kept 58 = .ok (.aload_n 0, 1) := dk_42 (dk_at dksX1_kept_2 12 rfl rfl)
theorem dX1_kept_59 : decode cX1_kept 59 = .ok (.bipush 6, 2) := dk_16 6 (dk_at dksX1_kept_2 13 rfl rfl)
theorem dX1_kept_61 : decode cX1_kept 61 = .ok (.invokevirtual 127, 3) := dk_182 0 127 (dk_at dksX1_kept_2 15 rfl rfl)
theorem dX1_kept_64 : decode cX1_kept 64 = .ok (.ireturn, 1) := dk_172 (dk_at dksX1_kept_2 18 rfl rfl)
theorem dX1_kept_65 : decode cX1_kept 65 = .ok (.aload_n 0, 1) := dk_42 (dk_at dksX1_kept_2 19 rfl rfl)
theorem dX1_kept_66 : decode cX1_kept 66 = .ok (.getfield 137, 3) := dk_180 0 137 (dk_at dksX1_kept_2 20 rfl rfl)
theorem dX1_kept_69 : decode cX1_kept 69 = .ok (.iload_n 2, 1) := dk_28 (dk_at dksX1_kept_2 23 rfl rfl)
theorem dX1_kept_70 : decode cX1_kept 70 = .ok (.aload_n 0, 1) := dk_42 (dk_at dksX1_kept_3 0 rfl rfl)
theorem dX1_kept_71 : decode cX1_kept 71 = .ok (.getfield 94, 3) := dk_180 0 94 (dk_at dksX1_kept_3 1 rfl rfl)
theorem dX1_kept_74 : decode cX1_kept 74 = .ok (.invokevirtual 208, 3) := dk_182 0 208 (dk_at dksX1_kept_3 4 rfl rfl)
theorem dX1_kept_77 : decode cX1_kept 77 = .ok (.aload_n 0, 1) := dk_42 (dk_at dksX1_kept_3 7 rfl rfl)
theorem dX1_kept_78 : decode cX1_kept 78 = .ok (.getfield 137, 3) := dk_180 0 137 (dk_at dksX1_kept_3 8 rfl rfl)
theorem dX1_kept_81 : decode cX1_kept 81 = .ok (.iload 4, 2) := dk_21 4 (dk_at dksX1_kept_3 11 rfl rfl)
theorem dX1_kept_83 : decode cX1_kept 83 = .ok (.aload_n 0, 1) := dk_42 (dk_at dksX1_kept_3 13 rfl rfl)
theorem dX1_kept_84 : decode cX1_kept 84 = .ok (.getfield 137, 3) := dk_180 0 137 (dk_at dksX1_kept_3 14 rfl rfl)
theorem dX1_kept_87 : decode cX1_kept 87 = .ok (.invokevirtual 198, 3) := dk_182 0 198 (dk_at dksX1_kept_3 17 rfl rfl)
theorem dX1_kept_90 : decode cX1_kept 90 = .ok (.idiv, 1) := dk_108 (dk_at dksX1_kept_3 20 rfl rfl)
theorem dX1_kept_91 : decode cX1_kept 91 = .ok (.aload_n 0, 1) := dk_42 (dk_at dksX1_kept_3 21 rfl rfl)
theorem dX1_kept_92 : decode cX1_kept 92 = .ok (.getfield 137, 3) := dk_180 0 137 (dk_at dksX1_kept_4 0 rfl rfl)
theorem dX1_kept_95 : decode cX1_kept 95 = .ok (.invokevirtual 195, 3) := dk_182 0 195 (dk_at dksX1_kept_4 3 rfl rfl)
theorem dX1_kept_98 : decode cX1_kept 98 = .ok (.aload_n 0, 1) := dk_42 (dk_at dksX1_kept_4 6 rfl rfl)
theorem dX1_kept_99 : decode cX1_kept 99 = .ok (.getfield 98, 3) := dk_180 0 98 (dk_at dksX1_kept_4 7 rfl rfl)
theorem dX1_kept_102 : decode cX1_kept 102 = .ok (.invokevirtual 222, 3) := dk_182 0 222 (dk_at dksX1_kept_4 10 rfl rfl)
theorem dX1_kept_105 : decode cX1_kept 105 = .ok (.aload_n 0, 1) := dk_42 (dk_at dksX1_kept_4 13 rfl rfl)
theorem dX1_kept_106 : decode cX1_kept 106 = .ok (.getfield 94, 3) := dk_180 0 94 (dk_at dksX1_kept_4 14 rfl rfl)
theorem dX1_kept_109 : decode cX1_kept 109 = .ok (.aload_n 0, 1) := dk_42 (dk_at dksX1_kept_4 17 rfl rfl)
theorem dX1_kept_110 : decode cX1_kept 110 = .ok (.getfield 137, 3) := dk_180 0 137 (dk_at dksX1_kept_4 18 rfl rfl)
theorem dX1_kept_113 : decode cX1_kept 113 = .ok (.getfield 205, 3) := dk_180 0 205 (dk_at dksX1_kept_4 21 rfl rfl)
theorem dX1_kept_116 : decode cX1_kept 116 = .ok (.invokestatic 261, 3) := dk_184 1 5 (dk_at dksX1_kept_5 0 rfl rfl)
theorem dX1_kept_119 : decode cX1_kept 119 = .ok (.aload_n 0, 1) := dk_42 (dk_at dksX1_kept_5 3 rfl rfl)
theorem dX1_kept_120 : decode cX1_kept 120 = .ok (.getfield 98, 3) := dk_180 0 98 (dk_at dksX1_kept_5 4 rfl rfl)
theorem dX1_kept_123 : decode cX1_kept 123 = .ok (.aload_n 0, 1) := dk_42 (dk_at dksX1_kept_5 7 rfl rfl)
theorem dX1_kept_124 : decode cX1_kept 124 = .ok (.getfield 137, 3) := dk_180 0 137 (dk_at dksX1_kept_5 8 rfl rfl)
theorem dX1_kept_127 : decode cX1_kept 127 = .ok (.invokevirtual 195, 3) := dk_182 0 195 (dk_at dksX1_kept_5 11 rfl rfl)
theorem dX1_kept_130 : decode cX1_kept 130 = .ok (.invokestatic 261, 3) := dk_184 1 5 (dk_at dksX1_kept_5 14 rfl rfl)
theorem dX1_kept_133 : decode cX1_kept 133 = .ok (.iconst (-1), 1) := dk_2 (dk_at dksX1_kept_5 17 rfl rfl)
theorem dX1_kept_134 : decode cX1_kept 134 = .ok (.ixor, 1) := dk_130 (dk_at dksX1_kept_5 18 rfl rfl)
theorem dX1_kept_135 : decode cX1_kept 135 = .ok (.iand, 1) := dk_126 (dk_at dksX1_kept_5 19 rfl rfl)
theorem dX1_kept_136 : decode cX1_kept 136 = .ok (.istore 5, 2) := dk_54 5 (dk_at dksX1_kept_5 20 rfl rfl)
theorem dX1_kept_138 : decode cX1_kept 138 = .ok (.iload 5, 2) := dk_21 5 (dk_at dksX1_kept_5 22 rfl rfl)
theorem dX1_kept_140 : decode cX1_kept 140 = .ok (.aload_n 0, 1) := dk_42 (dk_at dksX1_kept_6 0 rfl rfl)
theorem dX1_kept_141 : decode cX1_kept 141 = .ok (.getfield 94, 3) := dk_180 0 94 (dk_at dksX1_kept_6 1 rfl rfl)
theorem dX1_kept_144 : decode cX1_kept 144 = .ok (.invokestatic 265, 3) := dk_184 1 9 (dk_at dksX1_kept_6 4 rfl rfl)
theorem dX1_kept_147 : decode cX1_kept 147 = .ok (.istore 6, 2) := dk_54 6 (dk_at dksX1_kept_6 7 rfl rfl)
theorem dX1_kept_149 : decode cX1_kept 149 = .ok (.iload_n 3, 1) := dk_29 (dk_at dksX1_kept_6 9 rfl rfl)
theorem dX1_kept_150 : decode cX1_kept 150 = .ok (.iload 6, 2) := dk_21 6 (dk_at dksX1_kept_6 10 rfl rfl)
theorem dX1_kept_152 : decode cX1_kept 152 = .ok (.if_icmp .ge 12, 3) := dk_162 0 12 (dk_at dksX1_kept_6 12 rfl rfl)
theorem dX1_kept_155 : decode cX1_kept 155 = .ok (.aload_n 0, 1) := dk_42 (dk_at dksX1_kept_6 15 rfl rfl)
theorem dX1_kept_156 : decode cX1_kept 156 = .ok (.getfield 94, 3) := dk_180 0 94 (dk_at dksX1_kept_6 16 rfl rfl)
theorem dX1_kept_159 : decode cX1_kept 159 = .ok (.iload_n 3, 1) := dk_29 (dk_at dksX1_kept_6 19 rfl rfl)
theorem dX1_kept_160 : decode cX1_kept 160 = .ok (.iaload, 1) := dk_46 (dk_at dksX1_kept_6 20 rfl rfl)
theorem dX1_kept_161 : decode cX1_kept 161 = .ok (.goto 4, 3) := dk_167 0 4 (dk_at dksX1_kept_6 21 rfl rfl)
theorem dX1_kept_164 : decode cX1_kept 164 = .ok (.iconst (-1), 1) := dk_2 (dk_at dksX1_kept_7 0 rfl rfl)
theorem dX1_kept_165 : decode cX1_kept 165 = .ok (.ireturn, 1) := dk_172 (dk_at dksX1_kept_7 1 rfl rfl)
abbrev cX1_says : ByteArray := prog_1_method_37_code
def yX1_says : MethodName := ⟨RX1, "says", "(II)I"⟩
def dkwX1_says_2 : List UInt8 := [29, 172, 132, 3, 1, 167, 255, 233, 16, 254, 172]
abbrev dktX1_says_2 : List UInt8 := dkwX1_says_2 ++ []
def dkwX1_says_1 : List UInt8 := [182, 0, 127, 172, 3, 62, 29, 42, 180, 0, 155, 162, 0, 21, 42, 27, 29, 182, 0, 255, 28, 160, 0, 5]
abbrev dktX1_says_1 : List UInt8 := dkwX1_says_1 ++ dktX1_says_2
def dkwX1_says_0 : List UInt8 := [42, 182, 0, 113, 42, 27, 182, 0, 252, 153, 0, 11, 42, 28, 182, 0, 219, 154, 0, 9, 42, 4]
abbrev dktX1_says_0 : List UInt8 := dkwX1_says_0 ++ dktX1_says_1
theorem dksX1_says_0 : cX1_says.data.toList.drop 0 = dktX1_says_0 := by decide +kernel
theorem dksX1_says_1 : cX1_says.data.toList.drop 22 = dktX1_says_1 := dk_seg dksX1_says_0 22 rfl rfl
theorem dksX1_says_2 : cX1_says.data.toList.drop 46 = dktX1_says_2 := dk_seg dksX1_says_1 24 rfl rfl
theorem dX1_says_0 : decode cX1_says 0 = .ok (.aload_n 0, 1) := dk_42 (dk_at dksX1_says_0 0 rfl rfl)
theorem dX1_says_1 : decode cX1_says 1 = .ok (.invokevirtual 113, 3) := dk_182 0 113 (dk_at dksX1_says_0 1 rfl rfl)
theorem dX1_says_4 : decode cX1_says 4 = .ok (.aload_n 0, 1) := dk_42 (dk_at dksX1_says_0 4 rfl rfl)
theorem dX1_says_5 : decode cX1_says 5 = .ok (.iload_n 1, 1) := dk_27 (dk_at dksX1_says_0 5 rfl rfl)
theorem dX1_says_6 : decode cX1_says 6 = .ok (.invokevirtual 252, 3) := dk_182 0 252 (dk_at dksX1_says_0 6 rfl rfl)
theorem dX1_says_9 : decode cX1_says 9 = .ok (.ifCond .eq 11, 3) := dk_153 0 11 (dk_at dksX1_says_0 9 rfl rfl)
theorem dX1_says_12 : decode cX1_says 12 = .ok (.aload_n 0, 1) := dk_42 (dk_at dksX1_says_0 12 rfl rfl)
theorem dX1_says_13 : decode cX1_says 13 = .ok (.iload_n 2, 1) := dk_28 (dk_at dksX1_says_0 13 rfl rfl)
theorem dX1_says_14 : decode cX1_says 14 = .ok (.invokevirtual 219, 3) := dk_182 0 219 (dk_at dksX1_says_0 14 rfl rfl)
theorem dX1_says_17 : decode cX1_says 17 = .ok (.ifCond .ne 9, 3) := dk_154 0 9 (dk_at dksX1_says_0 17 rfl rfl)
theorem dX1_says_20 : decode cX1_says 20 = .ok (.aload_n 0, 1) := dk_42 (dk_at dksX1_says_0 20 rfl rfl)
theorem dX1_says_21 : decode cX1_says 21 = .ok (.iconst 1, 1) := dk_4 (dk_at dksX1_says_0 21 rfl rfl)
theorem dX1_says_22 : decode cX1_says 22 = .ok (.invokevirtual 127, 3) := dk_182 0 127 (dk_at dksX1_says_1 0 rfl rfl)
theorem dX1_says_25 : decode cX1_says 25 = .ok (.ireturn, 1) := dk_172 (dk_at dksX1_says_1 3 rfl rfl)
theorem dX1_says_26 : decode cX1_says 26 = .ok (.iconst 0, 1) := dk_3 (dk_at dksX1_says_1 4 rfl rfl)
theorem dX1_says_27 : decode cX1_says 27 = .ok (.istore_n 3, 1) := dk_62 (dk_at dksX1_says_1 5 rfl rfl)
theorem dX1_says_28 : decode cX1_says 28 = .ok (.iload_n 3, 1) := dk_29 (dk_at dksX1_says_1 6 rfl rfl)
theorem dX1_says_29 : decode cX1_says 29 = .ok (.aload_n 0, 1) := dk_42 (dk_at dksX1_says_1 7 rfl rfl)
theorem dX1_says_30 : decode cX1_says 30 = .ok (.getfield 155, 3) := dk_180 0 155 (dk_at dksX1_says_1 8 rfl rfl)
theorem dX1_says_33 : decode cX1_says 33 = .ok (.if_icmp .ge 21, 3) := dk_162 0 21 (dk_at dksX1_says_1 11 rfl rfl)
theorem dX1_says_36 : decode cX1_says 36 = .ok (.aload_n 0, 1) := dk_42 (dk_at dksX1_says_1 14 rfl rfl)
theorem dX1_says_37 : decode cX1_says 37 = .ok (.iload_n 1, 1) := dk_27 (dk_at dksX1_says_1 15 rfl rfl)
theorem dX1_says_38 : decode cX1_says 38 = .ok (.iload_n 3, 1) := dk_29 (dk_at dksX1_says_1 16 rfl rfl)
theorem dX1_says_39 : decode cX1_says 39 = .ok (.invokevirtual 255, 3) := dk_182 0 255 (dk_at dksX1_says_1 17 rfl rfl)
theorem dX1_says_42 : decode cX1_says 42 = .ok (.iload_n 2, 1) := dk_28 (dk_at dksX1_says_1 20 rfl rfl)
theorem dX1_says_43 : decode cX1_says 43 = .ok (.if_icmp .ne 5, 3) := dk_160 0 5 (dk_at dksX1_says_1 21 rfl rfl)
theorem dX1_says_46 : decode cX1_says 46 = .ok (.iload_n 3, 1) := dk_29 (dk_at dksX1_says_2 0 rfl rfl)
theorem dX1_says_47 : decode cX1_says 47 = .ok (.ireturn, 1) := dk_172 (dk_at dksX1_says_2 1 rfl rfl)
theorem dX1_says_48 : decode cX1_says 48 = .ok (.iinc 3 1, 3) := dk_132 3 1 (dk_at dksX1_says_2 2 rfl rfl)
theorem dX1_says_51 : decode cX1_says 51 = .ok (.goto (-23), 3) := dk_167 255 233 (dk_at dksX1_says_2 5 rfl rfl)
theorem dX1_says_54 : decode cX1_says 54 = .ok (.bipush (-2), 2) := dk_16 254 (dk_at dksX1_says_2 8 rfl rfl)
theorem dX1_says_56 : decode cX1_says 56 = .ok (.ireturn, 1) := dk_172 (dk_at dksX1_says_2 10 rfl rfl)
abbrev cX1_works : ByteArray := prog_1_method_41_code
def yX1_works : MethodName := ⟨RX1, "works", "(I)I"⟩
def dkwX1_works_1 : List UInt8 := [182, 1, 29, 153, 0, 7, 4, 167, 0, 12, 3, 167, 0, 8, 42, 4, 182, 0, 127, 172]
abbrev dktX1_works_1 : List UInt8 := dkwX1_works_1 ++ []
def dkwX1_works_0 : List UInt8 := [42, 182, 0, 113, 42, 27, 182, 0, 252, 153, 0, 27, 42, 42, 180, 0, 137, 180, 0, 246, 27, 50]
abbrev dktX1_works_0 : List UInt8 := dkwX1_works_0 ++ dktX1_works_1
theorem dksX1_works_0 : cX1_works.data.toList.drop 0 = dktX1_works_0 := by decide +kernel
theorem dksX1_works_1 : cX1_works.data.toList.drop 22 = dktX1_works_1 := dk_seg dksX1_works_0 22 rfl rfl
theorem dX1_works_0 : decode cX1_works 0 = .ok (.aload_n 0, 1) := dk_42 (dk_at dksX1_works_0 0 rfl rfl)
theorem dX1_works_1 : decode cX1_works 1 = .ok (.invokevirtual 113, 3) := dk_182 0 113 (dk_at dksX1_works_0 1 rfl rfl)
theorem dX1_works_4 : decode cX1_works 4 = .ok (.aload_n 0, 1) := dk_42 (dk_at dksX1_works_0 4 rfl rfl)
theorem dX1_works_5 : decode cX1_works 5 = .ok (.iload_n 1, 1) := dk_27 (dk_at dksX1_works_0 5 rfl rfl)
theorem dX1_works_6 : decode cX1_works 6 = .ok (.invokevirtual 252, 3) := dk_182 0 252 (dk_at dksX1_works_0 6 rfl rfl)
theorem dX1_works_9 : decode cX1_works 9 = .ok (.ifCond .eq 27, 3) := dk_153 0 27 (dk_at dksX1_works_0 9 rfl rfl)
theorem dX1_works_12 : decode cX1_works 12 = .ok (.aload_n 0, 1) := dk_42 (dk_at dksX1_works_0 12 rfl rfl)
theorem dX1_works_13 : decode cX1_works 13 = .ok (.aload_n 0, 1) := dk_42 (dk_at dksX1_works_0 13 rfl rfl)
theorem dX1_works_14 : decode cX1_works 14 = .ok (.getfield 137, 3) := dk_180 0 137 (dk_at dksX1_works_0 14 rfl rfl)
theorem dX1_works_17 : decode cX1_works 17 = .ok (.getfield 246, 3) := dk_180 0 246 (dk_at dksX1_works_0 17 rfl rfl)
theorem dX1_works_20 : decode cX1_works 20 = .ok (.iload_n 1, 1) := dk_27 (dk_at dksX1_works_0 20 rfl rfl)
theorem dX1_works_21 : decode cX1_works 21 = .ok (.aaload, 1) := dk_50 (dk_at dksX1_works_0 21 rfl rfl)
theorem dX1_works_22 : decode cX1_works 22 = .ok (.invokevirtual 285, 3) := dk_182 1 29 (dk_at dksX1_works_1 0 rfl rfl)
theorem dX1_works_25 : decode cX1_works 25 = .ok (.ifCond .eq 7, 3) := dk_153 0 7 (dk_at dksX1_works_1 3 rfl rfl)
theorem dX1_works_28 : decode cX1_works 28 = .ok (.iconst 1, 1) := dk_4 (dk_at dksX1_works_1 6 rfl rfl)
theorem dX1_works_29 : decode cX1_works 29 = .ok (.goto 12, 3) := dk_167 0 12 (dk_at dksX1_works_1 7 rfl rfl)
theorem dX1_works_32 : decode cX1_works 32 = .ok (.iconst 0, 1) := dk_3 (dk_at dksX1_works_1 10 rfl rfl)
theorem dX1_works_33 : decode cX1_works 33 = .ok (.goto 8, 3) := dk_167 0 8 (dk_at dksX1_works_1 11 rfl rfl)
theorem dX1_works_36 : decode cX1_works 36 = .ok (.aload_n 0, 1) := dk_42 (dk_at dksX1_works_1 14 rfl rfl)
theorem dX1_works_37 : decode cX1_works 37 = .ok (.iconst 1, 1) := dk_4 (dk_at dksX1_works_1 15 rfl rfl)
theorem dX1_works_38 : decode cX1_works 38 = .ok (.invokevirtual 127, 3) := dk_182 0 127 (dk_at dksX1_works_1 16 rfl rfl)
theorem dX1_works_41 : decode cX1_works 41 = .ok (.ireturn, 1) := dk_172 (dk_at dksX1_works_1 19 rfl rfl)
abbrev cX1_doesWork : ByteArray := prog_1_method_40_code
def yX1_doesWork : MethodName := ⟨RX1, "doesWork", "(LFifthCard$Rule;)Z"⟩
def dkwX1_doesWork_0 : List UInt8 := [42, 43, 182, 1, 22, 154, 0, 17, 42, 43, 182, 1, 26, 16, 254, 160, 0, 7, 4, 167, 0, 4, 3, 172]
abbrev dktX1_doesWork_0 : List UInt8 := dkwX1_doesWork_0 ++ []
theorem dksX1_doesWork_0 : cX1_doesWork.data.toList.drop 0 = dktX1_doesWork_0 := by decide +kernel
theorem dX1_doesWork_0 : decode cX1_doesWork 0 = .ok (.aload_n 0, 1) := dk_42 (dk_at dksX1_doesWork_0 0 rfl rfl)
theorem dX1_doesWork_1 : decode cX1_doesWork 1 = .ok (.aload_n 1, 1) := dk_43 (dk_at dksX1_doesWork_0 1 rfl rfl)
theorem dX1_doesWork_2 : decode cX1_doesWork 2 = .ok (.invokevirtual 278, 3) := dk_182 1 22 (dk_at dksX1_doesWork_0 2 rfl rfl)
theorem dX1_doesWork_5 : decode cX1_doesWork 5 = .ok (.ifCond .ne 17, 3) := dk_154 0 17 (dk_at dksX1_doesWork_0 5 rfl rfl)
theorem dX1_doesWork_8 : decode cX1_doesWork 8 = .ok (.aload_n 0, 1) := dk_42 (dk_at dksX1_doesWork_0 8 rfl rfl)
theorem dX1_doesWork_9 : decode cX1_doesWork 9 = .ok (.aload_n 1, 1) := dk_43 (dk_at dksX1_doesWork_0 9 rfl rfl)
theorem dX1_doesWork_10 : decode cX1_doesWork 10 = .ok (.invokevirtual 282, 3) := dk_182 1 26 (dk_at dksX1_doesWork_0 10 rfl rfl)
theorem dX1_doesWork_13 : decode cX1_doesWork 13 = .ok (.bipush (-2), 2) := dk_16 254 (dk_at dksX1_doesWork_0 13 rfl rfl)
theorem dX1_doesWork_15 : decode cX1_doesWork 15 = .ok (.if_icmp .ne 7, 3) := dk_160 0 7 (dk_at dksX1_doesWork_0 15 rfl rfl)
theorem dX1_doesWork_18 : decode cX1_doesWork 18 = .ok (.iconst 1, 1) := dk_4 (dk_at dksX1_doesWork_0 18 rfl rfl)
theorem dX1_doesWork_19 : decode cX1_doesWork 19 = .ok (.goto 4, 3) := dk_167 0 4 (dk_at dksX1_doesWork_0 19 rfl rfl)
theorem dX1_doesWork_22 : decode cX1_doesWork 22 = .ok (.iconst 0, 1) := dk_3 (dk_at dksX1_doesWork_0 22 rfl rfl)
theorem dX1_doesWork_23 : decode cX1_doesWork 23 = .ok (.ireturn, 1) := dk_172 (dk_at dksX1_doesWork_0 23 rfl rfl)
abbrev cX1_failsOf : ByteArray := prog_1_method_39_code
def yX1_failsOf : MethodName := ⟨RX1, "failsOf", "(LFifthCard$Rule;)I"⟩
def dkwX1_failsOf_1 : List UInt8 := [16, 254, 160, 0, 7, 4, 167, 0, 4, 3, 96, 61, 132, 3, 1, 167, 255, 226, 28, 172]
abbrev dktX1_failsOf_1 : List UInt8 := dkwX1_failsOf_1 ++ []
def dkwX1_failsOf_0 : List UInt8 := [42, 43, 182, 0, 249, 3, 61, 3, 62, 29, 42, 180, 0, 155, 162, 0, 28, 28, 43, 180, 0, 238, 29, 46]
abbrev dktX1_failsOf_0 : List UInt8 := dkwX1_failsOf_0 ++ dktX1_failsOf_1
theorem dksX1_failsOf_0 : cX1_failsOf.data.toList.drop 0 = dktX1_failsOf_0 := by decide +kernel
theorem dksX1_failsOf_1 : cX1_failsOf.data.toList.drop 24 = dktX1_failsOf_1 := dk_seg dksX1_failsOf_0 24 rfl rfl
theorem dX1_failsOf_0 : decode cX1_failsOf 0 = .ok (.aload_n 0, 1) := dk_42 (dk_at dksX1_failsOf_0 0 rfl rfl)
theorem dX1_failsOf_1 : decode cX1_failsOf 1 = .ok (.aload_n 1, 1) := dk_43 (dk_at dksX1_failsOf_0 1 rfl rfl)
theorem dX1_failsOf_2 : decode cX1_failsOf 2 = .ok (.invokevirtual 249, 3) := dk_182 0 249 (dk_at dksX1_failsOf_0 2 rfl rfl)
theorem dX1_failsOf_5 : decode cX1_failsOf 5 = .ok (.iconst 0, 1) := dk_3 (dk_at dksX1_failsOf_0 5 rfl rfl)
theorem dX1_failsOf_6 : decode cX1_failsOf 6 = .ok (.istore_n 2, 1) := dk_61 (dk_at dksX1_failsOf_0 6 rfl rfl)
theorem dX1_failsOf_7 : decode cX1_failsOf 7 = .ok (.iconst 0, 1) := dk_3 (dk_at dksX1_failsOf_0 7 rfl rfl)
theorem dX1_failsOf_8 : decode cX1_failsOf 8 = .ok (.istore_n 3, 1) := dk_62 (dk_at dksX1_failsOf_0 8 rfl rfl)
theorem dX1_failsOf_9 : decode cX1_failsOf 9 = .ok (.iload_n 3, 1) := dk_29 (dk_at dksX1_failsOf_0 9 rfl rfl)
theorem dX1_failsOf_10 : decode cX1_failsOf 10 = .ok (.aload_n 0, 1) := dk_42 (dk_at dksX1_failsOf_0 10 rfl rfl)
theorem dX1_failsOf_11 : decode cX1_failsOf 11 = .ok (.getfield 155, 3) := dk_180 0 155 (dk_at dksX1_failsOf_0 11 rfl rfl)
theorem dX1_failsOf_14 : decode cX1_failsOf 14 = .ok (.if_icmp .ge 28, 3) := dk_162 0 28 (dk_at dksX1_failsOf_0 14 rfl rfl)
theorem dX1_failsOf_17 : decode cX1_failsOf 17 = .ok (.iload_n 2, 1) := dk_28 (dk_at dksX1_failsOf_0 17 rfl rfl)
theorem dX1_failsOf_18 : decode cX1_failsOf 18 = .ok (.aload_n 1, 1) := dk_43 (dk_at dksX1_failsOf_0 18 rfl rfl)
theorem dX1_failsOf_19 : decode cX1_failsOf 19 = .ok (.getfield 238, 3) := dk_180 0 238 (dk_at dksX1_failsOf_0 19 rfl rfl)
theorem dX1_failsOf_22 : decode cX1_failsOf 22 = .ok (.iload_n 3, 1) := dk_29 (dk_at dksX1_failsOf_0 22 rfl rfl)
theorem dX1_failsOf_23 : decode cX1_failsOf 23 = .ok (.iaload, 1) := dk_46 (dk_at dksX1_failsOf_0 23 rfl rfl)
theorem dX1_failsOf_24 : decode cX1_failsOf 24 = .ok (.bipush (-2), 2) := dk_16 254 (dk_at dksX1_failsOf_1 0 rfl rfl)
theorem dX1_failsOf_26 : decode cX1_failsOf 26 = .ok (.if_icmp .ne 7, 3) := dk_160 0 7 (dk_at dksX1_failsOf_1 2 rfl rfl)
theorem dX1_failsOf_29 : decode cX1_failsOf 29 = .ok (.iconst 1, 1) := dk_4 (dk_at dksX1_failsOf_1 5 rfl rfl)
theorem dX1_failsOf_30 : decode cX1_failsOf 30 = .ok (.goto 4, 3) := dk_167 0 4 (dk_at dksX1_failsOf_1 6 rfl rfl)
theorem dX1_failsOf_33 : decode cX1_failsOf 33 = .ok (.iconst 0, 1) := dk_3 (dk_at dksX1_failsOf_1 9 rfl rfl)
theorem dX1_failsOf_34 : decode cX1_failsOf 34 = .ok (.iadd, 1) := dk_96 (dk_at dksX1_failsOf_1 10 rfl rfl)
theorem dX1_failsOf_35 : decode cX1_failsOf 35 = .ok (.istore_n 2, 1) := dk_61 (dk_at dksX1_failsOf_1 11 rfl rfl)
theorem dX1_failsOf_36 : decode cX1_failsOf 36 = .ok (.iinc 3 1, 3) := dk_132 3 1 (dk_at dksX1_failsOf_1 12 rfl rfl)
theorem dX1_failsOf_39 : decode cX1_failsOf 39 = .ok (.goto (-30), 3) := dk_167 255 226 (dk_at dksX1_failsOf_1 15 rfl rfl)
theorem dX1_failsOf_42 : decode cX1_failsOf 42 = .ok (.iload_n 2, 1) := dk_28 (dk_at dksX1_failsOf_1 18 rfl rfl)
theorem dX1_failsOf_43 : decode cX1_failsOf 43 = .ok (.ireturn, 1) := dk_172 (dk_at dksX1_failsOf_1 19 rfl rfl)
abbrev cX1_clashOf : ByteArray := prog_1_method_38_code
def yX1_clashOf : MethodName := ⟨RX1, "clashOf", "(LFifthCard$Rule;)I"⟩
def dkwX1_clashOf_3 : List UInt8 := [132, 2, 1, 167, 255, 199, 16, 254, 172]
abbrev dktX1_clashOf_3 : List UInt8 := dkwX1_clashOf_3 ++ []
def dkwX1_clashOf_2 : List UInt8 := [182, 1, 16, 153, 0, 5, 28, 172, 42, 180, 0, 73, 43, 180, 0, 238, 28, 46, 28, 182, 1, 19]
abbrev dktX1_clashOf_2 : List UInt8 := dkwX1_clashOf_2 ++ dktX1_clashOf_3
def dkwX1_clashOf_1 : List UInt8 := [180, 0, 238, 28, 46, 16, 254, 160, 0, 6, 167, 0, 35, 42, 180, 0, 73, 43, 180, 0, 238, 28, 46]
abbrev dktX1_clashOf_1 : List UInt8 := dkwX1_clashOf_1 ++ dktX1_clashOf_2
def dkwX1_clashOf_0 : List UInt8 := [42, 43, 182, 0, 249, 42, 180, 0, 73, 182, 1, 13, 3, 61, 28, 42, 180, 0, 155, 162, 0, 55, 43]
abbrev dktX1_clashOf_0 : List UInt8 := dkwX1_clashOf_0 ++ dktX1_clashOf_1
theorem dksX1_clashOf_0 : cX1_clashOf.data.toList.drop 0 = dktX1_clashOf_0 := by decide +kernel
theorem dksX1_clashOf_1 : cX1_clashOf.data.toList.drop 23 = dktX1_clashOf_1 := dk_seg dksX1_clashOf_0 23 rfl rfl
theorem dksX1_clashOf_2 : cX1_clashOf.data.toList.drop 46 = dktX1_clashOf_2 := dk_seg dksX1_clashOf_1 23 rfl rfl
theorem dksX1_clashOf_3 : cX1_clashOf.data.toList.drop 68 = dktX1_clashOf_3 := dk_seg dksX1_clashOf_2 22 rfl rfl
theorem dX1_clashOf_0 : decode cX1_clashOf 0 = .ok (.aload_n 0, 1) := dk_42 (dk_at dksX1_clashOf_0 0 rfl rfl)
theorem dX1_clashOf_1 : decode cX1_clashOf 1 = .ok (.aload_n 1, 1) := dk_43 (dk_at dksX1_clashOf_0 1 rfl rfl)
theorem dX1_clashOf_2 : decode cX1_clashOf 2 = .ok (.invokevirtual 249, 3) := dk_182 0 249 (dk_at dksX1_clashOf_0 2 rfl rfl)
theorem dX1_clashOf_5 : decode cX1_clashOf 5 = .ok (.aload_n 0, 1) := dk_42 (dk_at dksX1_clashOf_0 5 rfl rfl)
theorem dX1_clashOf_6 : decode cX1_clashOf 6 = .ok (.getfield 73, 3) := dk_180 0 73 (dk_at dksX1_clashOf_0 6 rfl rfl)
theorem dX1_clashOf_9 : decode cX1_clashOf 9 = .ok (.invokevirtual 269, 3) := dk_182 1 13 (dk_at dksX1_clashOf_0 9 rfl rfl)
theorem dX1_clashOf_12 : decode cX1_clashOf 12 = .ok (.iconst 0, 1) := dk_3 (dk_at dksX1_clashOf_0 12 rfl rfl)
theorem dX1_clashOf_13 : decode cX1_clashOf 13 = .ok (.istore_n 2, 1) := dk_61 (dk_at dksX1_clashOf_0 13 rfl rfl)
theorem dX1_clashOf_14 : decode cX1_clashOf 14 = .ok (.iload_n 2, 1) := dk_28 (dk_at dksX1_clashOf_0 14 rfl rfl)
theorem dX1_clashOf_15 : decode cX1_clashOf 15 = .ok (.aload_n 0, 1) := dk_42 (dk_at dksX1_clashOf_0 15 rfl rfl)
theorem dX1_clashOf_16 : decode cX1_clashOf 16 = .ok (.getfield 155, 3) := dk_180 0 155 (dk_at dksX1_clashOf_0 16 rfl rfl)
theorem dX1_clashOf_19 : decode cX1_clashOf 19 = .ok (.if_icmp .ge 55, 3) := dk_162 0 55 (dk_at dksX1_clashOf_0 19 rfl rfl)
theorem dX1_clashOf_22 : decode cX1_clashOf 22 = .ok (.aload_n 1, 1) := dk_43 (dk_at dksX1_clashOf_0 22 rfl rfl)
theorem dX1_clashOf_23 : decode cX1_clashOf 23 = .ok (.getfield 238, 3) := dk_180 0 238 (dk_at dksX1_clashOf_1 0 rfl rfl)
theorem dX1_clashOf_26 : decode cX1_clashOf 26 = .ok (.iload_n 2, 1) := dk_28 (dk_at dksX1_clashOf_1 3 rfl rfl)
theorem dX1_clashOf_27 : decode cX1_clashOf 27 = .ok (.iaload, 1) := dk_46 (dk_at dksX1_clashOf_1 4 rfl rfl)
theorem dX1_clashOf_28 : decode cX1_clashOf 28 = .ok (.bipush (-2), 2) := dk_16 254 (dk_at dksX1_clashOf_1 5 rfl rfl)
theorem dX1_clashOf_30 : decode cX1_clashOf 30 = .ok (.if_icmp .ne 6, 3) := dk_160 0 6 (dk_at dksX1_clashOf_1 7 rfl rfl)
theorem dX1_clashOf_33 : decode cX1_clashOf 33 = .ok (.goto 35, 3) := dk_167 0 35 (dk_at dksX1_clashOf_1 10 rfl rfl)
theorem dX1_clashOf_36 : decode cX1_clashOf 36 = .ok (.aload_n 0, 1) := dk_42 (dk_at dksX1_clashOf_1 13 rfl rfl)
theorem dX1_clashOf_37 : decode cX1_clashOf 37 = .ok (.getfield 73, 3) := dk_180 0 73 (dk_at dksX1_clashOf_1 14 rfl rfl)
theorem dX1_clashOf_40 : decode cX1_clashOf 40 = .ok (.aload_n 1, 1) := dk_43 (dk_at dksX1_clashOf_1 17 rfl rfl)
theorem dX1_clashOf_41 : decode cX1_clashOf 41 = .ok (.getfield 238, 3) := dk_180 0 238 (dk_at dksX1_clashOf_1 18 rfl rfl)
theorem dX1_clashOf_44 : decode cX1_clashOf 44 = .ok (.iload_n 2, 1) := dk_28 (dk_at dksX1_clashOf_1 21 rfl rfl)
theorem dX1_clashOf_45 : decode cX1_clashOf 45 = .ok (.iaload, 1) := dk_46 (dk_at dksX1_clashOf_1 22 rfl rfl)
theorem dX1_clashOf_46 : decode cX1_clashOf 46 = .ok (.invokevirtual 272, 3) := dk_182 1 16 (dk_at dksX1_clashOf_2 0 rfl rfl)
theorem dX1_clashOf_49 : decode cX1_clashOf 49 = .ok (.ifCond .eq 5, 3) := dk_153 0 5 (dk_at dksX1_clashOf_2 3 rfl rfl)
theorem dX1_clashOf_52 : decode cX1_clashOf 52 = .ok (.iload_n 2, 1) := dk_28 (dk_at dksX1_clashOf_2 6 rfl rfl)
theorem dX1_clashOf_53 : decode cX1_clashOf 53 = .ok (.ireturn, 1) := dk_172 (dk_at dksX1_clashOf_2 7 rfl rfl)
theorem dX1_clashOf_54 : decode cX1_clashOf 54 = .ok (.aload_n 0, 1) := dk_42 (dk_at dksX1_clashOf_2 8 rfl rfl)
theorem dX1_clashOf_55 : decode cX1_clashOf 55 = .ok (.getfield 73, 3) := dk_180 0 73 (dk_at dksX1_clashOf_2 9 rfl rfl)
theorem dX1_clashOf_58 : decode cX1_clashOf 58 = .ok (.aload_n 1, 1) := dk_43 (dk_at dksX1_clashOf_2 12 rfl rfl)
theorem dX1_clashOf_59 : decode cX1_clashOf 59 = .ok (.getfield 238, 3) := dk_180 0 238 (dk_at dksX1_clashOf_2 13 rfl rfl)
theorem dX1_clashOf_62 : decode cX1_clashOf 62 = .ok (.iload_n 2, 1) := dk_28 (dk_at dksX1_clashOf_2 16 rfl rfl)
theorem dX1_clashOf_63 : decode cX1_clashOf 63 = .ok (.iaload, 1) := dk_46 (dk_at dksX1_clashOf_2 17 rfl rfl)
theorem dX1_clashOf_64 : decode cX1_clashOf 64 = .ok (.iload_n 2, 1) := dk_28 (dk_at dksX1_clashOf_2 18 rfl rfl)
theorem dX1_clashOf_65 : decode cX1_clashOf 65 = .ok (.invokevirtual 275, 3) := dk_182 1 19 (dk_at dksX1_clashOf_2 19 rfl rfl)
theorem dX1_clashOf_68 : decode cX1_clashOf 68 = .ok (.iinc 2 1, 3) := dk_132 2 1 (dk_at dksX1_clashOf_3 0 rfl rfl)
theorem dX1_clashOf_71 : decode cX1_clashOf 71 = .ok (.goto (-57), 3) := dk_167 255 199 (dk_at dksX1_clashOf_3 3 rfl rfl)
theorem dX1_clashOf_74 : decode cX1_clashOf 74 = .ok (.bipush (-2), 2) := dk_16 254 (dk_at dksX1_clashOf_3 6 rfl rfl)
theorem dX1_clashOf_76 : decode cX1_clashOf 76 = .ok (.ireturn, 1) := dk_172 (dk_at dksX1_clashOf_3 8 rfl rfl)
abbrev cX1_clash : ByteArray := prog_1_method_42_code
def yX1_clash : MethodName := ⟨RX1, "clash", "(IZ)I"⟩
def dkwX1_clash_2 : List UInt8 := [180, 0, 73, 42, 180, 0, 137, 180, 0, 246, 27, 50, 180, 0, 238, 29, 46, 182, 1, 33, 172]
abbrev dktX1_clash_2 : List UInt8 := dkwX1_clash_2 ++ []
def dkwX1_clash_1 : List UInt8 := [180, 0, 246, 27, 50, 182, 1, 26, 62, 29, 16, 254, 159, 0, 7, 28, 154, 0, 7, 29, 167, 0, 24, 42]
abbrev dktX1_clash_1 : List UInt8 := dkwX1_clash_1 ++ dktX1_clash_2
def dkwX1_clash_0 : List UInt8 := [42, 182, 0, 113, 42, 27, 182, 0, 252, 154, 0, 9, 42, 4, 182, 0, 127, 172, 42, 42, 180, 0, 137]
abbrev dktX1_clash_0 : List UInt8 := dkwX1_clash_0 ++ dktX1_clash_1
theorem dksX1_clash_0 : cX1_clash.data.toList.drop 0 = dktX1_clash_0 := by decide +kernel
theorem dksX1_clash_1 : cX1_clash.data.toList.drop 23 = dktX1_clash_1 := dk_seg dksX1_clash_0 23 rfl rfl
theorem dksX1_clash_2 : cX1_clash.data.toList.drop 47 = dktX1_clash_2 := dk_seg dksX1_clash_1 24 rfl rfl
theorem dX1_clash_0 : decode cX1_clash 0 = .ok (.aload_n 0, 1) := dk_42 (dk_at dksX1_clash_0 0 rfl rfl)
theorem dX1_clash_1 : decode cX1_clash 1 = .ok (.invokevirtual 113, 3) := dk_182 0 113 (dk_at dksX1_clash_0 1 rfl rfl)
theorem dX1_clash_4 : decode cX1_clash 4 = .ok (.aload_n 0, 1) := dk_42 (dk_at dksX1_clash_0 4 rfl rfl)
theorem dX1_clash_5 : decode cX1_clash 5 = .ok (.iload_n 1, 1) := dk_27 (dk_at dksX1_clash_0 5 rfl rfl)
theorem dX1_clash_6 : decode cX1_clash 6 = .ok (.invokevirtual 252, 3) := dk_182 0 252 (dk_at dksX1_clash_0 6 rfl rfl)
theorem dX1_clash_9 : decode cX1_clash 9 = .ok (.ifCond .ne 9, 3) := dk_154 0 9 (dk_at dksX1_clash_0 9 rfl rfl)
theorem dX1_clash_12 : decode cX1_clash 12 = .ok (.aload_n 0, 1) := dk_42 (dk_at dksX1_clash_0 12 rfl rfl)
theorem dX1_clash_13 : decode cX1_clash 13 = .ok (.iconst 1, 1) := dk_4 (dk_at dksX1_clash_0 13 rfl rfl)
theorem dX1_clash_14 : decode cX1_clash 14 = .ok (.invokevirtual 127, 3) := dk_182 0 127 (dk_at dksX1_clash_0 14 rfl rfl)
theorem dX1_clash_17 : decode cX1_clash 17 = .ok (.ireturn, 1) := dk_172 (dk_at dksX1_clash_0 17 rfl rfl)
theorem dX1_clash_18 : decode cX1_clash 18 = .ok (.aload_n 0, 1) := dk_42 (dk_at dksX1_clash_0 18 rfl rfl)
theorem dX1_clash_19 : decode cX1_clash 19 = .ok (.aload_n 0, 1) := dk_42 (dk_at dksX1_clash_0 19 rfl rfl)
theorem dX1_clash_20 : decode cX1_clash 20 = .ok (.getfield 137, 3) := dk_180 0 137 (dk_at dksX1_clash_0 20 rfl rfl)
theorem dX1_clash_23 : decode cX1_clash 23 = .ok (.getfield 246, 3) := dk_180 0 246 (dk_at dksX1_clash_1 0 rfl rfl)
theorem dX1_clash_26 : decode cX1_clash 26 = .ok (.iload_n 1, 1) := dk_27 (dk_at dksX1_clash_1 3 rfl rfl)
theorem dX1_clash_27 : decode cX1_clash 27 = .ok (.aaload, 1) := dk_50 (dk_at dksX1_clash_1 4 rfl rfl)
theorem dX1_clash_28 : decode cX1_clash 28 = .ok (.invokevirtual 282, 3) := dk_182 1 26 (dk_at dksX1_clash_1 5 rfl rfl)
theorem dX1_clash_31 : decode cX1_clash 31 = .ok (.istore_n 3, 1) := dk_62 (dk_at dksX1_clash_1 8 rfl rfl)
theorem dX1_clash_32 : decode cX1_clash 32 = .ok (.iload_n 3, 1) := dk_29 (dk_at dksX1_clash_1 9 rfl rfl)
theorem dX1_clash_33 : decode cX1_clash 33 = .ok (.bipush (-2), 2) := dk_16 254 (dk_at dksX1_clash_1 10 rfl rfl)
theorem dX1_clash_35 : decode cX1_clash 35 = .ok (.if_icmp .eq 7, 3) := dk_159 0 7 (dk_at dksX1_clash_1 12 rfl rfl)
theorem dX1_clash_38 : decode cX1_clash 38 = .ok (.iload_n 2, 1) := dk_28 (dk_at dksX1_clash_1 15 rfl rfl)
theorem dX1_clash_39 : decode cX1_clash 39 = .ok (.ifCond .ne 7, 3) := dk_154 0 7 (dk_at dksX1_clash_1 16 rfl rfl)
theorem dX1_clash_42 : decode cX1_clash 42 = .ok (.iload_n 3, 1) := dk_29 (dk_at dksX1_clash_1 19 rfl rfl)
theorem dX1_clash_43 : decode cX1_clash 43 = .ok (.goto 24, 3) := dk_167 0 24 (dk_at dksX1_clash_1 20 rfl rfl)
theorem dX1_clash_46 : decode cX1_clash 46 = .ok (.aload_n 0, 1) := dk_42 (dk_at dksX1_clash_1 23 rfl rfl)
theorem dX1_clash_47 : decode cX1_clash 47 = .ok (.getfield 73, 3) := dk_180 0 73 (dk_at dksX1_clash_2 0 rfl rfl)
theorem dX1_clash_50 : decode cX1_clash 50 = .ok (.aload_n 0, 1) := dk_42 (dk_at dksX1_clash_2 3 rfl rfl)
theorem dX1_clash_51 : decode cX1_clash 51 = .ok (.getfield 137, 3) := dk_180 0 137 (dk_at dksX1_clash_2 4 rfl rfl)
theorem dX1_clash_54 : decode cX1_clash 54 = .ok (.getfield 246, 3) := dk_180 0 246 (dk_at dksX1_clash_2 7 rfl rfl)
theorem dX1_clash_57 : decode cX1_clash 57 = .ok (.iload_n 1, 1) := dk_27 (dk_at dksX1_clash_2 10 rfl rfl)
theorem dX1_clash_58 : decode cX1_clash 58 = .ok (.aaload, 1) := dk_50 (dk_at dksX1_clash_2 11 rfl rfl)
theorem dX1_clash_59 : decode cX1_clash 59 = .ok (.getfield 238, 3) := dk_180 0 238 (dk_at dksX1_clash_2 12 rfl rfl)
theorem dX1_clash_62 : decode cX1_clash 62 = .ok (.iload_n 3, 1) := dk_29 (dk_at dksX1_clash_2 15 rfl rfl)
theorem dX1_clash_63 : decode cX1_clash 63 = .ok (.iaload, 1) := dk_46 (dk_at dksX1_clash_2 16 rfl rfl)
theorem dX1_clash_64 : decode cX1_clash 64 = .ok (.invokevirtual 289, 3) := dk_182 1 33 (dk_at dksX1_clash_2 17 rfl rfl)
theorem dX1_clash_67 : decode cX1_clash 67 = .ok (.ireturn, 1) := dk_172 (dk_at dksX1_clash_2 20 rfl rfl)
abbrev cX1_laid : ByteArray := prog_1_method_43_code
def yX1_laid : MethodName := ⟨RX1, "laid", "(I)I"⟩
def dkwX1_laid_4 : List UInt8 := [180, 0, 238, 21, 4, 46, 21, 4, 182, 1, 19, 132, 3, 1, 132, 4, 1, 167, 255, 193, 29, 172]
abbrev dktX1_laid_4 : List UInt8 := dkwX1_laid_4 ++ []
def dkwX1_laid_3 : List UInt8 := [180, 0, 73, 44, 180, 0, 238, 21, 4, 46, 182, 1, 16, 153, 0, 6, 167, 0, 22, 42, 180, 0, 73, 44]
abbrev dktX1_laid_3 : List UInt8 := dkwX1_laid_3 ++ dktX1_laid_4
def dkwX1_laid_2 : List UInt8 := [21, 4, 42, 180, 0, 155, 162, 0, 60, 44, 180, 0, 238, 21, 4, 46, 16, 254, 159, 0, 42, 42]
abbrev dktX1_laid_2 : List UInt8 := dkwX1_laid_2 ++ dktX1_laid_3
def dkwX1_laid_1 : List UInt8 := [180, 0, 246, 27, 50, 77, 42, 44, 182, 0, 249, 42, 180, 0, 73, 182, 1, 13, 3, 62, 3, 54, 4]
abbrev dktX1_laid_1 : List UInt8 := dkwX1_laid_1 ++ dktX1_laid_2
def dkwX1_laid_0 : List UInt8 := [42, 182, 0, 113, 42, 27, 182, 0, 252, 154, 0, 9, 42, 4, 182, 0, 127, 172, 42, 180, 0, 137]
abbrev dktX1_laid_0 : List UInt8 := dkwX1_laid_0 ++ dktX1_laid_1
theorem dksX1_laid_0 : cX1_laid.data.toList.drop 0 = dktX1_laid_0 := by decide +kernel
theorem dksX1_laid_1 : cX1_laid.data.toList.drop 22 = dktX1_laid_1 := dk_seg dksX1_laid_0 22 rfl rfl
theorem dksX1_laid_2 : cX1_laid.data.toList.drop 45 = dktX1_laid_2 := dk_seg dksX1_laid_1 23 rfl rfl
theorem dksX1_laid_3 : cX1_laid.data.toList.drop 67 = dktX1_laid_3 := dk_seg dksX1_laid_2 22 rfl rfl
theorem dksX1_laid_4 : cX1_laid.data.toList.drop 91 = dktX1_laid_4 := dk_seg dksX1_laid_3 24 rfl rfl
theorem dX1_laid_0 : decode cX1_laid 0 = .ok (.aload_n 0, 1) := dk_42 (dk_at dksX1_laid_0 0 rfl rfl)
theorem dX1_laid_1 : decode cX1_laid 1 = .ok (.invokevirtual 113, 3) := dk_182 0 113 (dk_at dksX1_laid_0 1 rfl rfl)
theorem dX1_laid_4 : decode cX1_laid 4 = .ok (.aload_n 0, 1) := dk_42 (dk_at dksX1_laid_0 4 rfl rfl)
theorem dX1_laid_5 : decode cX1_laid 5 = .ok (.iload_n 1, 1) := dk_27 (dk_at dksX1_laid_0 5 rfl rfl)
theorem dX1_laid_6 : decode cX1_laid 6 = .ok (.invokevirtual 252, 3) := dk_182 0 252 (dk_at dksX1_laid_0 6 rfl rfl)
theorem dX1_laid_9 : decode cX1_laid 9 = .ok (.ifCond .ne 9, 3) := dk_154 0 9 (dk_at dksX1_laid_0 9 rfl rfl)
theorem dX1_laid_12 : decode cX1_laid 12 = .ok (.aload_n 0, 1) := dk_42 (dk_at dksX1_laid_0 12 rfl rfl)
theorem dX1_laid_13 : decode cX1_laid 13 = .ok (.iconst 1, 1) := dk_4 (dk_at dksX1_laid_0 13 rfl rfl)
theorem dX1_laid_14 : decode cX1_laid 14 = .ok (.invokevirtual 127, 3) := dk_182 0 127 (dk_at dksX1_laid_0 14 rfl rfl)
theorem dX1_laid_17 : decode cX1_laid 17 = .ok (.ireturn, 1) := dk_172 (dk_at dksX1_laid_0 17 rfl rfl)
theorem dX1_laid_18 : decode cX1_laid 18 = .ok (.aload_n 0, 1) := dk_42 (dk_at dksX1_laid_0 18 rfl rfl)
theorem dX1_laid_19 : decode cX1_laid 19 = .ok (.getfield 137, 3) := dk_180 0 137 (dk_at dksX1_laid_0 19 rfl rfl)
theorem dX1_laid_22 : decode cX1_laid 22 = .ok (.getfield 246, 3) := dk_180 0 246 (dk_at dksX1_laid_1 0 rfl rfl)
theorem dX1_laid_25 : decode cX1_laid 25 = .ok (.iload_n 1, 1) := dk_27 (dk_at dksX1_laid_1 3 rfl rfl)
theorem dX1_laid_26 : decode cX1_laid 26 = .ok (.aaload, 1) := dk_50 (dk_at dksX1_laid_1 4 rfl rfl)
theorem dX1_laid_27 : decode cX1_laid 27 = .ok (.astore_n 2, 1) := dk_77 (dk_at dksX1_laid_1 5 rfl rfl)
theorem dX1_laid_28 : decode cX1_laid 28 = .ok (.aload_n 0, 1) := dk_42 (dk_at dksX1_laid_1 6 rfl rfl)
theorem dX1_laid_29 : decode cX1_laid 29 = .ok (.aload_n 2, 1) := dk_44 (dk_at dksX1_laid_1 7 rfl rfl)
theorem dX1_laid_30 : decode cX1_laid 30 = .ok (.invokevirtual 249, 3) := dk_182 0 249 (dk_at dksX1_laid_1 8 rfl rfl)
theorem dX1_laid_33 : decode cX1_laid 33 = .ok (.aload_n 0, 1) := dk_42 (dk_at dksX1_laid_1 11 rfl rfl)
theorem dX1_laid_34 : decode cX1_laid 34 = .ok (.getfield 73, 3) := dk_180 0 73 (dk_at dksX1_laid_1 12 rfl rfl)
theorem dX1_laid_37 : decode cX1_laid 37 = .ok (.invokevirtual 269, 3) := dk_182 1 13 (dk_at dksX1_laid_1 15 rfl rfl)
theorem dX1_laid_40 : decode cX1_laid 40 = .ok (.iconst 0, 1) := dk_3 (dk_at dksX1_laid_1 18 rfl rfl)
theorem dX1_laid_41 : decode cX1_laid 41 = .ok (.istore_n 3, 1) := dk_62 (dk_at dksX1_laid_1 19 rfl rfl)
theorem dX1_laid_42 : decode cX1_laid 42 = .ok (.iconst 0, 1) := dk_3 (dk_at dksX1_laid_1 20 rfl rfl)
theorem dX1_laid_43 : decode cX1_laid 43 = .ok (.istore 4, 2) := dk_54 4 (dk_at dksX1_laid_1 21 rfl rfl)
theorem dX1_laid_45 : decode cX1_laid 45 = .ok (.iload 4, 2) := dk_21 4 (dk_at dksX1_laid_2 0 rfl rfl)
theorem dX1_laid_47 : decode cX1_laid 47 = .ok (.aload_n 0, 1) := dk_42 (dk_at dksX1_laid_2 2 rfl rfl)
theorem dX1_laid_48 : decode cX1_laid 48 = .ok (.getfield 155, 3) := dk_180 0 155 (dk_at dksX1_laid_2 3 rfl rfl)
theorem dX1_laid_51 : decode cX1_laid 51 = .ok (.if_icmp .ge 60, 3) := dk_162 0 60 (dk_at dksX1_laid_2 6 rfl rfl)
theorem dX1_laid_54 : decode cX1_laid 54 = .ok (.aload_n 2, 1) := dk_44 (dk_at dksX1_laid_2 9 rfl rfl)
theorem dX1_laid_55 : decode cX1_laid 55 = .ok (.getfield 238, 3) := dk_180 0 238 (dk_at dksX1_laid_2 10 rfl rfl)
theorem dX1_laid_58 : decode cX1_laid 58 = .ok (.iload 4, 2) := dk_21 4 (dk_at dksX1_laid_2 13 rfl rfl)
theorem dX1_laid_60 : decode cX1_laid 60 = .ok (.iaload, 1) := dk_46 (dk_at dksX1_laid_2 15 rfl rfl)
theorem dX1_laid_61 : decode cX1_laid 61 = .ok (.bipush (-2), 2) := dk_16 254 (dk_at dksX1_laid_2 16 rfl rfl)
theorem dX1_laid_63 : decode cX1_laid 63 = .ok (.if_icmp .eq 42, 3) := dk_159 0 42 (dk_at dksX1_laid_2 18 rfl rfl)
theorem dX1_laid_66 : decode cX1_laid 66 = .ok (.aload_n 0, 1) := dk_42 (dk_at dksX1_laid_2 21 rfl rfl)
theorem dX1_laid_67 : decode cX1_laid 67 = .ok (.getfield 73, 3) := dk_180 0 73 (dk_at dksX1_laid_3 0 rfl rfl)
theorem dX1_laid_70 : decode cX1_laid 70 = .ok (.aload_n 2, 1) := dk_44 (dk_at dksX1_laid_3 3 rfl rfl)
theorem dX1_laid_71 : decode cX1_laid 71 = .ok (.getfield 238, 3) := dk_180 0 238 (dk_at dksX1_laid_3 4 rfl rfl)
theorem dX1_laid_74 : decode cX1_laid 74 = .ok (.iload 4, 2) := dk_21 4 (dk_at dksX1_laid_3 7 rfl rfl)
theorem dX1_laid_76 : decode cX1_laid 76 = .ok (.iaload, 1) := dk_46 (dk_at dksX1_laid_3 9 rfl rfl)
theorem dX1_laid_77 : decode cX1_laid 77 = .ok (.invokevirtual 272, 3) := dk_182 1 16 (dk_at dksX1_laid_3 10 rfl rfl)
theorem dX1_laid_80 : decode cX1_laid 80 = .ok (.ifCond .eq 6, 3) := dk_153 0 6 (dk_at dksX1_laid_3 13 rfl rfl)
theorem dX1_laid_83 : decode cX1_laid 83 = .ok (.goto 22, 3) := dk_167 0 22 (dk_at dksX1_laid_3 16 rfl rfl)
theorem dX1_laid_86 : decode cX1_laid 86 = .ok (.aload_n 0, 1) := dk_42 (dk_at dksX1_laid_3 19 rfl rfl)
theorem dX1_laid_87 : decode cX1_laid 87 = .ok (.getfield 73, 3) := dk_180 0 73 (dk_at dksX1_laid_3 20 rfl rfl)
theorem dX1_laid_90 : decode cX1_laid 90 = .ok (.aload_n 2, 1) := dk_44 (dk_at dksX1_laid_3 23 rfl rfl)
theorem dX1_laid_91 : decode cX1_laid 91 = .ok (.getfield 238, 3) := dk_180 0 238 (dk_at dksX1_laid_4 0 rfl rfl)
theorem dX1_laid_94 : decode cX1_laid 94 = .ok (.iload 4, 2) := dk_21 4 (dk_at dksX1_laid_4 3 rfl rfl)
theorem dX1_laid_96 : decode cX1_laid 96 = .ok (.iaload, 1) := dk_46 (dk_at dksX1_laid_4 5 rfl rfl)
theorem dX1_laid_97 : decode cX1_laid 97 = .ok (.iload 4, 2) := dk_21 4 (dk_at dksX1_laid_4 6 rfl rfl)
theorem dX1_laid_99 : decode cX1_laid 99 = .ok (.invokevirtual 275, 3) := dk_182 1 19 (dk_at dksX1_laid_4 8 rfl rfl)
theorem dX1_laid_102 : decode cX1_laid 102 = .ok (.iinc 3 1, 3) := dk_132 3 1 (dk_at dksX1_laid_4 11 rfl rfl)
theorem dX1_laid_105 : decode cX1_laid 105 = .ok (.iinc 4 1, 3) := dk_132 4 1 (dk_at dksX1_laid_4 14 rfl rfl)
theorem dX1_laid_108 : decode cX1_laid 108 = .ok (.goto (-63), 3) := dk_167 255 193 (dk_at dksX1_laid_4 17 rfl rfl)
theorem dX1_laid_111 : decode cX1_laid 111 = .ok (.iload_n 3, 1) := dk_29 (dk_at dksX1_laid_4 20 rfl rfl)
theorem dX1_laid_112 : decode cX1_laid 112 = .ok (.ireturn, 1) := dk_172 (dk_at dksX1_laid_4 21 rfl rfl)
abbrev cX1_fails : ByteArray := prog_1_method_44_code
def yX1_fails : MethodName := ⟨RX1, "fails", "(I)I"⟩
def dkwX1_fails_1 : List UInt8 := [182, 1, 22, 167, 0, 8, 42, 4, 182, 0, 127, 172]
abbrev dktX1_fails_1 : List UInt8 := dkwX1_fails_1 ++ []
def dkwX1_fails_0 : List UInt8 := [42, 182, 0, 113, 42, 27, 182, 0, 252, 153, 0, 19, 42, 42, 180, 0, 137, 180, 0, 246, 27, 50]
abbrev dktX1_fails_0 : List UInt8 := dkwX1_fails_0 ++ dktX1_fails_1
theorem dksX1_fails_0 : cX1_fails.data.toList.drop 0 = dktX1_fails_0 := by decide +kernel
theorem dksX1_fails_1 : cX1_fails.data.toList.drop 22 = dktX1_fails_1 := dk_seg dksX1_fails_0 22 rfl rfl
theorem dX1_fails_0 : decode cX1_fails 0 = .ok (.aload_n 0, 1) := dk_42 (dk_at dksX1_fails_0 0 rfl rfl)
theorem dX1_fails_1 : decode cX1_fails 1 = .ok (.invokevirtual 113, 3) := dk_182 0 113 (dk_at dksX1_fails_0 1 rfl rfl)
theorem dX1_fails_4 : decode cX1_fails 4 = .ok (.aload_n 0, 1) := dk_42 (dk_at dksX1_fails_0 4 rfl rfl)
theorem dX1_fails_5 : decode cX1_fails 5 = .ok (.iload_n 1, 1) := dk_27 (dk_at dksX1_fails_0 5 rfl rfl)
theorem dX1_fails_6 : decode cX1_fails 6 = .ok (.invokevirtual 252, 3) := dk_182 0 252 (dk_at dksX1_fails_0 6 rfl rfl)
theorem dX1_fails_9 : decode cX1_fails 9 = .ok (.ifCond .eq 19, 3) := dk_153 0 19 (dk_at dksX1_fails_0 9 rfl rfl)
theorem dX1_fails_12 : decode cX1_fails 12 = .ok (.aload_n 0, 1) := dk_42 (dk_at dksX1_fails_0 12 rfl rfl)
theorem dX1_fails_13 : decode cX1_fails 13 = .ok (.aload_n 0, 1) := dk_42 (dk_at dksX1_fails_0 13 rfl rfl)
theorem dX1_fails_14 : decode cX1_fails 14 = .ok (.getfield 137, 3) := dk_180 0 137 (dk_at dksX1_fails_0 14 rfl rfl)
theorem dX1_fails_17 : decode cX1_fails 17 = .ok (.getfield 246, 3) := dk_180 0 246 (dk_at dksX1_fails_0 17 rfl rfl)
theorem dX1_fails_20 : decode cX1_fails 20 = .ok (.iload_n 1, 1) := dk_27 (dk_at dksX1_fails_0 20 rfl rfl)
theorem dX1_fails_21 : decode cX1_fails 21 = .ok (.aaload, 1) := dk_50 (dk_at dksX1_fails_0 21 rfl rfl)
theorem dX1_fails_22 : decode cX1_fails 22 = .ok (.invokevirtual 278, 3) := dk_182 1 22 (dk_at dksX1_fails_1 0 rfl rfl)
theorem dX1_fails_25 : decode cX1_fails 25 = .ok (.goto 8, 3) := dk_167 0 8 (dk_at dksX1_fails_1 3 rfl rfl)
theorem dX1_fails_28 : decode cX1_fails 28 = .ok (.aload_n 0, 1) := dk_42 (dk_at dksX1_fails_1 6 rfl rfl)
theorem dX1_fails_29 : decode cX1_fails 29 = .ok (.iconst 1, 1) := dk_4 (dk_at dksX1_fails_1 7 rfl rfl)
theorem dX1_fails_30 : decode cX1_fails 30 = .ok (.invokevirtual 127, 3) := dk_182 0 127 (dk_at dksX1_fails_1 8 rfl rfl)
theorem dX1_fails_33 : decode cX1_fails 33 = .ok (.ireturn, 1) := dk_172 (dk_at dksX1_fails_1 11 rfl rfl)
abbrev cX1_seen : ByteArray := prog_1_method_47_code
def yX1_seen : MethodName := ⟨RX1, "seen", "(I)I"⟩
def dkwX1_seen_1 : List UInt8 := [182, 1, 45, 153, 0, 7, 4, 167, 0, 12, 3, 167, 0, 8, 42, 4, 182, 0, 127, 172]
abbrev dktX1_seen_1 : List UInt8 := dkwX1_seen_1 ++ []
def dkwX1_seen_0 : List UInt8 := [42, 182, 0, 113, 42, 27, 182, 0, 252, 153, 0, 28, 42, 42, 180, 0, 137, 180, 0, 246, 27, 50, 3]
abbrev dktX1_seen_0 : List UInt8 := dkwX1_seen_0 ++ dktX1_seen_1
theorem dksX1_seen_0 : cX1_seen.data.toList.drop 0 = dktX1_seen_0 := by decide +kernel
theorem dksX1_seen_1 : cX1_seen.data.toList.drop 23 = dktX1_seen_1 := dk_seg dksX1_seen_0 23 rfl rfl
theorem dX1_seen_0 : decode cX1_seen 0 = .ok (.aload_n 0, 1) := dk_42 (dk_at dksX1_seen_0 0 rfl rfl)
theorem dX1_seen_1 : decode cX1_seen 1 = .ok (.invokevirtual 113, 3) := dk_182 0 113 (dk_at dksX1_seen_0 1 rfl rfl)
theorem dX1_seen_4 : decode cX1_seen 4 = .ok (.aload_n 0, 1) := dk_42 (dk_at dksX1_seen_0 4 rfl rfl)
theorem dX1_seen_5 : decode cX1_seen 5 = .ok (.iload_n 1, 1) := dk_27 (dk_at dksX1_seen_0 5 rfl rfl)
theorem dX1_seen_6 : decode cX1_seen 6 = .ok (.invokevirtual 252, 3) := dk_182 0 252 (dk_at dksX1_seen_0 6 rfl rfl)
theorem dX1_seen_9 : decode cX1_seen 9 = .ok (.ifCond .eq 28, 3) := dk_153 0 28 (dk_at dksX1_seen_0 9 rfl rfl)
theorem dX1_seen_12 : decode cX1_seen 12 = .ok (.aload_n 0, 1) := dk_42 (dk_at dksX1_seen_0 12 rfl rfl)
theorem dX1_seen_13 : decode cX1_seen 13 = .ok (.aload_n 0, 1) := dk_42 (dk_at dksX1_seen_0 13 rfl rfl)
theorem dX1_seen_14 : decode cX1_seen 14 = .ok (.getfield 137, 3) := dk_180 0 137 (dk_at dksX1_seen_0 14 rfl rfl)
theorem dX1_seen_17 : decode cX1_seen 17 = .ok (.getfield 246, 3) := dk_180 0 246 (dk_at dksX1_seen_0 17 rfl rfl)
theorem dX1_seen_20 : decode cX1_seen 20 = .ok (.iload_n 1, 1) := dk_27 (dk_at dksX1_seen_0 20 rfl rfl)
theorem dX1_seen_21 : decode cX1_seen 21 = .ok (.aaload, 1) := dk_50 (dk_at dksX1_seen_0 21 rfl rfl)
theorem dX1_seen_22 : decode cX1_seen 22 = .ok (.iconst 0, 1) := dk_3 (dk_at dksX1_seen_0 22 rfl rfl)
theorem dX1_seen_23 : decode cX1_seen 23 = .ok (.invokevirtual 301, 3) := dk_182 1 45 (dk_at dksX1_seen_1 0 rfl rfl)
theorem dX1_seen_26 : decode cX1_seen 26 = .ok (.ifCond .eq 7, 3) := dk_153 0 7 (dk_at dksX1_seen_1 3 rfl rfl)
theorem dX1_seen_29 : decode cX1_seen 29 = .ok (.iconst 1, 1) := dk_4 (dk_at dksX1_seen_1 6 rfl rfl)
theorem dX1_seen_30 : decode cX1_seen 30 = .ok (.goto 12, 3) := dk_167 0 12 (dk_at dksX1_seen_1 7 rfl rfl)
theorem dX1_seen_33 : decode cX1_seen 33 = .ok (.iconst 0, 1) := dk_3 (dk_at dksX1_seen_1 10 rfl rfl)
theorem dX1_seen_34 : decode cX1_seen 34 = .ok (.goto 8, 3) := dk_167 0 8 (dk_at dksX1_seen_1 11 rfl rfl)
theorem dX1_seen_37 : decode cX1_seen 37 = .ok (.aload_n 0, 1) := dk_42 (dk_at dksX1_seen_1 14 rfl rfl)
theorem dX1_seen_38 : decode cX1_seen 38 = .ok (.iconst 1, 1) := dk_4 (dk_at dksX1_seen_1 15 rfl rfl)
theorem dX1_seen_39 : decode cX1_seen 39 = .ok (.invokevirtual 127, 3) := dk_182 0 127 (dk_at dksX1_seen_1 16 rfl rfl)
theorem dX1_seen_42 : decode cX1_seen 42 = .ok (.ireturn, 1) := dk_172 (dk_at dksX1_seen_1 19 rfl rfl)
abbrev cX1_keepApart : ByteArray := prog_1_method_46_code
def yX1_keepApart : MethodName := ⟨RX1, "keepApart", "(LFifthCard$Rule;Z)Z"⟩
def dkwX1_keepApart_6 : List UInt8 := [182, 1, 19, 132, 5, 1, 167, 255, 191, 132, 3, 1, 167, 255, 166, 4, 172]
abbrev dktX1_keepApart_6 : List UInt8 := dkwX1_keepApart_6 ++ []
def dkwX1_keepApart_5 : List UInt8 := [21, 4, 182, 1, 42, 153, 0, 5, 3, 172, 28, 153, 0, 14, 42, 180, 0, 73, 21, 6, 21, 4]
abbrev dktX1_keepApart_5 : List UInt8 := dkwX1_keepApart_5 ++ dktX1_keepApart_6
def dkwX1_keepApart_4 : List UInt8 := [21, 4, 16, 254, 159, 0, 50, 42, 21, 4, 21, 5, 182, 1, 39, 54, 6, 42, 180, 0, 73, 21, 6]
abbrev dktX1_keepApart_4 : List UInt8 := dkwX1_keepApart_4 ++ dktX1_keepApart_5
def dkwX1_keepApart_3 : List UInt8 := [180, 0, 238, 29, 46, 54, 4, 3, 54, 5, 21, 5, 4, 96, 42, 180, 0, 137, 182, 0, 195, 162, 0, 57]
abbrev dktX1_keepApart_3 : List UInt8 := dkwX1_keepApart_3 ++ dktX1_keepApart_4
def dkwX1_keepApart_2 : List UInt8 := [29, 46, 182, 1, 19, 132, 3, 1, 167, 255, 215, 3, 62, 29, 42, 180, 0, 155, 162, 0, 88, 43]
abbrev dktX1_keepApart_2 : List UInt8 := dkwX1_keepApart_2 ++ dktX1_keepApart_3
def dkwX1_keepApart_1 : List UInt8 := [180, 0, 238, 29, 46, 16, 254, 159, 0, 22, 42, 180, 0, 73, 43, 180, 0, 238, 29, 46, 43, 180, 0, 238]
abbrev dktX1_keepApart_1 : List UInt8 := dkwX1_keepApart_1 ++ dktX1_keepApart_2
def dkwX1_keepApart_0 : List UInt8 := [42, 43, 182, 0, 249, 42, 180, 0, 73, 182, 1, 13, 3, 62, 29, 42, 180, 0, 155, 162, 0, 39, 43]
abbrev dktX1_keepApart_0 : List UInt8 := dkwX1_keepApart_0 ++ dktX1_keepApart_1
theorem dksX1_keepApart_0 : cX1_keepApart.data.toList.drop 0 = dktX1_keepApart_0 := by decide +kernel
theorem dksX1_keepApart_1 : cX1_keepApart.data.toList.drop 23 = dktX1_keepApart_1 := dk_seg dksX1_keepApart_0 23 rfl rfl
theorem dksX1_keepApart_2 : cX1_keepApart.data.toList.drop 47 = dktX1_keepApart_2 := dk_seg dksX1_keepApart_1 24 rfl rfl
theorem dksX1_keepApart_3 : cX1_keepApart.data.toList.drop 69 = dktX1_keepApart_3 := dk_seg dksX1_keepApart_2 22 rfl rfl
theorem dksX1_keepApart_4 : cX1_keepApart.data.toList.drop 93 = dktX1_keepApart_4 := dk_seg dksX1_keepApart_3 24 rfl rfl
theorem dksX1_keepApart_5 : cX1_keepApart.data.toList.drop 116 = dktX1_keepApart_5 := dk_seg dksX1_keepApart_4 23 rfl rfl
theorem dksX1_keepApart_6 : cX1_keepApart.data.toList.drop 138 = dktX1_keepApart_6 := dk_seg dksX1_keepApart_5 22 rfl rfl
theorem dX1_keepApart_0 : decode cX1_keepApart 0 = .ok (.aload_n 0, 1) := dk_42 (dk_at dksX1_keepApart_0 0 rfl rfl)
theorem dX1_keepApart_1 : decode cX1_keepApart 1 = .ok (.aload_n 1, 1) := dk_43 (dk_at dksX1_keepApart_0 1 rfl rfl)
theorem dX1_keepApart_2 : decode cX1_keepApart 2 = .ok (.invokevirtual 249, 3) := dk_182 0 249 (dk_at dksX1_keepApart_0 2 rfl rfl)
theorem dX1_keepApart_5 : decode cX1_keepApart 5 = .ok (.aload_n 0, 1) := dk_42 (dk_at dksX1_keepApart_0 5 rfl rfl)
theorem dX1_keepApart_6 : decode cX1_keepApart 6 = .ok (.getfield 73, 3) := dk_180 0 73 (dk_at dksX1_keepApart_0 6 rfl rfl)
theorem dX1_keepApart_9 : decode cX1_keepApart 9 = .ok (.invokevirtual 269, 3) := dk_182 1 13 (dk_at dksX1_keepApart_0 9 rfl rfl)
theorem dX1_keepApart_12 : decode cX1_keepApart 12 = .ok (.iconst 0, 1) := dk_3 (dk_at dksX1_keepApart_0 12 rfl rfl)
theorem dX1_keepApart_13 : decode cX1_keepApart 13 = .ok (.istore_n 3, 1) := dk_62 (dk_at dksX1_keepApart_0 13 rfl rfl)
theorem dX1_keepApart_14 : decode cX1_keepApart 14 = .ok (.iload_n 3, 1) := dk_29 (dk_at dksX1_keepApart_0 14 rfl rfl)
theorem dX1_keepApart_15 : decode cX1_keepApart 15 = .ok (.aload_n 0, 1) := dk_42 (dk_at dksX1_keepApart_0 15 rfl rfl)
theorem dX1_keepApart_16 : decode cX1_keepApart 16 = .ok (.getfield 155, 3) := dk_180 0 155 (dk_at dksX1_keepApart_0 16 rfl rfl)
theorem dX1_keepApart_19 : decode cX1_keepApart 19 = .ok (.if_icmp .ge 39, 3) := dk_162 0 39 (dk_at dksX1_keepApart_0 19 rfl rfl)
theorem dX1_keepApart_22 : decode cX1_keepApart 22 = .ok (.aload_n 1, 1) := dk_43 (dk_at dksX1_keepApart_0 22 rfl rfl)
theorem dX1_keepApart_23 : decode cX1_keepApart 23 = .ok (.getfield 238, 3) := dk_180 0 238 (dk_at dksX1_keepApart_1 0 rfl rfl)
theorem dX1_keepApart_26 : decode cX1_keepApart 26 = .ok (.iload_n 3, 1) := dk_29 (dk_at dksX1_keepApart_1 3 rfl rfl)
theorem dX1_keepApart_27 : decode cX1_keepApart 27 = .ok (.iaload, 1) := dk_46 (dk_at dksX1_keepApart_1 4 rfl rfl)
theorem dX1_keepApart_28 : decode cX1_keepApart 28 = .ok (.bipush (-2), 2) := dk_16 254 (dk_at dksX1_keepApart_1 5 rfl rfl)
theorem dX1_keepApart_30 : decode cX1_keepApart 30 = .ok (.if_icmp .eq 22, 3) := dk_159 0 22 (dk_at dksX1_keepApart_1 7 rfl rfl)
theorem dX1_keepApart_33 : decode cX1_keepApart 33 = .ok (.aload_n 0, 1) := dk_42 (dk_at dksX1_keepApart_1 10 rfl rfl)
theorem dX1_keepApart_34 : decode cX1_keepApart 34 = .ok (.getfield 73, 3) := dk_180 0 73 (dk_at dksX1_keepApart_1 11 rfl rfl)
theorem dX1_keepApart_37 : decode cX1_keepApart 37 = .ok (.aload_n 1, 1) := dk_43 (dk_at dksX1_keepApart_1 14 rfl rfl)
theorem dX1_keepApart_38 : decode cX1_keepApart 38 = .ok (.getfield 238, 3) := dk_180 0 238 (dk_at dksX1_keepApart_1 15 rfl rfl)
theorem dX1_keepApart_41 : decode cX1_keepApart 41 = .ok (.iload_n 3, 1) := dk_29 (dk_at dksX1_keepApart_1 18 rfl rfl)
theorem dX1_keepApart_42 : decode cX1_keepApart 42 = .ok (.iaload, 1) := dk_46 (dk_at dksX1_keepApart_1 19 rfl rfl)
theorem dX1_keepApart_43 : decode cX1_keepApart 43 = .ok (.aload_n 1, 1) := dk_43 (dk_at dksX1_keepApart_1 20 rfl rfl)
theorem dX1_keepApart_44 : decode cX1_keepApart 44 = .ok (.getfield 238, 3) := dk_180 0 238 (dk_at dksX1_keepApart_1 21 rfl rfl)
theorem dX1_keepApart_47 : decode cX1_keepApart 47 = .ok (.iload_n 3, 1) := dk_29 (dk_at dksX1_keepApart_2 0 rfl rfl)
theorem dX1_keepApart_48 : decode cX1_keepApart 48 = .ok (.iaload, 1) := dk_46 (dk_at dksX1_keepApart_2 1 rfl rfl)
theorem dX1_keepApart_49 : decode cX1_keepApart 49 = .ok (.invokevirtual 275, 3) := dk_182 1 19 (dk_at dksX1_keepApart_2 2 rfl rfl)
theorem dX1_keepApart_52 : decode cX1_keepApart 52 = .ok (.iinc 3 1, 3) := dk_132 3 1 (dk_at dksX1_keepApart_2 5 rfl rfl)
theorem dX1_keepApart_55 : decode cX1_keepApart 55 = .ok (.goto (-41), 3) := dk_167 255 215 (dk_at dksX1_keepApart_2 8 rfl rfl)
theorem dX1_keepApart_58 : decode cX1_keepApart 58 = .ok (.iconst 0, 1) := dk_3 (dk_at dksX1_keepApart_2 11 rfl rfl)
theorem dX1_keepApart_59 : decode cX1_keepApart 59 = .ok (.istore_n 3, 1) := dk_62 (dk_at dksX1_keepApart_2 12 rfl rfl)
theorem dX1_keepApart_60 : decode cX1_keepApart 60 = .ok (.iload_n 3, 1) := dk_29 (dk_at dksX1_keepApart_2 13 rfl rfl)
theorem dX1_keepApart_61 : decode cX1_keepApart 61 = .ok (.aload_n 0, 1) := dk_42 (dk_at dksX1_keepApart_2 14 rfl rfl)
theorem dX1_keepApart_62 : decode cX1_keepApart 62 = .ok (.getfield 155, 3) := dk_180 0 155 (dk_at dksX1_keepApart_2 15 rfl rfl)
theorem dX1_keepApart_65 : decode cX1_keepApart 65 = .ok (.if_icmp .ge 88, 3) := dk_162 0 88 (dk_at dksX1_keepApart_2 18 rfl rfl)
theorem dX1_keepApart_68 : decode cX1_keepApart 68 = .ok (.aload_n 1, 1) := dk_43 (dk_at dksX1_keepApart_2 21 rfl rfl)
theorem dX1_keepApart_69 : decode cX1_keepApart 69 = .ok (.getfield 238, 3) := dk_180 0 238 (dk_at dksX1_keepApart_3 0 rfl rfl)
theorem dX1_keepApart_72 : decode cX1_keepApart 72 = .ok (.iload_n 3, 1) := dk_29 (dk_at dksX1_keepApart_3 3 rfl rfl)
theorem dX1_keepApart_73 : decode cX1_keepApart 73 = .ok (.iaload, 1) := dk_46 (dk_at dksX1_keepApart_3 4 rfl rfl)
theorem dX1_keepApart_74 : decode cX1_keepApart 74 = .ok (.istore 4, 2) := dk_54 4 (dk_at dksX1_keepApart_3 5 rfl rfl)
theorem dX1_keepApart_76 : decode cX1_keepApart 76 = .ok (.iconst 0, 1) := dk_3 (dk_at dksX1_keepApart_3 7 rfl rfl)
theorem dX1_keepApart_77 : decode cX1_keepApart 77 = .ok (.istore 5, 2) := dk_54 5 (dk_at dksX1_keepApart_3 8 rfl rfl)
theorem dX1_keepApart_79 : decode cX1_keepApart 79 = .ok (.iload 5, 2) := dk_21 5 (dk_at dksX1_keepApart_3 10 rfl rfl)
theorem dX1_keepApart_81 : decode cX1_keepApart 81 = .ok (.iconst 1, 1) := dk_4 (dk_at dksX1_keepApart_3 12 rfl rfl)
theorem dX1_keepApart_82 : decode cX1_keepApart 82 = .ok (.iadd, 1) := dk_96 (dk_at dksX1_keepApart_3 13 rfl rfl)
theorem dX1_keepApart_83 : decode cX1_keepApart 83 = .ok (.aload_n 0, 1) := dk_42 (dk_at dksX1_keepApart_3 14 rfl rfl)
theorem dX1_keepApart_84 : decode cX1_keepApart 84 = .ok (.getfield 137, 3) := dk_180 0 137 (dk_at dksX1_keepApart_3 15 rfl rfl)
theorem dX1_keepApart_87 : decode cX1_keepApart 87 = .ok (.invokevirtual 195, 3) := dk_182 0 195 (dk_at dksX1_keepApart_3 18 rfl rfl)
theorem dX1_keepApart_90 : decode cX1_keepApart 90 = .ok (.if_icmp .ge 57, 3) := dk_162 0 57 (dk_at dksX1_keepApart_3 21 rfl rfl)
theorem dX1_keepApart_93 : decode cX1_keepApart 93 = .ok (.iload 4, 2) := dk_21 4 (dk_at dksX1_keepApart_4 0 rfl rfl)
theorem dX1_keepApart_95 : decode cX1_keepApart 95 = .ok (.bipush (-2), 2) := dk_16 254 (dk_at dksX1_keepApart_4 2 rfl rfl)
theorem dX1_keepApart_97 : decode cX1_keepApart 97 = .ok (.if_icmp .eq 50, 3) := dk_159 0 50 (dk_at dksX1_keepApart_4 4 rfl rfl)
theorem dX1_keepApart_100 : decode cX1_keepApart 100 = .ok (.aload_n 0, 1) := dk_42 (dk_at dksX1_keepApart_4 7 rfl rfl)
theorem dX1_keepApart_101 : decode cX1_keepApart 101 = .ok (.iload 4, 2) := dk_21 4 (dk_at dksX1_keepApart_4 8 rfl rfl)
theorem dX1_keepApart_103 : decode cX1_keepApart 103 = .ok (.iload 5, 2) := dk_21 5 (dk_at dksX1_keepApart_4 10 rfl rfl)
theorem dX1_keepApart_105 : decode cX1_keepApart 105 = .ok (.invokevirtual 295, 3) := dk_182 1 39 (dk_at dksX1_keepApart_4 12 rfl rfl)
theorem dX1_keepApart_108 : decode cX1_keepApart 108 = .ok (.istore 6, 2) := dk_54 6 (dk_at dksX1_keepApart_4 15 rfl rfl)
theorem dX1_keepApart_110 : decode cX1_keepApart 110 = .ok (.aload_n 0, 1) := dk_42 (dk_at dksX1_keepApart_4 17 rfl rfl)
theorem dX1_keepApart_111 : decode cX1_keepApart 111 = .ok (.getfield 73, 3) := dk_180 0 73 (dk_at dksX1_keepApart_4 18 rfl rfl)
theorem dX1_keepApart_114 : decode cX1_keepApart 114 = .ok (.iload 6, 2) := dk_21 6 (dk_at dksX1_keepApart_4 21 rfl rfl)
theorem dX1_keepApart_116 : decode cX1_keepApart 116 = .ok (.iload 4, 2) := dk_21 4 (dk_at dksX1_keepApart_5 0 rfl rfl)
theorem dX1_keepApart_118 : decode cX1_keepApart 118 = .ok (.invokevirtual 298, 3) := dk_182 1 42 (dk_at dksX1_keepApart_5 2 rfl rfl)
theorem dX1_keepApart_121 : decode cX1_keepApart 121 = .ok (.ifCond .eq 5, 3) := dk_153 0 5 (dk_at dksX1_keepApart_5 5 rfl rfl)
theorem dX1_keepApart_124 : decode cX1_keepApart 124 = .ok (.iconst 0, 1) := dk_3 (dk_at dksX1_keepApart_5 8 rfl rfl)
theorem dX1_keepApart_125 : decode cX1_keepApart 125 = .ok (.ireturn, 1) := dk_172 (dk_at dksX1_keepApart_5 9 rfl rfl)
theorem dX1_keepApart_126 : decode cX1_keepApart 126 = .ok (.iload_n 2, 1) := dk_28 (dk_at dksX1_keepApart_5 10 rfl rfl)
theorem dX1_keepApart_127 : decode cX1_keepApart 127 = .ok (.ifCond .eq 14, 3) := dk_153 0 14 (dk_at dksX1_keepApart_5 11 rfl rfl)
theorem dX1_keepApart_130 : decode cX1_keepApart 130 = .ok (.aload_n 0, 1) := dk_42 (dk_at dksX1_keepApart_5 14 rfl rfl)
theorem dX1_keepApart_131 : decode cX1_keepApart 131 = .ok (.getfield 73, 3) := dk_180 0 73 (dk_at dksX1_keepApart_5 15 rfl rfl)
theorem dX1_keepApart_134 : decode cX1_keepApart 134 = .ok (.iload 6, 2) := dk_21 6 (dk_at dksX1_keepApart_5 18 rfl rfl)
theorem dX1_keepApart_136 : decode cX1_keepApart 136 = .ok (.iload 4, 2) := dk_21 4 (dk_at dksX1_keepApart_5 20 rfl rfl)
theorem dX1_keepApart_138 : decode cX1_keepApart 138 = .ok (.invokevirtual 275, 3) := dk_182 1 19 (dk_at dksX1_keepApart_6 0 rfl rfl)
theorem dX1_keepApart_141 : decode cX1_keepApart 141 = .ok (.iinc 5 1, 3) := dk_132 5 1 (dk_at dksX1_keepApart_6 3 rfl rfl)
theorem dX1_keepApart_144 : decode cX1_keepApart 144 = .ok (.goto (-65), 3) := dk_167 255 191 (dk_at dksX1_keepApart_6 6 rfl rfl)
theorem dX1_keepApart_147 : decode cX1_keepApart 147 = .ok (.iinc 3 1, 3) := dk_132 3 1 (dk_at dksX1_keepApart_6 9 rfl rfl)
theorem dX1_keepApart_150 : decode cX1_keepApart 150 = .ok (.goto (-90), 3) := dk_167 255 166 (dk_at dksX1_keepApart_6 12 rfl rfl)
theorem dX1_keepApart_153 : decode cX1_keepApart 153 = .ok (.iconst 1, 1) := dk_4 (dk_at dksX1_keepApart_6 15 rfl rfl)
theorem dX1_keepApart_154 : decode cX1_keepApart 154 = .ok (.ireturn, 1) := dk_172 (dk_at dksX1_keepApart_6 16 rfl rfl)
abbrev cX1_changed : ByteArray := prog_1_method_45_code
def yX1_changed : MethodName := ⟨RX1, "changed", "(II)I"⟩
def dkwX1_changed_5 : List UInt8 := [2, 130, 126, 21, 6, 28, 120, 128, 96, 172]
abbrev dktX1_changed_5 : List UInt8 := dkwX1_changed_5 ++ []
def dkwX1_changed_4 : List UInt8 := [180, 0, 137, 42, 180, 0, 101, 29, 182, 1, 36, 42, 180, 0, 137, 182, 0, 198, 104, 21, 5, 6, 28, 120]
abbrev dktX1_changed_4 : List UInt8 := dkwX1_changed_4 ++ dktX1_changed_5
def dkwX1_changed_3 : List UInt8 := [54, 5, 21, 5, 28, 122, 4, 126, 4, 120, 21, 5, 28, 4, 96, 122, 4, 126, 128, 54, 6, 42]
abbrev dktX1_changed_3 : List UInt8 := dkwX1_changed_3 ++ dktX1_changed_4
def dkwX1_changed_2 : List UInt8 := [4, 96, 46, 79, 42, 180, 0, 101, 28, 4, 96, 21, 4, 79, 27, 42, 180, 0, 137, 182, 0, 198, 112]
abbrev dktX1_changed_2 : List UInt8 := dkwX1_changed_2 ++ dktX1_changed_3
def dkwX1_changed_1 : List UInt8 := [180, 0, 101, 182, 0, 222, 42, 180, 0, 101, 28, 46, 54, 4, 42, 180, 0, 101, 28, 42, 180, 0, 101, 28]
abbrev dktX1_changed_1 : List UInt8 := dkwX1_changed_1 ++ dktX1_changed_2
def dkwX1_changed_0 : List UInt8 := [42, 180, 0, 137, 182, 0, 195, 62, 42, 180, 0, 137, 27, 42, 180, 0, 137, 182, 0, 198, 108, 29, 42]
abbrev dktX1_changed_0 : List UInt8 := dkwX1_changed_0 ++ dktX1_changed_1
theorem dksX1_changed_0 : cX1_changed.data.toList.drop 0 = dktX1_changed_0 := by decide +kernel
theorem dksX1_changed_1 : cX1_changed.data.toList.drop 23 = dktX1_changed_1 := dk_seg dksX1_changed_0 23 rfl rfl
theorem dksX1_changed_2 : cX1_changed.data.toList.drop 47 = dktX1_changed_2 := dk_seg dksX1_changed_1 24 rfl rfl
theorem dksX1_changed_3 : cX1_changed.data.toList.drop 70 = dktX1_changed_3 := dk_seg dksX1_changed_2 23 rfl rfl
theorem dksX1_changed_4 : cX1_changed.data.toList.drop 92 = dktX1_changed_4 := dk_seg dksX1_changed_3 22 rfl rfl
theorem dksX1_changed_5 : cX1_changed.data.toList.drop 116 = dktX1_changed_5 := dk_seg dksX1_changed_4 24 rfl rfl
theorem dX1_changed_0 : decode cX1_changed 0 = .ok (.aload_n 0, 1) := dk_42 (dk_at dksX1_changed_0 0 rfl rfl)
theorem dX1_changed_1 : decode cX1_changed 1 = .ok (.getfield 137, 3) := dk_180 0 137 (dk_at dksX1_changed_0 1 rfl rfl)
theorem dX1_changed_4 : decode cX1_changed 4 = .ok (.invokevirtual 195, 3) := dk_182 0 195 (dk_at dksX1_changed_0 4 rfl rfl)
theorem dX1_changed_7 : decode cX1_changed 7 = .ok (.istore_n 3, 1) := dk_62 (dk_at dksX1_changed_0 7 rfl rfl)
theorem dX1_changed_8 : decode cX1_changed 8 = .ok (.aload_n 0, 1) := dk_42 (dk_at dksX1_changed_0 8 rfl rfl)
theorem dX1_changed_9 : decode cX1_changed 9 = .ok (.getfield 137, 3) := dk_180 0 137 (dk_at dksX1_changed_0 9 rfl rfl)
theorem dX1_changed_12 : decode cX1_changed 12 = .ok (.iload_n 1, 1) := dk_27 (dk_at dksX1_changed_0 12 rfl rfl)
theorem dX1_changed_13 : decode cX1_changed 13 = .ok (.aload_n 0, 1) := dk_42 (dk_at dksX1_changed_0 13 rfl rfl)
theorem dX1_changed_14 : decode cX1_changed 14 = .ok (.getfield 137, 3) := dk_180 0 137 (dk_at dksX1_changed_0 14 rfl rfl)
theorem dX1_changed_17 : decode cX1_changed 17 = .ok (.invokevirtual 198, 3) := dk_182 0 198 (dk_at dksX1_changed_0 17 rfl rfl)
theorem dX1_changed_20 : decode cX1_changed 20 = .ok (.idiv, 1) := dk_108 (dk_at dksX1_changed_0 20 rfl rfl)
theorem dX1_changed_21 : decode cX1_changed 21 = .ok (.iload_n 3, 1) := dk_29 (dk_at dksX1_changed_0 21 rfl rfl)
theorem dX1_changed_22 : decode cX1_changed 22 = .ok (.aload_n 0, 1) := dk_42 (dk_at dksX1_changed_0 22 rfl rfl)
theorem dX1_changed_23 : decode cX1_changed 23 = .ok (.getfield 101, 3) := dk_180 0 101 (dk_at dksX1_changed_1 0 rfl rfl)
theorem dX1_changed_26 : decode cX1_changed 26 = .ok (.invokevirtual 222, 3) := dk_182 0 222 (dk_at dksX1_changed_1 3 rfl rfl)
theorem dX1_changed_29 : decode cX1_changed 29 = .ok (.aload_n 0, 1) := dk_42 (dk_at dksX1_changed_1 6 rfl rfl)
theorem dX1_changed_30 : decode cX1_changed 30 = .ok (.getfield 101, 3) := dk_180 0 101 (dk_at dksX1_changed_1 7 rfl rfl)
theorem dX1_changed_33 : decode cX1_changed 33 = .ok (.iload_n 2, 1) := dk_28 (dk_at dksX1_changed_1 10 rfl rfl)
theorem dX1_changed_34 : decode cX1_changed 34 = .ok (.iaload, 1) := dk_46 (dk_at dksX1_changed_1 11 rfl rfl)
theorem dX1_changed_35 : decode cX1_changed 35 = .ok (.istore 4, 2) := dk_54 4 (dk_at dksX1_changed_1 12 rfl rfl)
theorem dX1_changed_37 : decode cX1_changed 37 = .ok (.aload_n 0, 1) := dk_42 (dk_at dksX1_changed_1 14 rfl rfl)
theorem dX1_changed_38 : decode cX1_changed 38 = .ok (.getfield 101, 3) := dk_180 0 101 (dk_at dksX1_changed_1 15 rfl rfl)
theorem dX1_changed_41 : decode cX1_changed 41 = .ok (.iload_n 2, 1) := dk_28 (dk_at dksX1_changed_1 18 rfl rfl)
theorem dX1_changed_42 : decode cX1_changed 42 = .ok (.aload_n 0, 1) := dk_42 (dk_at dksX1_changed_1 19 rfl rfl)
theorem dX1_changed_43 : decode cX1_changed 43 = .ok (.getfield 101, 3) := dk_180 0 101 (dk_at dksX1_changed_1 20 rfl rfl)
theorem dX1_changed_46 : decode cX1_changed 46 = .ok (.iload_n 2, 1) := dk_28 (dk_at dksX1_changed_1 23 rfl rfl)
theorem dX1_changed_47 : decode cX1_changed 47 = .ok (.iconst 1, 1) := dk_4 (dk_at dksX1_changed_2 0 rfl rfl)
theorem dX1_changed_48 : decode cX1_changed 48 = .ok (.iadd, 1) := dk_96 (dk_at dksX1_changed_2 1 rfl rfl)
theorem dX1_changed_49 : decode cX1_changed 49 = .ok (.iaload, 1) := dk_46 (dk_at dksX1_changed_2 2 rfl rfl)
theorem dX1_changed_50 : decode cX1_changed 50 = .ok (.iastore, 1) := dk_79 (dk_at dksX1_changed_2 3 rfl rfl)
theorem dX1_changed_51 : decode cX1_changed 51 = .ok (.aload_n 0, 1) := dk_42 (dk_at dksX1_changed_2 4 rfl rfl)
theorem dX1_changed_52 : decode cX1_changed 52 = .ok (.getfield 101, 3) := dk_180 0 101 (dk_at dksX1_changed_2 5 rfl rfl)
theorem dX1_changed_55 : decode cX1_changed 55 = .ok (.iload_n 2, 1) := dk_28 (dk_at dksX1_changed_2 8 rfl rfl)
theorem dX1_changed_56 : decode cX1_changed 56 = .ok (.iconst 1, 1) := dk_4 (dk_at dksX1_changed_2 9 rfl rfl)
theorem dX1_changed_57 : decode cX1_changed 57 = .ok (.iadd, 1) := dk_96 (dk_at dksX1_changed_2 10 rfl rfl)
theorem dX1_changed_58 : decode cX1_changed 58 = .ok (.iload 4, 2) := dk_21 4 (dk_at dksX1_changed_2 11 rfl rfl)
theorem dX1_changed_60 : decode cX1_changed 60 = .ok (.iastore, 1) := dk_79 (dk_at dksX1_changed_2 13 rfl rfl)
theorem dX1_changed_61 : decode cX1_changed 61 = .ok (.iload_n 1, 1) := dk_27 (dk_at dksX1_changed_2 14 rfl rfl)
theorem dX1_changed_62 : decode cX1_changed 62 = .ok (.aload_n 0, 1) := dk_42 (dk_at dksX1_changed_2 15 rfl rfl)
theorem dX1_changed_63 : decode cX1_changed 63 = .ok (.getfield 137, 3) := dk_180 0 137 (dk_at dksX1_changed_2 16 rfl rfl)
theorem dX1_changed_66 : decode cX1_changed 66 = .ok (.invokevirtual 198, 3) := dk_182 0 198 (dk_at dksX1_changed_2 19 rfl rfl)
theorem dX1_changed_69 : decode cX1_changed 69 = .ok (.irem, 1) := dk_112 (dk_at dksX1_changed_2 22 rfl rfl)
theorem dX1_changed_70 : decode cX1_changed 70 = .ok (.istore 5, 2) := dk_54 5 (dk_at dksX1_changed_3 0 rfl rfl)
theorem dX1_changed_72 : decode cX1_changed 72 = .ok (.iload 5, 2) := dk_21 5 (dk_at dksX1_changed_3 2 rfl rfl)
theorem dX1_changed_74 : decode cX1_changed 74 = .ok (.iload_n 2, 1) := dk_28 (dk_at dksX1_changed_3 4 rfl rfl)
theorem dX1_changed_75 : decode cX1_changed 75 = .ok (.ishr, 1) := dk_122 (dk_at dksX1_changed_3 5 rfl rfl)
theorem dX1_changed_76 : decode cX1_changed 76 = .ok (.iconst 1, 1) := dk_4 (dk_at dksX1_changed_3 6 rfl rfl)
theorem dX1_changed_77 : decode cX1_changed 77 = .ok (.iand, 1) := dk_126 (dk_at dksX1_changed_3 7 rfl rfl)
theorem dX1_changed_78 : decode cX1_changed 78 = .ok (.iconst 1, 1) := dk_4 (dk_at dksX1_changed_3 8 rfl rfl)
theorem dX1_changed_79 : decode cX1_changed 79 = .ok (.ishl, 1) := dk_120 (dk_at dksX1_changed_3 9 rfl rfl)
theorem dX1_changed_80 : decode cX1_changed 80 = .ok (.iload 5, 2) := dk_21 5 (dk_at dksX1_changed_3 10 rfl rfl)
theorem dX1_changed_82 : decode cX1_changed 82 = .ok (.iload_n 2, 1) := dk_28 (dk_at dksX1_changed_3 12 rfl rfl)
theorem dX1_changed_83 : decode cX1_changed 83 = .ok (.iconst 1, 1) := dk_4 (dk_at dksX1_changed_3 13 rfl rfl)
theorem dX1_changed_84 : decode cX1_changed 84 = .ok (.iadd, 1) := dk_96 (dk_at dksX1_changed_3 14 rfl rfl)
theorem dX1_changed_85 : decode cX1_changed 85 = .ok (.ishr, 1) := dk_122 (dk_at dksX1_changed_3 15 rfl rfl)
theorem dX1_changed_86 : decode cX1_changed 86 = .ok (.iconst 1, 1) := dk_4 (dk_at dksX1_changed_3 16 rfl rfl)
theorem dX1_changed_87 : decode cX1_changed 87 = .ok (.iand, 1) := dk_126 (dk_at dksX1_changed_3 17 rfl rfl)
theorem dX1_changed_88 : decode cX1_changed 88 = .ok (.ior, 1) := dk_128 (dk_at dksX1_changed_3 18 rfl rfl)
theorem dX1_changed_89 : decode cX1_changed 89 = .ok (.istore 6, 2) := dk_54 6 (dk_at dksX1_changed_3 19 rfl rfl)
theorem dX1_changed_91 : decode cX1_changed 91 = .ok (.aload_n 0, 1) := dk_42 (dk_at dksX1_changed_3 21 rfl rfl)
theorem dX1_changed_92 : decode cX1_changed 92 = .ok (.getfield 137, 3) := dk_180 0 137 (dk_at dksX1_changed_4 0 rfl rfl)
theorem dX1_changed_95 : decode cX1_changed 95 = .ok (.aload_n 0, 1) := dk_42 (dk_at dksX1_changed_4 3 rfl rfl)
theorem dX1_changed_96 : decode cX1_changed 96 = .ok (.getfield 101, 3) := dk_180 0 101 (dk_at dksX1_changed_4 4 rfl rfl)
theorem dX1_changed_99 : decode cX1_changed 99 = .ok (.iload_n 3, 1) := dk_29 (dk_at dksX1_changed_4 7 rfl rfl)
theorem dX1_changed_100 : decode cX1_changed 100 = .ok (.invokevirtual 292, 3) := dk_182 1 36 (dk_at dksX1_changed_4 8 rfl rfl)
theorem dX1_changed_103 : decode cX1_changed 103 = .ok (.aload_n 0, 1) := dk_42 (dk_at dksX1_changed_4 11 rfl rfl)
theorem dX1_changed_104 : decode cX1_changed 104 = .ok (.getfield 137, 3) := dk_180 0 137 (dk_at dksX1_changed_4 12 rfl rfl)
theorem dX1_changed_107 : decode cX1_changed 107 = .ok (.invokevirtual 198, 3) := dk_182 0 198 (dk_at dksX1_changed_4 15 rfl rfl)
theorem dX1_changed_110 : decode cX1_changed 110 = .ok (.imul, 1) := dk_104 (dk_at dksX1_changed_4 18 rfl rfl)
theorem dX1_changed_111 : decode cX1_changed 111 = .ok (.iload 5, 2) := dk_21 5 (dk_at dksX1_changed_4 19 rfl rfl)
theorem dX1_changed_113 : decode cX1_changed 113 = .ok (.iconst 3, 1) := dk_6 (dk_at dksX1_changed_4 21 rfl rfl)
theorem dX1_changed_114 : decode cX1_changed 114 = .ok (.iload_n 2, 1) := dk_28 (dk_at dksX1_changed_4 22 rfl rfl)
theorem dX1_changed_115 : decode cX1_changed 115 = .ok (.ishl, 1) := dk_120 (dk_at dksX1_changed_4 23 rfl rfl)
theorem dX1_changed_116 : decode cX1_changed 116 = .ok (.iconst (-1), 1) := dk_2 (dk_at dksX1_changed_5 0 rfl rfl)
theorem dX1_changed_117 : decode cX1_changed 117 = .ok (.ixor, 1) := dk_130 (dk_at dksX1_changed_5 1 rfl rfl)
theorem dX1_changed_118 : decode cX1_changed 118 = .ok (.iand, 1) := dk_126 (dk_at dksX1_changed_5 2 rfl rfl)
theorem dX1_changed_119 : decode cX1_changed 119 = .ok (.iload 6, 2) := dk_21 6 (dk_at dksX1_changed_5 3 rfl rfl)
theorem dX1_changed_121 : decode cX1_changed 121 = .ok (.iload_n 2, 1) := dk_28 (dk_at dksX1_changed_5 5 rfl rfl)
theorem dX1_changed_122 : decode cX1_changed 122 = .ok (.ishl, 1) := dk_120 (dk_at dksX1_changed_5 6 rfl rfl)
theorem dX1_changed_123 : decode cX1_changed 123 = .ok (.ior, 1) := dk_128 (dk_at dksX1_changed_5 7 rfl rfl)
theorem dX1_changed_124 : decode cX1_changed 124 = .ok (.iadd, 1) := dk_96 (dk_at dksX1_changed_5 8 rfl rfl)
theorem dX1_changed_125 : decode cX1_changed 125 = .ok (.ireturn, 1) := dk_172 (dk_at dksX1_changed_5 9 rfl rfl)
abbrev cX1_borne : ByteArray := prog_1_method_48_code
def yX1_borne : MethodName := ⟨RX1, "borne", "(I)I"⟩
def dkwX1_borne_1 : List UInt8 := [182, 1, 45, 153, 0, 7, 4, 167, 0, 12, 3, 167, 0, 8, 42, 4, 182, 0, 127, 172]
abbrev dktX1_borne_1 : List UInt8 := dkwX1_borne_1 ++ []
def dkwX1_borne_0 : List UInt8 := [42, 182, 0, 113, 42, 27, 182, 0, 252, 153, 0, 28, 42, 42, 180, 0, 137, 180, 0, 246, 27, 50, 4]
abbrev dktX1_borne_0 : List UInt8 := dkwX1_borne_0 ++ dktX1_borne_1
theorem dksX1_borne_0 : cX1_borne.data.toList.drop 0 = dktX1_borne_0 := by decide +kernel
theorem dksX1_borne_1 : cX1_borne.data.toList.drop 23 = dktX1_borne_1 := dk_seg dksX1_borne_0 23 rfl rfl
theorem dX1_borne_0 : decode cX1_borne 0 = .ok (.aload_n 0, 1) := dk_42 (dk_at dksX1_borne_0 0 rfl rfl)
theorem dX1_borne_1 : decode cX1_borne 1 = .ok (.invokevirtual 113, 3) := dk_182 0 113 (dk_at dksX1_borne_0 1 rfl rfl)
theorem dX1_borne_4 : decode cX1_borne 4 = .ok (.aload_n 0, 1) := dk_42 (dk_at dksX1_borne_0 4 rfl rfl)
theorem dX1_borne_5 : decode cX1_borne 5 = .ok (.iload_n 1, 1) := dk_27 (dk_at dksX1_borne_0 5 rfl rfl)
theorem dX1_borne_6 : decode cX1_borne 6 = .ok (.invokevirtual 252, 3) := dk_182 0 252 (dk_at dksX1_borne_0 6 rfl rfl)
theorem dX1_borne_9 : decode cX1_borne 9 = .ok (.ifCond .eq 28, 3) := dk_153 0 28 (dk_at dksX1_borne_0 9 rfl rfl)
theorem dX1_borne_12 : decode cX1_borne 12 = .ok (.aload_n 0, 1) := dk_42 (dk_at dksX1_borne_0 12 rfl rfl)
theorem dX1_borne_13 : decode cX1_borne 13 = .ok (.aload_n 0, 1) := dk_42 (dk_at dksX1_borne_0 13 rfl rfl)
theorem dX1_borne_14 : decode cX1_borne 14 = .ok (.getfield 137, 3) := dk_180 0 137 (dk_at dksX1_borne_0 14 rfl rfl)
theorem dX1_borne_17 : decode cX1_borne 17 = .ok (.getfield 246, 3) := dk_180 0 246 (dk_at dksX1_borne_0 17 rfl rfl)
theorem dX1_borne_20 : decode cX1_borne 20 = .ok (.iload_n 1, 1) := dk_27 (dk_at dksX1_borne_0 20 rfl rfl)
theorem dX1_borne_21 : decode cX1_borne 21 = .ok (.aaload, 1) := dk_50 (dk_at dksX1_borne_0 21 rfl rfl)
theorem dX1_borne_22 : decode cX1_borne 22 = .ok (.iconst 1, 1) := dk_4 (dk_at dksX1_borne_0 22 rfl rfl)
theorem dX1_borne_23 : decode cX1_borne 23 = .ok (.invokevirtual 301, 3) := dk_182 1 45 (dk_at dksX1_borne_1 0 rfl rfl)
theorem dX1_borne_26 : decode cX1_borne 26 = .ok (.ifCond .eq 7, 3) := dk_153 0 7 (dk_at dksX1_borne_1 3 rfl rfl)
theorem dX1_borne_29 : decode cX1_borne 29 = .ok (.iconst 1, 1) := dk_4 (dk_at dksX1_borne_1 6 rfl rfl)
theorem dX1_borne_30 : decode cX1_borne 30 = .ok (.goto 12, 3) := dk_167 0 12 (dk_at dksX1_borne_1 7 rfl rfl)
theorem dX1_borne_33 : decode cX1_borne 33 = .ok (.iconst 0, 1) := dk_3 (dk_at dksX1_borne_1 10 rfl rfl)
theorem dX1_borne_34 : decode cX1_borne 34 = .ok (.goto 8, 3) := dk_167 0 8 (dk_at dksX1_borne_1 11 rfl rfl)
theorem dX1_borne_37 : decode cX1_borne 37 = .ok (.aload_n 0, 1) := dk_42 (dk_at dksX1_borne_1 14 rfl rfl)
theorem dX1_borne_38 : decode cX1_borne 38 = .ok (.iconst 1, 1) := dk_4 (dk_at dksX1_borne_1 15 rfl rfl)
theorem dX1_borne_39 : decode cX1_borne 39 = .ok (.invokevirtual 127, 3) := dk_182 0 127 (dk_at dksX1_borne_1 16 rfl rfl)
theorem dX1_borne_42 : decode cX1_borne 42 = .ok (.ireturn, 1) := dk_172 (dk_at dksX1_borne_1 19 rfl rfl)
abbrev cX1_wordsWork : ByteArray := prog_1_method_49_code
def yX1_wordsWork : MethodName := ⟨RX1, "wordsWork", "(I)I"⟩
def dkwX1_wordsWork_2 : List UInt8 := [42, 5, 182, 0, 127, 172]
abbrev dktX1_wordsWork_2 : List UInt8 := dkwX1_wordsWork_2 ++ []
def dkwX1_wordsWork_1 : List UInt8 := [153, 0, 24, 42, 42, 180, 0, 79, 27, 50, 182, 1, 29, 153, 0, 7, 4, 167, 0, 12, 3, 167, 0, 8]
abbrev dktX1_wordsWork_1 : List UInt8 := dkwX1_wordsWork_1 ++ dktX1_wordsWork_2
def dkwX1_wordsWork_0 : List UInt8 := [42, 182, 0, 113, 42, 180, 0, 137, 199, 0, 9, 42, 4, 182, 0, 127, 172, 27, 3, 16, 19, 184, 0, 123]
abbrev dktX1_wordsWork_0 : List UInt8 := dkwX1_wordsWork_0 ++ dktX1_wordsWork_1
theorem dksX1_wordsWork_0 : cX1_wordsWork.data.toList.drop 0 = dktX1_wordsWork_0 := by decide +kernel
theorem dksX1_wordsWork_1 : cX1_wordsWork.data.toList.drop 24 = dktX1_wordsWork_1 := dk_seg dksX1_wordsWork_0 24 rfl rfl
theorem dksX1_wordsWork_2 : cX1_wordsWork.data.toList.drop 48 = dktX1_wordsWork_2 := dk_seg dksX1_wordsWork_1 24 rfl rfl
theorem dX1_wordsWork_0 : decode cX1_wordsWork 0 = .ok (.aload_n 0, 1) := dk_42 (dk_at dksX1_wordsWork_0 0 rfl rfl)
theorem dX1_wordsWork_1 : decode cX1_wordsWork 1 = .ok (.invokevirtual 113, 3) := dk_182 0 113 (dk_at dksX1_wordsWork_0 1 rfl rfl)
theorem dX1_wordsWork_4 : decode cX1_wordsWork 4 = .ok (.aload_n 0, 1) := dk_42 (dk_at dksX1_wordsWork_0 4 rfl rfl)
theorem dX1_wordsWork_5 : decode cX1_wordsWork 5 = .ok (.getfield 137, 3) := dk_180 0 137 (dk_at dksX1_wordsWork_0 5 rfl rfl)
theorem dX1_wordsWork_8 : decode cX1_wordsWork 8 = .ok (.ifnonnull 9, 3) := dk_199 0 9 (dk_at dksX1_wordsWork_0 8 rfl rfl)
theorem dX1_wordsWork_11 : decode cX1_wordsWork 11 = .ok (.aload_n 0, 1) := dk_42 (dk_at dksX1_wordsWork_0 11 rfl rfl)
theorem dX1_wordsWork_12 : decode cX1_wordsWork 12 = .ok (.iconst 1, 1) := dk_4 (dk_at dksX1_wordsWork_0 12 rfl rfl)
theorem dX1_wordsWork_13 : decode cX1_wordsWork 13 = .ok (.invokevirtual 127, 3) := dk_182 0 127 (dk_at dksX1_wordsWork_0 13 rfl rfl)
theorem dX1_wordsWork_16 : decode cX1_wordsWork 16 = .ok (.ireturn, 1) := dk_172 (dk_at dksX1_wordsWork_0 16 rfl rfl)
theorem dX1_wordsWork_17 : decode cX1_wordsWork 17 = .ok (.iload_n 1, 1) := dk_27 (dk_at dksX1_wordsWork_0 17 rfl rfl)
theorem dX1_wordsWork_18 : decode cX1_wordsWork 18 = .ok (.iconst 0, 1) := dk_3 (dk_at dksX1_wordsWork_0 18 rfl rfl)
theorem dX1_wordsWork_19 : decode cX1_wordsWork 19 = .ok (.bipush 19, 2) := dk_16 19 (dk_at dksX1_wordsWork_0 19 rfl rfl)
theorem dX1_wordsWork_21 : decode cX1_wordsWork 21 = .ok (.invokestatic 123, 3) := dk_184 0 123 (dk_at dksX1_wordsWork_0 21 rfl rfl)
theorem dX1_wordsWork_24 : decode cX1_wordsWork 24 = .ok (.ifCond .eq 24, 3) := dk_153 0 24 (dk_at dksX1_wordsWork_1 0 rfl rfl)
theorem dX1_wordsWork_27 : decode cX1_wordsWork 27 = .ok (.aload_n 0, 1) := dk_42 (dk_at dksX1_wordsWork_1 3 rfl rfl)
theorem dX1_wordsWork_28 : decode cX1_wordsWork 28 = .ok (.aload_n 0, 1) := dk_42 (dk_at dksX1_wordsWork_1 4 rfl rfl)
theorem dX1_wordsWork_29 : decode cX1_wordsWork 29 = .ok (.getfield 79, 3) := dk_180 0 79 (dk_at dksX1_wordsWork_1 5 rfl rfl)
theorem dX1_wordsWork_32 : decode cX1_wordsWork 32 = .ok (.iload_n 1, 1) := dk_27 (dk_at dksX1_wordsWork_1 8 rfl rfl)
theorem dX1_wordsWork_33 : decode cX1_wordsWork 33 = .ok (.aaload, 1) := dk_50 (dk_at dksX1_wordsWork_1 9 rfl rfl)
theorem dX1_wordsWork_34 : decode cX1_wordsWork 34 = .ok (.invokevirtual 285, 3) := dk_182 1 29 (dk_at dksX1_wordsWork_1 10 rfl rfl)
theorem dX1_wordsWork_37 : decode cX1_wordsWork 37 = .ok (.ifCond .eq 7, 3) := dk_153 0 7 (dk_at dksX1_wordsWork_1 13 rfl rfl)
theorem dX1_wordsWork_40 : decode cX1_wordsWork 40 = .ok (.iconst 1, 1) := dk_4 (dk_at dksX1_wordsWork_1 16 rfl rfl)
theorem dX1_wordsWork_41 : decode cX1_wordsWork 41 = .ok (.goto 12, 3) := dk_167 0 12 (dk_at dksX1_wordsWork_1 17 rfl rfl)
theorem dX1_wordsWork_44 : decode cX1_wordsWork 44 = .ok (.iconst 0, 1) := dk_3 (dk_at dksX1_wordsWork_1 20 rfl rfl)
theorem dX1_wordsWork_45 : decode cX1_wordsWork 45 = .ok (.goto 8, 3) := dk_167 0 8 (dk_at dksX1_wordsWork_1 21 rfl rfl)
theorem dX1_wordsWork_48 : decode cX1_wordsWork 48 = .ok (.aload_n 0, 1) := dk_42 (dk_at dksX1_wordsWork_2 0 rfl rfl)
theorem dX1_wordsWork_49 : decode cX1_wordsWork 49 = .ok (.iconst 2, 1) := dk_5 (dk_at dksX1_wordsWork_2 1 rfl rfl)
theorem dX1_wordsWork_50 : decode cX1_wordsWork 50 = .ok (.invokevirtual 127, 3) := dk_182 0 127 (dk_at dksX1_wordsWork_2 2 rfl rfl)
theorem dX1_wordsWork_53 : decode cX1_wordsWork 53 = .ok (.ireturn, 1) := dk_172 (dk_at dksX1_wordsWork_2 5 rfl rfl)
abbrev cX1_shortest : ByteArray := prog_1_method_50_code
def yX1_shortest : MethodName := ⟨RX1, "shortest", "()I"⟩
def dkwX1_shortest_2 : List UInt8 := [16, 254, 172]
abbrev dktX1_shortest_2 : List UInt8 := dkwX1_shortest_2 ++ []
def dkwX1_shortest_1 : List UInt8 := [162, 0, 24, 42, 42, 180, 0, 79, 27, 50, 182, 1, 29, 153, 0, 5, 27, 172, 132, 1, 1, 167, 255, 232]
abbrev dktX1_shortest_1 : List UInt8 := dkwX1_shortest_1 ++ dktX1_shortest_2
def dkwX1_shortest_0 : List UInt8 := [42, 182, 0, 113, 42, 180, 0, 137, 199, 0, 9, 42, 4, 182, 0, 127, 172, 3, 60, 27, 16, 20]
abbrev dktX1_shortest_0 : List UInt8 := dkwX1_shortest_0 ++ dktX1_shortest_1
theorem dksX1_shortest_0 : cX1_shortest.data.toList.drop 0 = dktX1_shortest_0 := by decide +kernel
theorem dksX1_shortest_1 : cX1_shortest.data.toList.drop 22 = dktX1_shortest_1 := dk_seg dksX1_shortest_0 22 rfl rfl
theorem dksX1_shortest_2 : cX1_shortest.data.toList.drop 46 = dktX1_shortest_2 := dk_seg dksX1_shortest_1 24 rfl rfl
theorem dX1_shortest_0 : decode cX1_shortest 0 = .ok (.aload_n 0, 1) := dk_42 (dk_at dksX1_shortest_0 0 rfl rfl)
theorem dX1_shortest_1 : decode cX1_shortest 1 = .ok (.invokevirtual 113, 3) := dk_182 0 113 (dk_at dksX1_shortest_0 1 rfl rfl)
theorem dX1_shortest_4 : decode cX1_shortest 4 = .ok (.aload_n 0, 1) := dk_42 (dk_at dksX1_shortest_0 4 rfl rfl)
theorem dX1_shortest_5 : decode cX1_shortest 5 = .ok (.getfield 137, 3) := dk_180 0 137 (dk_at dksX1_shortest_0 5 rfl rfl)
theorem dX1_shortest_8 : decode cX1_shortest 8 = .ok (.ifnonnull 9, 3) := dk_199 0 9 (dk_at dksX1_shortest_0 8 rfl rfl)
theorem dX1_shortest_11 : decode cX1_shortest 11 = .ok (.aload_n 0, 1) := dk_42 (dk_at dksX1_shortest_0 11 rfl rfl)
theorem dX1_shortest_12 : decode cX1_shortest 12 = .ok (.iconst 1, 1) := dk_4 (dk_at dksX1_shortest_0 12 rfl rfl)
theorem dX1_shortest_13 : decode cX1_shortest 13 = .ok (.invokevirtual 127, 3) := dk_182 0 127 (dk_at dksX1_shortest_0 13 rfl rfl)
theorem dX1_shortest_16 : decode cX1_shortest 16 = .ok (.ireturn, 1) := dk_172 (dk_at dksX1_shortest_0 16 rfl rfl)
theorem dX1_shortest_17 : decode cX1_shortest 17 = .ok (.iconst 0, 1) := dk_3 (dk_at dksX1_shortest_0 17 rfl rfl)
theorem dX1_shortest_18 : decode cX1_shortest 18 = .ok (.istore_n 1, 1) := dk_60 (dk_at dksX1_shortest_0 18 rfl rfl)
theorem dX1_shortest_19 : decode cX1_shortest 19 = .ok (.iload_n 1, 1) := dk_27 (dk_at dksX1_shortest_0 19 rfl rfl)
theorem dX1_shortest_20 : decode cX1_shortest 20 = .ok (.bipush 20, 2) := dk_16 20 (dk_at dksX1_shortest_0 20 rfl rfl)
theorem dX1_shortest_22 : decode cX1_shortest 22 = .ok (.if_icmp .ge 24, 3) := dk_162 0 24 (dk_at dksX1_shortest_1 0 rfl rfl)
theorem dX1_shortest_25 : decode cX1_shortest 25 = .ok (.aload_n 0, 1) := dk_42 (dk_at dksX1_shortest_1 3 rfl rfl)
theorem dX1_shortest_26 : decode cX1_shortest 26 = .ok (.aload_n 0, 1) := dk_42 (dk_at dksX1_shortest_1 4 rfl rfl)
theorem dX1_shortest_27 : decode cX1_shortest 27 = .ok (.getfield 79, 3) := dk_180 0 79 (dk_at dksX1_shortest_1 5 rfl rfl)
theorem dX1_shortest_30 : decode cX1_shortest 30 = .ok (.iload_n 1, 1) := dk_27 (dk_at dksX1_shortest_1 8 rfl rfl)
theorem dX1_shortest_31 : decode cX1_shortest 31 = .ok (.aaload, 1) := dk_50 (dk_at dksX1_shortest_1 9 rfl rfl)
theorem dX1_shortest_32 : decode cX1_shortest 32 = .ok (.invokevirtual 285, 3) := dk_182 1 29 (dk_at dksX1_shortest_1 10 rfl rfl)
theorem dX1_shortest_35 : decode cX1_shortest 35 = .ok (.ifCond .eq 5, 3) := dk_153 0 5 (dk_at dksX1_shortest_1 13 rfl rfl)
theorem dX1_shortest_38 : decode cX1_shortest 38 = .ok (.iload_n 1, 1) := dk_27 (dk_at dksX1_shortest_1 16 rfl rfl)
theorem dX1_shortest_39 : decode cX1_shortest 39 = .ok (.ireturn, 1) := dk_172 (dk_at dksX1_shortest_1 17 rfl rfl)
theorem dX1_shortest_40 : decode cX1_shortest 40 = .ok (.iinc 1 1, 3) := dk_132 1 1 (dk_at dksX1_shortest_1 18 rfl rfl)
theorem dX1_shortest_43 : decode cX1_shortest 43 = .ok (.goto (-24), 3) := dk_167 255 232 (dk_at dksX1_shortest_1 21 rfl rfl)
theorem dX1_shortest_46 : decode cX1_shortest 46 = .ok (.bipush (-2), 2) := dk_16 254 (dk_at dksX1_shortest_2 0 rfl rfl)
theorem dX1_shortest_48 : decode cX1_shortest 48 = .ok (.ireturn, 1) := dk_172 (dk_at dksX1_shortest_2 2 rfl rfl)
abbrev cX1_pairs : ByteArray := prog_1_method_51_code
def yX1_pairs : MethodName := ⟨RX1, "pairs", "()I"⟩
def dkwX1_pairs_1 : List UInt8 := [42, 180, 0, 73, 180, 1, 52, 172]
abbrev dktX1_pairs_1 : List UInt8 := dkwX1_pairs_1 ++ []
def dkwX1_pairs_0 : List UInt8 := [42, 182, 0, 113, 42, 180, 0, 137, 199, 0, 9, 42, 4, 182, 0, 127, 172, 42, 180, 0, 73, 182, 1, 49]
abbrev dktX1_pairs_0 : List UInt8 := dkwX1_pairs_0 ++ dktX1_pairs_1
theorem dksX1_pairs_0 : cX1_pairs.data.toList.drop 0 = dktX1_pairs_0 := by decide +kernel
theorem dksX1_pairs_1 : cX1_pairs.data.toList.drop 24 = dktX1_pairs_1 := dk_seg dksX1_pairs_0 24 rfl rfl
theorem dX1_pairs_0 : decode cX1_pairs 0 = .ok (.aload_n 0, 1) := dk_42 (dk_at dksX1_pairs_0 0 rfl rfl)
theorem dX1_pairs_1 : decode cX1_pairs 1 = .ok (.invokevirtual 113, 3) := dk_182 0 113 (dk_at dksX1_pairs_0 1 rfl rfl)
theorem dX1_pairs_4 : decode cX1_pairs 4 = .ok (.aload_n 0, 1) := dk_42 (dk_at dksX1_pairs_0 4 rfl rfl)
theorem dX1_pairs_5 : decode cX1_pairs 5 = .ok (.getfield 137, 3) := dk_180 0 137 (dk_at dksX1_pairs_0 5 rfl rfl)
theorem dX1_pairs_8 : decode cX1_pairs 8 = .ok (.ifnonnull 9, 3) := dk_199 0 9 (dk_at dksX1_pairs_0 8 rfl rfl)
theorem dX1_pairs_11 : decode cX1_pairs 11 = .ok (.aload_n 0, 1) := dk_42 (dk_at dksX1_pairs_0 11 rfl rfl)
theorem dX1_pairs_12 : decode cX1_pairs 12 = .ok (.iconst 1, 1) := dk_4 (dk_at dksX1_pairs_0 12 rfl rfl)
theorem dX1_pairs_13 : decode cX1_pairs 13 = .ok (.invokevirtual 127, 3) := dk_182 0 127 (dk_at dksX1_pairs_0 13 rfl rfl)
theorem dX1_pairs_16 : decode cX1_pairs 16 = .ok (.ireturn, 1) := dk_172 (dk_at dksX1_pairs_0 16 rfl rfl)
theorem dX1_pairs_17 : decode cX1_pairs 17 = .ok (.aload_n 0, 1) := dk_42 (dk_at dksX1_pairs_0 17 rfl rfl)
theorem dX1_pairs_18 : decode cX1_pairs 18 = .ok (.getfield 73, 3) := dk_180 0 73 (dk_at dksX1_pairs_0 18 rfl rfl)
theorem dX1_pairs_21 : decode cX1_pairs 21 = .ok (.invokevirtual 305, 3) := dk_182 1 49 (dk_at dksX1_pairs_0 21 rfl rfl)
theorem dX1_pairs_24 : decode cX1_pairs 24 = .ok (.aload_n 0, 1) := dk_42 (dk_at dksX1_pairs_1 0 rfl rfl)
theorem dX1_pairs_25 : decode cX1_pairs 25 = .ok (.getfield 73, 3) := dk_180 0 73 (dk_at dksX1_pairs_1 1 rfl rfl)
theorem dX1_pairs_28 : decode cX1_pairs 28 = .ok (.getfield 308, 3) := dk_180 1 52 (dk_at dksX1_pairs_1 4 rfl rfl)
theorem dX1_pairs_31 : decode cX1_pairs 31 = .ok (.ireturn, 1) := dk_172 (dk_at dksX1_pairs_1 7 rfl rfl)
abbrev cX1_table : ByteArray := prog_1_method_52_code
def yX1_table : MethodName := ⟨RX1, "table", "(I)I"⟩
def dkwX1_table_2 : List UInt8 := [180, 0, 73, 27, 182, 0, 240, 167, 0, 5, 16, 254, 172]
abbrev dktX1_table_2 : List UInt8 := dkwX1_table_2 ++ []
def dkwX1_table_1 : List UInt8 := [17, 1, 44, 164, 0, 9, 42, 6, 182, 0, 127, 172, 42, 180, 0, 73, 182, 0, 234, 153, 0, 14, 42]
abbrev dktX1_table_1 : List UInt8 := dkwX1_table_1 ++ dktX1_table_2
def dkwX1_table_0 : List UInt8 := [42, 182, 0, 113, 42, 27, 182, 0, 201, 154, 0, 9, 42, 4, 182, 0, 127, 172, 42, 180, 0, 155]
abbrev dktX1_table_0 : List UInt8 := dkwX1_table_0 ++ dktX1_table_1
theorem dksX1_table_0 : cX1_table.data.toList.drop 0 = dktX1_table_0 := by decide +kernel
theorem dksX1_table_1 : cX1_table.data.toList.drop 22 = dktX1_table_1 := dk_seg dksX1_table_0 22 rfl rfl
theorem dksX1_table_2 : cX1_table.data.toList.drop 45 = dktX1_table_2 := dk_seg dksX1_table_1 23 rfl rfl
theorem dX1_table_0 : decode cX1_table 0 = .ok (.aload_n 0, 1) := dk_42 (dk_at dksX1_table_0 0 rfl rfl)
theorem dX1_table_1 : decode cX1_table 1 = .ok (.invokevirtual 113, 3) := dk_182 0 113 (dk_at dksX1_table_0 1 rfl rfl)
theorem dX1_table_4 : decode cX1_table 4 = .ok (.aload_n 0, 1) := dk_42 (dk_at dksX1_table_0 4 rfl rfl)
theorem dX1_table_5 : decode cX1_table 5 = .ok (.iload_n 1, 1) := dk_27 (dk_at dksX1_table_0 5 rfl rfl)
theorem dX1_table_6 : decode cX1_table 6 = .ok (.invokevirtual 201, 3) := dk_182 0 201 (dk_at dksX1_table_0 6 rfl rfl)
theorem dX1_table_9 : decode cX1_table 9 = .ok (.ifCond .ne 9, 3) := dk_154 0 9 (dk_at dksX1_table_0 9 rfl rfl)
theorem dX1_table_12 : decode cX1_table 12 = .ok (.aload_n 0, 1) := dk_42 (dk_at dksX1_table_0 12 rfl rfl)
theorem dX1_table_13 : decode cX1_table 13 = .ok (.iconst 1, 1) := dk_4 (dk_at dksX1_table_0 13 rfl rfl)
theorem dX1_table_14 : decode cX1_table 14 = .ok (.invokevirtual 127, 3) := dk_182 0 127 (dk_at dksX1_table_0 14 rfl rfl)
theorem dX1_table_17 : decode cX1_table 17 = .ok (.ireturn, 1) := dk_172 (dk_at dksX1_table_0 17 rfl rfl)
theorem dX1_table_18 : decode cX1_table 18 = .ok (.aload_n 0, 1) := dk_42 (dk_at dksX1_table_0 18 rfl rfl)
theorem dX1_table_19 : decode cX1_table 19 = .ok (.getfield 155, 3) := dk_180 0 155 (dk_at dksX1_table_0 19 rfl rfl)
theorem dX1_table_22 : decode cX1_table 22 = .ok (.sipush 300, 3) := dk_17 1 44 (dk_at dksX1_table_1 0 rfl rfl)
theorem dX1_table_25 : decode cX1_table 25 = .ok (.if_icmp .le 9, 3) := dk_164 0 9 (dk_at dksX1_table_1 3 rfl rfl)
theorem dX1_table_28 : decode cX1_table 28 = .ok (.aload_n 0, 1) := dk_42 (dk_at dksX1_table_1 6 rfl rfl)
theorem dX1_table_29 : decode cX1_table 29 = .ok (.iconst 3, 1) := dk_6 (dk_at dksX1_table_1 7 rfl rfl)
theorem dX1_table_30 : decode cX1_table 30 = .ok (.invokevirtual 127, 3) := dk_182 0 127 (dk_at dksX1_table_1 8 rfl rfl)
theorem dX1_table_33 : decode cX1_table 33 = .ok (.ireturn, 1) := dk_172 (dk_at dksX1_table_1 11 rfl rfl)
theorem dX1_table_34 : decode cX1_table 34 = .ok (.aload_n 0, 1) := dk_42 (dk_at dksX1_table_1 12 rfl rfl)
theorem dX1_table_35 : decode cX1_table 35 = .ok (.getfield 73, 3) := dk_180 0 73 (dk_at dksX1_table_1 13 rfl rfl)
theorem dX1_table_38 : decode cX1_table 38 = .ok (.invokevirtual 234, 3) := dk_182 0 234 (dk_at dksX1_table_1 16 rfl rfl)
theorem dX1_table_41 : decode cX1_table 41 = .ok (.ifCond .eq 14, 3) := dk_153 0 14 (dk_at dksX1_table_1 19 rfl rfl)
theorem dX1_table_44 : decode cX1_table 44 = .ok (.aload_n 0, 1) := dk_42 (dk_at dksX1_table_1 22 rfl rfl)
theorem dX1_table_45 : decode cX1_table 45 = .ok (.getfield 73, 3) := dk_180 0 73 (dk_at dksX1_table_2 0 rfl rfl)
theorem dX1_table_48 : decode cX1_table 48 = .ok (.iload_n 1, 1) := dk_27 (dk_at dksX1_table_2 3 rfl rfl)
theorem dX1_table_49 : decode cX1_table 49 = .ok (.invokevirtual 240, 3) := dk_182 0 240 (dk_at dksX1_table_2 4 rfl rfl)
theorem dX1_table_52 : decode cX1_table 52 = .ok (.goto 5, 3) := dk_167 0 5 (dk_at dksX1_table_2 7 rfl rfl)
theorem dX1_table_55 : decode cX1_table 55 = .ok (.bipush (-2), 2) := dk_16 254 (dk_at dksX1_table_2 10 rfl rfl)
theorem dX1_table_57 : decode cX1_table 57 = .ok (.ireturn, 1) := dk_172 (dk_at dksX1_table_2 12 rfl rfl)
abbrev cX1_count : ByteArray := prog_1_method_53_code
def yX1_count : MethodName := ⟨RX1, "count", "(IZ)J"⟩
def dkwX1_count_2 : List UInt8 := [180, 0, 137, 27, 182, 1, 55, 167, 0, 11, 42, 180, 0, 137, 27, 182, 0, 151, 173]
abbrev dktX1_count_2 : List UInt8 := dkwX1_count_2 ++ []
def dkwX1_count_1 : List UInt8 := [180, 0, 205, 17, 0, 200, 184, 0, 123, 154, 0, 10, 42, 5, 182, 0, 127, 133, 173, 28, 153, 0, 14, 42]
abbrev dktX1_count_1 : List UInt8 := dkwX1_count_1 ++ dktX1_count_2
def dkwX1_count_0 : List UInt8 := [42, 182, 0, 113, 42, 180, 0, 137, 199, 0, 10, 42, 4, 182, 0, 127, 133, 173, 27, 42, 180, 0, 137]
abbrev dktX1_count_0 : List UInt8 := dkwX1_count_0 ++ dktX1_count_1
theorem dksX1_count_0 : cX1_count.data.toList.drop 0 = dktX1_count_0 := by decide +kernel
theorem dksX1_count_1 : cX1_count.data.toList.drop 23 = dktX1_count_1 := dk_seg dksX1_count_0 23 rfl rfl
theorem dksX1_count_2 : cX1_count.data.toList.drop 47 = dktX1_count_2 := dk_seg dksX1_count_1 24 rfl rfl
theorem dX1_count_0 : decode cX1_count 0 = .ok (.aload_n 0, 1) := dk_42 (dk_at dksX1_count_0 0 rfl rfl)
theorem dX1_count_1 : decode cX1_count 1 = .ok (.invokevirtual 113, 3) := dk_182 0 113 (dk_at dksX1_count_0 1 rfl rfl)
theorem dX1_count_4 : decode cX1_count 4 = .ok (.aload_n 0, 1) := dk_42 (dk_at dksX1_count_0 4 rfl rfl)
theorem dX1_count_5 : decode cX1_count 5 = .ok (.getfield 137, 3) := dk_180 0 137 (dk_at dksX1_count_0 5 rfl rfl)
theorem dX1_count_8 : decode cX1_count 8 = .ok (.ifnonnull 10, 3) := dk_199 0 10 (dk_at dksX1_count_0 8 rfl rfl)
theorem dX1_count_11 : decode cX1_count 11 = .ok (.aload_n 0, 1) := dk_42 (dk_at dksX1_count_0 11 rfl rfl)
theorem dX1_count_12 : decode cX1_count 12 = .ok (.iconst 1, 1) := dk_4 (dk_at dksX1_count_0 12 rfl rfl)
theorem dX1_count_13 : decode cX1_count 13 = .ok (.invokevirtual 127, 3) := dk_182 0 127 (dk_at dksX1_count_0 13 rfl rfl)
theorem dX1_count_16 : decode cX1_count 16 = .ok (.i2l, 1) := dk_133 (dk_at dksX1_count_0 16 rfl rfl)
theorem dX1_count_17 : decode cX1_count 17 = .ok (.lreturn, 1) := dk_173 (dk_at dksX1_count_0 17 rfl rfl)
theorem dX1_count_18 : decode cX1_count 18 = .ok (.iload_n 1, 1) := dk_27 (dk_at dksX1_count_0 18 rfl rfl)
theorem dX1_count_19 : decode cX1_count 19 = .ok (.aload_n 0, 1) := dk_42 (dk_at dksX1_count_0 19 rfl rfl)
theorem dX1_count_20 : decode cX1_count 20 = .ok (.getfield 137, 3) := dk_180 0 137 (dk_at dksX1_count_0 20 rfl rfl)
theorem dX1_count_23 : decode cX1_count 23 = .ok (.getfield 205, 3) := dk_180 0 205 (dk_at dksX1_count_1 0 rfl rfl)
theorem dX1_count_26 : decode cX1_count 26 = .ok (.sipush 200, 3) := dk_17 0 200 (dk_at dksX1_count_1 3 rfl rfl)
theorem dX1_count_29 : decode cX1_count 29 = .ok (.invokestatic 123, 3) := dk_184 0 123 (dk_at dksX1_count_1 6 rfl rfl)
theorem dX1_count_32 : decode cX1_count 32 = .ok (.ifCond .ne 10, 3) := dk_154 0 10 (dk_at dksX1_count_1 9 rfl rfl)
theorem dX1_count_35 : decode cX1_count 35 = .ok (.aload_n 0, 1) := dk_42 (dk_at dksX1_count_1 12 rfl rfl)
theorem dX1_count_36 : decode cX1_count 36 = .ok (.iconst 2, 1) := dk_5 (dk_at dksX1_count_1 13 rfl rfl)
theorem dX1_count_37 : decode cX1_count 37 = .ok (.invokevirtual 127, 3) := dk_182 0 127 (dk_at dksX1_count_1 14 rfl rfl)
theorem dX1_count_40 : decode cX1_count 40 = .ok (.i2l, 1) := dk_133 (dk_at dksX1_count_1 17 rfl rfl)
theorem dX1_count_41 : decode cX1_count 41 = .ok (.lreturn, 1) := dk_173 (dk_at dksX1_count_1 18 rfl rfl)
theorem dX1_count_42 : decode cX1_count 42 = .ok (.iload_n 2, 1) := dk_28 (dk_at dksX1_count_1 19 rfl rfl)
theorem dX1_count_43 : decode cX1_count 43 = .ok (.ifCond .eq 14, 3) := dk_153 0 14 (dk_at dksX1_count_1 20 rfl rfl)
theorem dX1_count_46 : decode cX1_count 46 = .ok (.aload_n 0, 1) := dk_42 (dk_at dksX1_count_1 23 rfl rfl)
theorem dX1_count_47 : decode cX1_count 47 = .ok (.getfield 137, 3) := dk_180 0 137 (dk_at dksX1_count_2 0 rfl rfl)
theorem dX1_count_50 : decode cX1_count 50 = .ok (.iload_n 1, 1) := dk_27 (dk_at dksX1_count_2 3 rfl rfl)
theorem dX1_count_51 : decode cX1_count 51 = .ok (.invokevirtual 311, 3) := dk_182 1 55 (dk_at dksX1_count_2 4 rfl rfl)
theorem dX1_count_54 : decode cX1_count 54 = .ok (.goto 11, 3) := dk_167 0 11 (dk_at dksX1_count_2 7 rfl rfl)
theorem dX1_count_57 : decode cX1_count 57 = .ok (.aload_n 0, 1) := dk_42 (dk_at dksX1_count_2 10 rfl rfl)
theorem dX1_count_58 : decode cX1_count 58 = .ok (.getfield 137, 3) := dk_180 0 137 (dk_at dksX1_count_2 11 rfl rfl)
theorem dX1_count_61 : decode cX1_count 61 = .ok (.iload_n 1, 1) := dk_27 (dk_at dksX1_count_2 14 rfl rfl)
theorem dX1_count_62 : decode cX1_count 62 = .ok (.invokevirtual 151, 3) := dk_182 0 151 (dk_at dksX1_count_2 15 rfl rfl)
theorem dX1_count_65 : decode cX1_count 65 = .ok (.lreturn, 1) := dk_173 (dk_at dksX1_count_2 18 rfl rfl)
abbrev cX1_most : ByteArray := prog_1_method_54_code
def yX1_most : MethodName := ⟨RX1, "most", "()I"⟩
def dkwX1_most_3 : List UInt8 := [16, 254, 167, 0, 4, 27, 172]
abbrev dktX1_most_3 : List UInt8 := dkwX1_most_3 ++ []
def dkwX1_most_2 : List UInt8 := [182, 1, 55, 148, 158, 0, 9, 132, 1, 255, 167, 255, 222, 27, 42, 180, 0, 137, 180, 0, 205, 162, 0, 8]
abbrev dktX1_most_2 : List UInt8 := dkwX1_most_2 ++ dktX1_most_3
def dkwX1_most_1 : List UInt8 := [180, 0, 137, 180, 0, 205, 161, 0, 29, 42, 180, 0, 137, 27, 182, 0, 151, 42, 180, 0, 137, 27]
abbrev dktX1_most_1 : List UInt8 := dkwX1_most_1 ++ dktX1_most_2
def dkwX1_most_0 : List UInt8 := [42, 182, 0, 113, 42, 180, 0, 137, 199, 0, 9, 42, 4, 182, 0, 127, 172, 17, 0, 200, 60, 27, 42]
abbrev dktX1_most_0 : List UInt8 := dkwX1_most_0 ++ dktX1_most_1
theorem dksX1_most_0 : cX1_most.data.toList.drop 0 = dktX1_most_0 := by decide +kernel
theorem dksX1_most_1 : cX1_most.data.toList.drop 23 = dktX1_most_1 := dk_seg dksX1_most_0 23 rfl rfl
theorem dksX1_most_2 : cX1_most.data.toList.drop 45 = dktX1_most_2 := dk_seg dksX1_most_1 22 rfl rfl
theorem dksX1_most_3 : cX1_most.data.toList.drop 69 = dktX1_most_3 := dk_seg dksX1_most_2 24 rfl rfl
theorem dX1_most_0 : decode cX1_most 0 = .ok (.aload_n 0, 1) := dk_42 (dk_at dksX1_most_0 0 rfl rfl)
theorem dX1_most_1 : decode cX1_most 1 = .ok (.invokevirtual 113, 3) := dk_182 0 113 (dk_at dksX1_most_0 1 rfl rfl)
theorem dX1_most_4 : decode cX1_most 4 = .ok (.aload_n 0, 1) := dk_42 (dk_at dksX1_most_0 4 rfl rfl)
theorem dX1_most_5 : decode cX1_most 5 = .ok (.getfield 137, 3) := dk_180 0 137 (dk_at dksX1_most_0 5 rfl rfl)
theorem dX1_most_8 : decode cX1_most 8 = .ok (.ifnonnull 9, 3) := dk_199 0 9 (dk_at dksX1_most_0 8 rfl rfl)
theorem dX1_most_11 : decode cX1_most 11 = .ok (.aload_n 0, 1) := dk_42 (dk_at dksX1_most_0 11 rfl rfl)
theorem dX1_most_12 : decode cX1_most 12 = .ok (.iconst 1, 1) := dk_4 (dk_at dksX1_most_0 12 rfl rfl)
theorem dX1_most_13 : decode cX1_most 13 = .ok (.invokevirtual 127, 3) := dk_182 0 127 (dk_at dksX1_most_0 13 rfl rfl)
theorem dX1_most_16 : decode cX1_most 16 = .ok (.ireturn, 1) := dk_172 (dk_at dksX1_most_0 16 rfl rfl)
theorem dX1_most_17 : decode cX1_most 17 = .ok (.sipush 200, 3) := dk_17 0 200 (dk_at dksX1_most_0 17 rfl rfl)
theorem dX1_most_20 : decode cX1_most 20 = .ok (.istore_n 1, 1) := dk_60 (dk_at dksX1_most_0 20 rfl rfl)
theorem dX1_most_21 : decode cX1_most 21 = .ok (.iload_n 1, 1) := dk_27 (dk_at dksX1_most_0 21 rfl rfl)
theorem dX1_most_22 : decode cX1_most 22 = .ok (.aload_n 0, 1) := dk_42 (dk_at dksX1_most_0 22 rfl rfl)
theorem dX1_most_23 : decode cX1_most 23 = .ok (.getfield 137, 3) := dk_180 0 137 (dk_at dksX1_most_1 0 rfl rfl)
theorem dX1_most_26 : decode cX1_most 26 = .ok (.getfield 205, 3) := dk_180 0 205 (dk_at dksX1_most_1 3 rfl rfl)
theorem dX1_most_29 : decode cX1_most 29 = .ok (.if_icmp .lt 29, 3) := dk_161 0 29 (dk_at dksX1_most_1 6 rfl rfl)
theorem dX1_most_32 : decode cX1_most 32 = .ok (.aload_n 0, 1) := dk_42 (dk_at dksX1_most_1 9 rfl rfl)
theorem dX1_most_33 : decode cX1_most 33 = .ok (.getfield 137, 3) := dk_180 0 137 (dk_at dksX1_most_1 10 rfl rfl)
theorem dX1_most_36 : decode cX1_most 36 = .ok (.iload_n 1, 1) := dk_27 (dk_at dksX1_most_1 13 rfl rfl)
theorem dX1_most_37 : decode cX1_most 37 = .ok (.invokevirtual 151, 3) := dk_182 0 151 (dk_at dksX1_most_1 14 rfl rfl)
theorem dX1_most_40 : decode cX1_most 40 = .ok (.aload_n 0, 1) := dk_42 (dk_at dksX1_most_1 17 rfl rfl)
theorem dX1_most_41 : decode cX1_most 41 = .ok (.getfield 137, 3) := dk_180 0 137 (dk_at dksX1_most_1 18 rfl rfl)
theorem dX1_most_44 : decode cX1_most 44 = .ok (.iload_n 1, 1) := dk_27 (dk_at dksX1_most_1 21 rfl rfl)
theorem dX1_most_45 : decode cX1_most 45 = .ok (.invokevirtual 311, 3) := dk_182 1 55 (dk_at dksX1_most_2 0 rfl rfl)
theorem dX1_most_48 : decode cX1_most 48 = .ok (.lcmp, 1) := dk_148 (dk_at dksX1_most_2 3 rfl rfl)
theorem dX1_most_49 : decode cX1_most 49 = .ok (.ifCond .le 9, 3) := dk_158 0 9 (dk_at dksX1_most_2 4 rfl rfl)
theorem dX1_most_52 : decode cX1_most 52 = .ok (.iinc 1 (-1), 3) := dk_132 1 255 (dk_at dksX1_most_2 7 rfl rfl)
theorem dX1_most_55 : decode cX1_most 55 = .ok (.goto (-34), 3) := dk_167 255 222 (dk_at dksX1_most_2 10 rfl rfl)
theorem dX1_most_58 : decode cX1_most 58 = .ok (.iload_n 1, 1) := dk_27 (dk_at dksX1_most_2 13 rfl rfl)
theorem dX1_most_59 : decode cX1_most 59 = .ok (.aload_n 0, 1) := dk_42 (dk_at dksX1_most_2 14 rfl rfl)
theorem dX1_most_60 : decode cX1_most 60 = .ok (.getfield 137, 3) := dk_180 0 137 (dk_at dksX1_most_2 15 rfl rfl)
theorem dX1_most_63 : decode cX1_most 63 = .ok (.getfield 205, 3) := dk_180 0 205 (dk_at dksX1_most_2 18 rfl rfl)
theorem dX1_most_66 : decode cX1_most 66 = .ok (.if_icmp .ge 8, 3) := dk_162 0 8 (dk_at dksX1_most_2 21 rfl rfl)
theorem dX1_most_69 : decode cX1_most 69 = .ok (.bipush (-2), 2) := dk_16 254 (dk_at dksX1_most_3 0 rfl rfl)
theorem dX1_most_71 : decode cX1_most 71 = .ok (.goto 4, 3) := dk_167 0 4 (dk_at dksX1_most_3 2 rfl rfl)
theorem dX1_most_74 : decode cX1_most 74 = .ok (.iload_n 1, 1) := dk_27 (dk_at dksX1_most_3 5 rfl rfl)
theorem dX1_most_75 : decode cX1_most 75 = .ok (.ireturn, 1) := dk_172 (dk_at dksX1_most_3 6 rfl rfl)
abbrev cX1_judge : ByteArray := prog_1_method_55_code
def yX1_judge : MethodName := ⟨RX1, "judge", "(I)I"⟩
def dkwX1_judge_2 : List UInt8 := [42, 4, 182, 0, 127, 172]
abbrev dktX1_judge_2 : List UInt8 := dkwX1_judge_2 ++ []
def dkwX1_judge_1 : List UInt8 := [46, 42, 180, 0, 86, 180, 1, 63, 27, 46, 182, 0, 226, 153, 0, 7, 4, 167, 0, 12, 3, 167, 0, 8]
abbrev dktX1_judge_1 : List UInt8 := dkwX1_judge_1 ++ dktX1_judge_2
def dkwX1_judge_0 : List UInt8 := [42, 182, 0, 113, 42, 27, 182, 1, 58, 153, 0, 39, 42, 180, 0, 73, 42, 180, 0, 86, 180, 1, 61, 27]
abbrev dktX1_judge_0 : List UInt8 := dkwX1_judge_0 ++ dktX1_judge_1
theorem dksX1_judge_0 : cX1_judge.data.toList.drop 0 = dktX1_judge_0 := by decide +kernel
theorem dksX1_judge_1 : cX1_judge.data.toList.drop 24 = dktX1_judge_1 := dk_seg dksX1_judge_0 24 rfl rfl
theorem dksX1_judge_2 : cX1_judge.data.toList.drop 48 = dktX1_judge_2 := dk_seg dksX1_judge_1 24 rfl rfl
theorem dX1_judge_0 : decode cX1_judge 0 = .ok (.aload_n 0, 1) := dk_42 (dk_at dksX1_judge_0 0 rfl rfl)
theorem dX1_judge_1 : decode cX1_judge 1 = .ok (.invokevirtual 113, 3) := dk_182 0 113 (dk_at dksX1_judge_0 1 rfl rfl)
theorem dX1_judge_4 : decode cX1_judge 4 = .ok (.aload_n 0, 1) := dk_42 (dk_at dksX1_judge_0 4 rfl rfl)
theorem dX1_judge_5 : decode cX1_judge 5 = .ok (.iload_n 1, 1) := dk_27 (dk_at dksX1_judge_0 5 rfl rfl)
theorem dX1_judge_6 : decode cX1_judge 6 = .ok (.invokevirtual 314, 3) := dk_182 1 58 (dk_at dksX1_judge_0 6 rfl rfl)
theorem dX1_judge_9 : decode cX1_judge 9 = .ok (.ifCond .eq 39, 3) := dk_153 0 39 (dk_at dksX1_judge_0 9 rfl rfl)
theorem dX1_judge_12 : decode cX1_judge 12 = .ok (.aload_n 0, 1) := dk_42 (dk_at dksX1_judge_0 12 rfl rfl)
theorem dX1_judge_13 : decode cX1_judge 13 = .ok (.getfield 73, 3) := dk_180 0 73 (dk_at dksX1_judge_0 13 rfl rfl)
theorem dX1_judge_16 : decode cX1_judge 16 = .ok (.aload_n 0, 1) := dk_42 (dk_at dksX1_judge_0 16 rfl rfl)
theorem dX1_judge_17 : decode cX1_judge 17 = .ok (.getfield 86, 3) := dk_180 0 86 (dk_at dksX1_judge_0 17 rfl rfl)
theorem dX1_judge_20 : decode cX1_judge 20 = .ok (.getfield 317, 3) := dk_180 1 61 (dk_at dksX1_judge_0 20 rfl rfl)
theorem dX1_judge_23 : decode cX1_judge 23 = .ok (.iload_n 1, 1) := dk_27 (dk_at dksX1_judge_0 23 rfl rfl)
theorem dX1_judge_24 : decode cX1_judge 24 = .ok (.iaload, 1) := dk_46 (dk_at dksX1_judge_1 0 rfl rfl)
theorem dX1_judge_25 : decode cX1_judge 25 = .ok (.aload_n 0, 1) := dk_42 (dk_at dksX1_judge_1 1 rfl rfl)
theorem dX1_judge_26 : decode cX1_judge 26 = .ok (.getfield 86, 3) := dk_180 0 86 (dk_at dksX1_judge_1 2 rfl rfl)
theorem dX1_judge_29 : decode cX1_judge 29 = .ok (.getfield 319, 3) := dk_180 1 63 (dk_at dksX1_judge_1 5 rfl rfl)
theorem dX1_judge_32 : decode cX1_judge 32 = .ok (.iload_n 1, 1) := dk_27 (dk_at dksX1_judge_1 8 rfl rfl)
theorem dX1_judge_33 : decode cX1_judge 33 = .ok (.iaload, 1) := dk_46 (dk_at dksX1_judge_1 9 rfl rfl)
theorem dX1_judge_34 : decode cX1_judge 34 = .ok (.invokevirtual 226, 3) := dk_182 0 226 (dk_at dksX1_judge_1 10 rfl rfl)
theorem dX1_judge_37 : decode cX1_judge 37 = .ok (.ifCond .eq 7, 3) := dk_153 0 7 (dk_at dksX1_judge_1 13 rfl rfl)
theorem dX1_judge_40 : decode cX1_judge 40 = .ok (.iconst 1, 1) := dk_4 (dk_at dksX1_judge_1 16 rfl rfl)
theorem dX1_judge_41 : decode cX1_judge 41 = .ok (.goto 12, 3) := dk_167 0 12 (dk_at dksX1_judge_1 17 rfl rfl)
theorem dX1_judge_44 : decode cX1_judge 44 = .ok (.iconst 0, 1) := dk_3 (dk_at dksX1_judge_1 20 rfl rfl)
theorem dX1_judge_45 : decode cX1_judge 45 = .ok (.goto 8, 3) := dk_167 0 8 (dk_at dksX1_judge_1 21 rfl rfl)
theorem dX1_judge_48 : decode cX1_judge 48 = .ok (.aload_n 0, 1) := dk_42 (dk_at dksX1_judge_2 0 rfl rfl)
theorem dX1_judge_49 : decode cX1_judge 49 = .ok (.iconst 1, 1) := dk_4 (dk_at dksX1_judge_2 1 rfl rfl)
theorem dX1_judge_50 : decode cX1_judge 50 = .ok (.invokevirtual 127, 3) := dk_182 0 127 (dk_at dksX1_judge_2 2 rfl rfl)
theorem dX1_judge_53 : decode cX1_judge 53 = .ok (.ireturn, 1) := dk_172 (dk_at dksX1_judge_2 5 rfl rfl)
abbrev cX1_isEvening : ByteArray := prog_1_method_22_code
def yX1_isEvening : MethodName := ⟨RX1, "isEvening", "(I)Z"⟩
def dkwX1_isEvening_1 : List UInt8 := [4, 167, 0, 4, 3, 172]
abbrev dktX1_isEvening_1 : List UInt8 := dkwX1_isEvening_1 ++ []
def dkwX1_isEvening_0 : List UInt8 := [42, 180, 0, 137, 198, 0, 24, 27, 3, 42, 180, 0, 86, 180, 0, 166, 4, 100, 184, 0, 123, 153, 0, 7]
abbrev dktX1_isEvening_0 : List UInt8 := dkwX1_isEvening_0 ++ dktX1_isEvening_1
theorem dksX1_isEvening_0 : cX1_isEvening.data.toList.drop 0 = dktX1_isEvening_0 := by decide +kernel
theorem dksX1_isEvening_1 : cX1_isEvening.data.toList.drop 24 = dktX1_isEvening_1 := dk_seg dksX1_isEvening_0 24 rfl rfl
theorem dX1_isEvening_0 : decode cX1_isEvening 0 = .ok (.aload_n 0, 1) := dk_42 (dk_at dksX1_isEvening_0 0 rfl rfl)
theorem dX1_isEvening_1 : decode cX1_isEvening 1 = .ok (.getfield 137, 3) := dk_180 0 137 (dk_at dksX1_isEvening_0 1 rfl rfl)
theorem dX1_isEvening_4 : decode cX1_isEvening 4 = .ok (.ifnull 24, 3) := dk_198 0 24 (dk_at dksX1_isEvening_0 4 rfl rfl)
theorem dX1_isEvening_7 : decode cX1_isEvening 7 = .ok (.iload_n 1, 1) := dk_27 (dk_at dksX1_isEvening_0 7 rfl rfl)
theorem dX1_isEvening_8 : decode cX1_isEvening 8 = .ok (.iconst 0, 1) := dk_3 (dk_at dksX1_isEvening_0 8 rfl rfl)
theorem dX1_isEvening_9 : decode cX1_isEvening 9 = .ok (.aload_n 0, 1) := dk_42 (dk_at dksX1_isEvening_0 9 rfl rfl)
theorem dX1_isEvening_10 : decode cX1_isEvening 10 = .ok (.getfield 86, 3) := dk_180 0 86 (dk_at dksX1_isEvening_0 10 rfl rfl)
theorem dX1_isEvening_13 : decode cX1_isEvening 13 = .ok (.getfield 166, 3) := dk_180 0 166 (dk_at dksX1_isEvening_0 13 rfl rfl)
theorem dX1_isEvening_16 : decode cX1_isEvening 16 = .ok (.iconst 1, 1) := dk_4 (dk_at dksX1_isEvening_0 16 rfl rfl)
theorem dX1_isEvening_17 : decode cX1_isEvening 17 = .ok (.isub, 1) := dk_100 (dk_at dksX1_isEvening_0 17 rfl rfl)
theorem dX1_isEvening_18 : decode cX1_isEvening 18 = .ok (.invokestatic 123, 3) := dk_184 0 123 (dk_at dksX1_isEvening_0 18 rfl rfl)
theorem dX1_isEvening_21 : decode cX1_isEvening 21 = .ok (.ifCond .eq 7, 3) := dk_153 0 7 (dk_at dksX1_isEvening_0 21 rfl rfl)
theorem dX1_isEvening_24 : decode cX1_isEvening 24 = .ok (.iconst 1, 1) := dk_4 (dk_at dksX1_isEvening_1 0 rfl rfl)
theorem dX1_isEvening_25 : decode cX1_isEvening 25 = .ok (.goto 4, 3) := dk_167 0 4 (dk_at dksX1_isEvening_1 1 rfl rfl)
theorem dX1_isEvening_28 : decode cX1_isEvening 28 = .ok (.iconst 0, 1) := dk_3 (dk_at dksX1_isEvening_1 4 rfl rfl)
theorem dX1_isEvening_29 : decode cX1_isEvening 29 = .ok (.ireturn, 1) := dk_172 (dk_at dksX1_isEvening_1 5 rfl rfl)
abbrev cX1_evening : ByteArray := prog_1_method_56_code
def yX1_evening : MethodName := ⟨RX1, "evening", "(IZ)I"⟩
def dkwX1_evening_1 : List UInt8 := [46, 167, 0, 20, 42, 180, 0, 86, 180, 1, 61, 27, 46, 167, 0, 8, 42, 4, 182, 0, 127, 172]
abbrev dktX1_evening_1 : List UInt8 := dkwX1_evening_1 ++ []
def dkwX1_evening_0 : List UInt8 := [42, 182, 0, 113, 42, 27, 182, 1, 58, 153, 0, 31, 28, 153, 0, 15, 42, 180, 0, 86, 180, 1, 63, 27]
abbrev dktX1_evening_0 : List UInt8 := dkwX1_evening_0 ++ dktX1_evening_1
theorem dksX1_evening_0 : cX1_evening.data.toList.drop 0 = dktX1_evening_0 := by decide +kernel
theorem dksX1_evening_1 : cX1_evening.data.toList.drop 24 = dktX1_evening_1 := dk_seg dksX1_evening_0 24 rfl rfl
theorem dX1_evening_0 : decode cX1_evening 0 = .ok (.aload_n 0, 1) := dk_42 (dk_at dksX1_evening_0 0 rfl rfl)
theorem dX1_evening_1 : decode cX1_evening 1 = .ok (.invokevirtual 113, 3) := dk_182 0 113 (dk_at dksX1_evening_0 1 rfl rfl)
theorem dX1_evening_4 : decode cX1_evening 4 = .ok (.aload_n 0, 1) := dk_42 (dk_at dksX1_evening_0 4 rfl rfl)
theorem dX1_evening_5 : decode cX1_evening 5 = .ok (.iload_n 1, 1) := dk_27 (dk_at dksX1_evening_0 5 rfl rfl)
theorem dX1_evening_6 : decode cX1_evening 6 = .ok (.invokevirtual 314, 3) := dk_182 1 58 (dk_at dksX1_evening_0 6 rfl rfl)
theorem dX1_evening_9 : decode cX1_evening 9 = .ok (.ifCond .eq 31, 3) := dk_153 0 31 (dk_at dksX1_evening_0 9 rfl rfl)
theorem dX1_evening_12 : decode cX1_evening 12 = .ok (.iload_n 2, 1) := dk_28 (dk_at dksX1_evening_0 12 rfl rfl)
theorem dX1_evening_13 : decode cX1_evening 13 = .ok (.ifCond .eq 15, 3) := dk_153 0 15 (dk_at dksX1_evening_0 13 rfl rfl)
theorem dX1_evening_16 : decode cX1_evening 16 = .ok (.aload_n 0, 1) := dk_42 (dk_at dksX1_evening_0 16 rfl rfl)
theorem dX1_evening_17 : decode cX1_evening 17 = .ok (.getfield 86, 3) := dk_180 0 86 (dk_at dksX1_evening_0 17 rfl rfl)
theorem dX1_evening_20 : decode cX1_evening 20 = .ok (.getfield 319, 3) := dk_180 1 63 (dk_at dksX1_evening_0 20 rfl rfl)
theorem dX1_evening_23 : decode cX1_evening 23 = .ok (.iload_n 1, 1) := dk_27 (dk_at dksX1_evening_0 23 rfl rfl)
theorem dX1_evening_24 : decode cX1_evening 24 = .ok (.iaload, 1) := dk_46 (dk_at dksX1_evening_1 0 rfl rfl)
theorem dX1_evening_25 : decode cX1_evening 25 = .ok (.goto 20, 3) := dk_167 0 20 (dk_at dksX1_evening_1 1 rfl rfl)
theorem dX1_evening_28 : decode cX1_evening 28 = .ok (.aload_n 0, 1) := dk_42 (dk_at dksX1_evening_1 4 rfl rfl)
theorem dX1_evening_29 : decode cX1_evening 29 = .ok (.getfield 86, 3) := dk_180 0 86 (dk_at dksX1_evening_1 5 rfl rfl)
theorem dX1_evening_32 : decode cX1_evening 32 = .ok (.getfield 317, 3) := dk_180 1 61 (dk_at dksX1_evening_1 8 rfl rfl)
theorem dX1_evening_35 : decode cX1_evening 35 = .ok (.iload_n 1, 1) := dk_27 (dk_at dksX1_evening_1 11 rfl rfl)
theorem dX1_evening_36 : decode cX1_evening 36 = .ok (.iaload, 1) := dk_46 (dk_at dksX1_evening_1 12 rfl rfl)
theorem dX1_evening_37 : decode cX1_evening 37 = .ok (.goto 8, 3) := dk_167 0 8 (dk_at dksX1_evening_1 13 rfl rfl)
theorem dX1_evening_40 : decode cX1_evening 40 = .ok (.aload_n 0, 1) := dk_42 (dk_at dksX1_evening_1 16 rfl rfl)
theorem dX1_evening_41 : decode cX1_evening 41 = .ok (.iconst 1, 1) := dk_4 (dk_at dksX1_evening_1 17 rfl rfl)
theorem dX1_evening_42 : decode cX1_evening 42 = .ok (.invokevirtual 127, 3) := dk_182 0 127 (dk_at dksX1_evening_1 18 rfl rfl)
theorem dX1_evening_45 : decode cX1_evening 45 = .ok (.ireturn, 1) := dk_172 (dk_at dksX1_evening_1 21 rfl rfl)
abbrev cX1_agrees : ByteArray := prog_1_method_59_code
def yX1_agrees : MethodName := ⟨RX1, "agrees", "(I)I"⟩
def dkwX1_agrees_2 : List UInt8 := [96, 61, 132, 3, 1, 167, 255, 225, 28, 172]
abbrev dktX1_agrees_2 : List UInt8 := dkwX1_agrees_2 ++ []
def dkwX1_agrees_1 : List UInt8 := [180, 0, 86, 180, 0, 166, 162, 0, 26, 28, 42, 29, 27, 182, 1, 64, 153, 0, 7, 4, 167, 0, 4, 3]
abbrev dktX1_agrees_1 : List UInt8 := dkwX1_agrees_1 ++ dktX1_agrees_2
def dkwX1_agrees_0 : List UInt8 := [42, 182, 0, 113, 42, 27, 182, 0, 252, 154, 0, 9, 42, 4, 182, 0, 127, 172, 3, 61, 3, 62, 29, 42]
abbrev dktX1_agrees_0 : List UInt8 := dkwX1_agrees_0 ++ dktX1_agrees_1
theorem dksX1_agrees_0 : cX1_agrees.data.toList.drop 0 = dktX1_agrees_0 := by decide +kernel
theorem dksX1_agrees_1 : cX1_agrees.data.toList.drop 24 = dktX1_agrees_1 := dk_seg dksX1_agrees_0 24 rfl rfl
theorem dksX1_agrees_2 : cX1_agrees.data.toList.drop 48 = dktX1_agrees_2 := dk_seg dksX1_agrees_1 24 rfl rfl
theorem dX1_agrees_0 : decode cX1_agrees 0 = .ok (.aload_n 0, 1) := dk_42 (dk_at dksX1_agrees_0 0 rfl rfl)
theorem dX1_agrees_1 : decode cX1_agrees 1 = .ok (.invokevirtual 113, 3) := dk_182 0 113 (dk_at dksX1_agrees_0 1 rfl rfl)
theorem dX1_agrees_4 : decode cX1_agrees 4 = .ok (.aload_n 0, 1) := dk_42 (dk_at dksX1_agrees_0 4 rfl rfl)
theorem dX1_agrees_5 : decode cX1_agrees 5 = .ok (.iload_n 1, 1) := dk_27 (dk_at dksX1_agrees_0 5 rfl rfl)
theorem dX1_agrees_6 : decode cX1_agrees 6 = .ok (.invokevirtual 252, 3) := dk_182 0 252 (dk_at dksX1_agrees_0 6 rfl rfl)
theorem dX1_agrees_9 : decode cX1_agrees 9 = .ok (.ifCond .ne 9, 3) := dk_154 0 9 (dk_at dksX1_agrees_0 9 rfl rfl)
theorem dX1_agrees_12 : decode cX1_agrees 12 = .ok (.aload_n 0, 1) := dk_42 (dk_at dksX1_agrees_0 12 rfl rfl)
theorem dX1_agrees_13 : decode cX1_agrees 13 = .ok (.iconst 1, 1) := dk_4 (dk_at dksX1_agrees_0 13 rfl rfl)
theorem dX1_agrees_14 : decode cX1_agrees 14 = .ok (.invokevirtual 127, 3) := dk_182 0 127 (dk_at dksX1_agrees_0 14 rfl rfl)
theorem dX1_agrees_17 : decode cX1_agrees 17 = .ok (.ireturn, 1) := dk_172 (dk_at dksX1_agrees_0 17 rfl rfl)
theorem dX1_agrees_18 : decode cX1_agrees 18 = .ok (.iconst 0, 1) := dk_3 (dk_at dksX1_agrees_0 18 rfl rfl)
theorem dX1_agrees_19 : decode cX1_agrees 19 = .ok (.istore_n 2, 1) := dk_61 (dk_at dksX1_agrees_0 19 rfl rfl)
theorem dX1_agrees_20 : decode cX1_agrees 20 = .ok (.iconst 0, 1) := dk_3 (dk_at dksX1_agrees_0 20 rfl rfl)
theorem dX1_agrees_21 : decode cX1_agrees 21 = .ok (.istore_n 3, 1) := dk_62 (dk_at dksX1_agrees_0 21 rfl rfl)
theorem dX1_agrees_22 : decode cX1_agrees 22 = .ok (.iload_n 3, 1) := dk_29 (dk_at dksX1_agrees_0 22 rfl rfl)
theorem dX1_agrees_23 : decode cX1_agrees 23 = .ok (.aload_n 0, 1) := dk_42 (dk_at dksX1_agrees_0 23 rfl rfl)
theorem dX1_agrees_24 : decode cX1_agrees 24 = .ok (.getfield 86, 3) := dk_180 0 86 (dk_at dksX1_agrees_1 0 rfl rfl)
theorem dX1_agrees_27 : decode cX1_agrees 27 = .ok (.getfield 166, 3) := dk_180 0 166 (dk_at dksX1_agrees_1 3 rfl rfl)
theorem dX1_agrees_30 : decode cX1_agrees 30 = .ok (.if_icmp .ge 26, 3) := dk_162 0 26 (dk_at dksX1_agrees_1 6 rfl rfl)
theorem dX1_agrees_33 : decode cX1_agrees 33 = .ok (.iload_n 2, 1) := dk_28 (dk_at dksX1_agrees_1 9 rfl rfl)
theorem dX1_agrees_34 : decode cX1_agrees 34 = .ok (.aload_n 0, 1) := dk_42 (dk_at dksX1_agrees_1 10 rfl rfl)
theorem dX1_agrees_35 : decode cX1_agrees 35 = .ok (.iload_n 3, 1) := dk_29 (dk_at dksX1_agrees_1 11 rfl rfl)
theorem dX1_agrees_36 : decode cX1_agrees 36 = .ok (.iload_n 1, 1) := dk_27 (dk_at dksX1_agrees_1 12 rfl rfl)
theorem dX1_agrees_37 : decode cX1_agrees 37 = .ok (.invokevirtual 320, 3) := dk_182 1 64 (dk_at dksX1_agrees_1 13 rfl rfl)
theorem dX1_agrees_40 : decode cX1_agrees 40 = .ok (.ifCond .eq 7, 3) := dk_153 0 7 (dk_at dksX1_agrees_1 16 rfl rfl)
theorem dX1_agrees_43 : decode cX1_agrees 43 = .ok (.iconst 1, 1) := dk_4 (dk_at dksX1_agrees_1 19 rfl rfl)
theorem dX1_agrees_44 : decode cX1_agrees 44 = .ok (.goto 4, 3) := dk_167 0 4 (dk_at dksX1_agrees_1 20 rfl rfl)
theorem dX1_agrees_47 : decode cX1_agrees 47 = .ok (.iconst 0, 1) := dk_3 (dk_at dksX1_agrees_1 23 rfl rfl)
theorem dX1_agrees_48 : decode cX1_agrees 48 = .ok (.iadd, 1) := dk_96 (dk_at dksX1_agrees_2 0 rfl rfl)
theorem dX1_agrees_49 : decode cX1_agrees 49 = .ok (.istore_n 2, 1) := dk_61 (dk_at dksX1_agrees_2 1 rfl rfl)
theorem dX1_agrees_50 : decode cX1_agrees 50 = .ok (.iinc 3 1, 3) := dk_132 3 1 (dk_at dksX1_agrees_2 2 rfl rfl)
theorem dX1_agrees_53 : decode cX1_agrees 53 = .ok (.goto (-31), 3) := dk_167 255 225 (dk_at dksX1_agrees_2 5 rfl rfl)
theorem dX1_agrees_56 : decode cX1_agrees 56 = .ok (.iload_n 2, 1) := dk_28 (dk_at dksX1_agrees_2 8 rfl rfl)
theorem dX1_agrees_57 : decode cX1_agrees 57 = .ok (.ireturn, 1) := dk_172 (dk_at dksX1_agrees_2 9 rfl rfl)
abbrev cX1_doesAgree : ByteArray := prog_1_method_57_code
def yX1_doesAgree : MethodName := ⟨RX1, "doesAgree", "(II)Z"⟩
def dkwX1_doesAgree_1 : List UInt8 := [160, 0, 7, 4, 167, 0, 4, 3, 172]
abbrev dktX1_doesAgree_1 : List UInt8 := dkwX1_doesAgree_1 ++ []
def dkwX1_doesAgree_0 : List UInt8 := [42, 28, 42, 180, 0, 86, 180, 1, 61, 27, 46, 182, 0, 255, 42, 180, 0, 86, 180, 1, 63, 27, 46]
abbrev dktX1_doesAgree_0 : List UInt8 := dkwX1_doesAgree_0 ++ dktX1_doesAgree_1
theorem dksX1_doesAgree_0 : cX1_doesAgree.data.toList.drop 0 = dktX1_doesAgree_0 := by decide +kernel
theorem dksX1_doesAgree_1 : cX1_doesAgree.data.toList.drop 23 = dktX1_doesAgree_1 := dk_seg dksX1_doesAgree_0 23 rfl rfl
theorem dX1_doesAgree_0 : decode cX1_doesAgree 0 = .ok (.aload_n 0, 1) := dk_42 (dk_at dksX1_doesAgree_0 0 rfl rfl)
theorem dX1_doesAgree_1 : decode cX1_doesAgree 1 = .ok (.iload_n 2, 1) := dk_28 (dk_at dksX1_doesAgree_0 1 rfl rfl)
theorem dX1_doesAgree_2 : decode cX1_doesAgree 2 = .ok (.aload_n 0, 1) := dk_42 (dk_at dksX1_doesAgree_0 2 rfl rfl)
theorem dX1_doesAgree_3 : decode cX1_doesAgree 3 = .ok (.getfield 86, 3) := dk_180 0 86 (dk_at dksX1_doesAgree_0 3 rfl rfl)
theorem dX1_doesAgree_6 : decode cX1_doesAgree 6 = .ok (.getfield 317, 3) := dk_180 1 61 (dk_at dksX1_doesAgree_0 6 rfl rfl)
theorem dX1_doesAgree_9 : decode cX1_doesAgree 9 = .ok (.iload_n 1, 1) := dk_27 (dk_at dksX1_doesAgree_0 9 rfl rfl)
theorem dX1_doesAgree_10 : decode cX1_doesAgree 10 = .ok (.iaload, 1) := dk_46 (dk_at dksX1_doesAgree_0 10 rfl rfl)
theorem dX1_doesAgree_11 : decode cX1_doesAgree 11 = .ok (.invokevirtual 255, 3) := dk_182 0 255 (dk_at dksX1_doesAgree_0 11 rfl rfl)
theorem dX1_doesAgree_14 : decode cX1_doesAgree 14 = .ok (.aload_n 0, 1) := dk_42 (dk_at dksX1_doesAgree_0 14 rfl rfl)
theorem dX1_doesAgree_15 : decode cX1_doesAgree 15 = .ok (.getfield 86, 3) := dk_180 0 86 (dk_at dksX1_doesAgree_0 15 rfl rfl)
theorem dX1_doesAgree_18 : decode cX1_doesAgree 18 = .ok (.getfield 319, 3) := dk_180 1 63 (dk_at dksX1_doesAgree_0 18 rfl rfl)
theorem dX1_doesAgree_21 : decode cX1_doesAgree 21 = .ok (.iload_n 1, 1) := dk_27 (dk_at dksX1_doesAgree_0 21 rfl rfl)
theorem dX1_doesAgree_22 : decode cX1_doesAgree 22 = .ok (.iaload, 1) := dk_46 (dk_at dksX1_doesAgree_0 22 rfl rfl)
theorem dX1_doesAgree_23 : decode cX1_doesAgree 23 = .ok (.if_icmp .ne 7, 3) := dk_160 0 7 (dk_at dksX1_doesAgree_1 0 rfl rfl)
theorem dX1_doesAgree_26 : decode cX1_doesAgree 26 = .ok (.iconst 1, 1) := dk_4 (dk_at dksX1_doesAgree_1 3 rfl rfl)
theorem dX1_doesAgree_27 : decode cX1_doesAgree 27 = .ok (.goto 4, 3) := dk_167 0 4 (dk_at dksX1_doesAgree_1 4 rfl rfl)
theorem dX1_doesAgree_30 : decode cX1_doesAgree 30 = .ok (.iconst 0, 1) := dk_3 (dk_at dksX1_doesAgree_1 7 rfl rfl)
theorem dX1_doesAgree_31 : decode cX1_doesAgree 31 = .ok (.ireturn, 1) := dk_172 (dk_at dksX1_doesAgree_1 8 rfl rfl)
abbrev cX1_wrong : ByteArray := prog_1_method_60_code
def yX1_wrong : MethodName := ⟨RX1, "wrong", "(I)I"⟩
def dkwX1_wrong_1 : List UInt8 := [182, 0, 127, 172]
abbrev dktX1_wrong_1 : List UInt8 := dkwX1_wrong_1 ++ []
def dkwX1_wrong_0 : List UInt8 := [42, 182, 0, 113, 42, 27, 182, 0, 252, 153, 0, 11, 42, 27, 182, 1, 67, 167, 0, 8, 42, 4]
abbrev dktX1_wrong_0 : List UInt8 := dkwX1_wrong_0 ++ dktX1_wrong_1
theorem dksX1_wrong_0 : cX1_wrong.data.toList.drop 0 = dktX1_wrong_0 := by decide +kernel
theorem dksX1_wrong_1 : cX1_wrong.data.toList.drop 22 = dktX1_wrong_1 := dk_seg dksX1_wrong_0 22 rfl rfl
theorem dX1_wrong_0 : decode cX1_wrong 0 = .ok (.aload_n 0, 1) := dk_42 (dk_at dksX1_wrong_0 0 rfl rfl)
theorem dX1_wrong_1 : decode cX1_wrong 1 = .ok (.invokevirtual 113, 3) := dk_182 0 113 (dk_at dksX1_wrong_0 1 rfl rfl)
theorem dX1_wrong_4 : decode cX1_wrong 4 = .ok (.aload_n 0, 1) := dk_42 (dk_at dksX1_wrong_0 4 rfl rfl)
theorem dX1_wrong_5 : decode cX1_wrong 5 = .ok (.iload_n 1, 1) := dk_27 (dk_at dksX1_wrong_0 5 rfl rfl)
theorem dX1_wrong_6 : decode cX1_wrong 6 = .ok (.invokevirtual 252, 3) := dk_182 0 252 (dk_at dksX1_wrong_0 6 rfl rfl)
theorem dX1_wrong_9 : decode cX1_wrong 9 = .ok (.ifCond .eq 11, 3) := dk_153 0 11 (dk_at dksX1_wrong_0 9 rfl rfl)
theorem dX1_wrong_12 : decode cX1_wrong 12 = .ok (.aload_n 0, 1) := dk_42 (dk_at dksX1_wrong_0 12 rfl rfl)
theorem dX1_wrong_13 : decode cX1_wrong 13 = .ok (.iload_n 1, 1) := dk_27 (dk_at dksX1_wrong_0 13 rfl rfl)
theorem dX1_wrong_14 : decode cX1_wrong 14 = .ok (.invokevirtual 323, 3) := dk_182 1 67 (dk_at dksX1_wrong_0 14 rfl rfl)
theorem dX1_wrong_17 : decode cX1_wrong 17 = .ok (.goto 8, 3) := dk_167 0 8 (dk_at dksX1_wrong_0 17 rfl rfl)
theorem dX1_wrong_20 : decode cX1_wrong 20 = .ok (.aload_n 0, 1) := dk_42 (dk_at dksX1_wrong_0 20 rfl rfl)
theorem dX1_wrong_21 : decode cX1_wrong 21 = .ok (.iconst 1, 1) := dk_4 (dk_at dksX1_wrong_0 21 rfl rfl)
theorem dX1_wrong_22 : decode cX1_wrong 22 = .ok (.invokevirtual 127, 3) := dk_182 0 127 (dk_at dksX1_wrong_1 0 rfl rfl)
theorem dX1_wrong_25 : decode cX1_wrong 25 = .ok (.ireturn, 1) := dk_172 (dk_at dksX1_wrong_1 3 rfl rfl)
abbrev cX1_firstWrong : ByteArray := prog_1_method_58_code
def yX1_firstWrong : MethodName := ⟨RX1, "firstWrong", "(I)I"⟩
def dkwX1_firstWrong_1 : List UInt8 := [132, 2, 1, 167, 255, 231, 16, 254, 172]
abbrev dktX1_firstWrong_1 : List UInt8 := dkwX1_firstWrong_1 ++ []
def dkwX1_firstWrong_0 : List UInt8 := [3, 61, 28, 42, 180, 0, 86, 180, 0, 166, 162, 0, 20, 42, 28, 27, 182, 1, 64, 154, 0, 5, 28, 172]
abbrev dktX1_firstWrong_0 : List UInt8 := dkwX1_firstWrong_0 ++ dktX1_firstWrong_1
theorem dksX1_firstWrong_0 : cX1_firstWrong.data.toList.drop 0 = dktX1_firstWrong_0 := by decide +kernel
theorem dksX1_firstWrong_1 : cX1_firstWrong.data.toList.drop 24 = dktX1_firstWrong_1 := dk_seg dksX1_firstWrong_0 24 rfl rfl
theorem dX1_firstWrong_0 : decode cX1_firstWrong 0 = .ok (.iconst 0, 1) := dk_3 (dk_at dksX1_firstWrong_0 0 rfl rfl)
theorem dX1_firstWrong_1 : decode cX1_firstWrong 1 = .ok (.istore_n 2, 1) := dk_61 (dk_at dksX1_firstWrong_0 1 rfl rfl)
theorem dX1_firstWrong_2 : decode cX1_firstWrong 2 = .ok (.iload_n 2, 1) := dk_28 (dk_at dksX1_firstWrong_0 2 rfl rfl)
theorem dX1_firstWrong_3 : decode cX1_firstWrong 3 = .ok (.aload_n 0, 1) := dk_42 (dk_at dksX1_firstWrong_0 3 rfl rfl)
theorem dX1_firstWrong_4 : decode cX1_firstWrong 4 = .ok (.getfield 86, 3) := dk_180 0 86 (dk_at dksX1_firstWrong_0 4 rfl rfl)
theorem dX1_firstWrong_7 : decode cX1_firstWrong 7 = .ok (.getfield 166, 3) := dk_180 0 166 (dk_at dksX1_firstWrong_0 7 rfl rfl)
theorem dX1_firstWrong_10 : decode cX1_firstWrong 10 = .ok (.if_icmp .ge 20, 3) := dk_162 0 20 (dk_at dksX1_firstWrong_0 10 rfl rfl)
theorem dX1_firstWrong_13 : decode cX1_firstWrong 13 = .ok (.aload_n 0, 1) := dk_42 (dk_at dksX1_firstWrong_0 13 rfl rfl)
theorem dX1_firstWrong_14 : decode cX1_firstWrong 14 = .ok (.iload_n 2, 1) := dk_28 (dk_at dksX1_firstWrong_0 14 rfl rfl)
theorem dX1_firstWrong_15 : decode cX1_firstWrong 15 = .ok (.iload_n 1, 1) := dk_27 (dk_at dksX1_firstWrong_0 15 rfl rfl)
theorem dX1_firstWrong_16 : decode cX1_firstWrong 16 = .ok (.invokevirtual 320, 3) := dk_182 1 64 (dk_at dksX1_firstWrong_0 16 rfl rfl)
theorem dX1_firstWrong_19 : decode cX1_firstWrong 19 = .ok (.ifCond .ne 5, 3) := dk_154 0 5 (dk_at dksX1_firstWrong_0 19 rfl rfl)
theorem dX1_firstWrong_22 : decode cX1_firstWrong 22 = .ok (.iload_n 2, 1) := dk_28 (dk_at dksX1_firstWrong_0 22 rfl rfl)
theorem dX1_firstWrong_23 : decode cX1_firstWrong 23 = .ok (.ireturn, 1) := dk_172 (dk_at dksX1_firstWrong_0 23 rfl rfl)
theorem dX1_firstWrong_24 : decode cX1_firstWrong 24 = .ok (.iinc 2 1, 3) := dk_132 2 1 (dk_at dksX1_firstWrong_1 0 rfl rfl)
theorem dX1_firstWrong_27 : decode cX1_firstWrong 27 = .ok (.goto (-25), 3) := dk_167 255 231 (dk_at dksX1_firstWrong_1 3 rfl rfl)
theorem dX1_firstWrong_30 : decode cX1_firstWrong 30 = .ok (.bipush (-2), 2) := dk_16 254 (dk_at dksX1_firstWrong_1 6 rfl rfl)
theorem dX1_firstWrong_32 : decode cX1_firstWrong 32 = .ok (.ireturn, 1) := dk_172 (dk_at dksX1_firstWrong_1 8 rfl rfl)
abbrev cX1_found : ByteArray := prog_1_method_61_code
def yX1_found : MethodName := ⟨RX1, "found", "()I"⟩
def dkwX1_found_2 : List UInt8 := [167, 0, 4, 3, 128, 60, 132, 2, 1, 167, 255, 222, 27, 172]
abbrev dktX1_found_2 : List UInt8 := dkwX1_found_2 ++ []
def dkwX1_found_1 : List UInt8 := [180, 0, 137, 180, 0, 188, 162, 0, 29, 27, 42, 28, 182, 1, 67, 16, 254, 160, 0, 9, 4, 28, 120]
abbrev dktX1_found_1 : List UInt8 := dkwX1_found_1 ++ dktX1_found_2
def dkwX1_found_0 : List UInt8 := [42, 182, 0, 113, 42, 180, 0, 137, 199, 0, 9, 42, 4, 182, 0, 127, 172, 3, 60, 3, 61, 28, 42]
abbrev dktX1_found_0 : List UInt8 := dkwX1_found_0 ++ dktX1_found_1
theorem dksX1_found_0 : cX1_found.data.toList.drop 0 = dktX1_found_0 := by decide +kernel
theorem dksX1_found_1 : cX1_found.data.toList.drop 23 = dktX1_found_1 := dk_seg dksX1_found_0 23 rfl rfl
theorem dksX1_found_2 : cX1_found.data.toList.drop 46 = dktX1_found_2 := dk_seg dksX1_found_1 23 rfl rfl
theorem dX1_found_0 : decode cX1_found 0 = .ok (.aload_n 0, 1) := dk_42 (dk_at dksX1_found_0 0 rfl rfl)
theorem dX1_found_1 : decode cX1_found 1 = .ok (.invokevirtual 113, 3) := dk_182 0 113 (dk_at dksX1_found_0 1 rfl rfl)
theorem dX1_found_4 : decode cX1_found 4 = .ok (.aload_n 0, 1) := dk_42 (dk_at dksX1_found_0 4 rfl rfl)
theorem dX1_found_5 : decode cX1_found 5 = .ok (.getfield 137, 3) := dk_180 0 137 (dk_at dksX1_found_0 5 rfl rfl)
theorem dX1_found_8 : decode cX1_found 8 = .ok (.ifnonnull 9, 3) := dk_199 0 9 (dk_at dksX1_found_0 8 rfl rfl)
theorem dX1_found_11 : decode cX1_found 11 = .ok (.aload_n 0, 1) := dk_42 (dk_at dksX1_found_0 11 rfl rfl)
theorem dX1_found_12 : decode cX1_found 12 = .ok (.iconst 1, 1) := dk_4 (dk_at dksX1_found_0 12 rfl rfl)
theorem dX1_found_13 : decode cX1_found 13 = .ok (.invokevirtual 127, 3) := dk_182 0 127 (dk_at dksX1_found_0 13 rfl rfl)
theorem dX1_found_16 : decode cX1_found 16 = .ok (.ireturn, 1) := dk_172 (dk_at dksX1_found_0 16 rfl rfl)
theorem dX1_found_17 : decode cX1_found 17 = .ok (.iconst 0, 1) := dk_3 (dk_at dksX1_found_0 17 rfl rfl)
theorem dX1_found_18 : decode cX1_found 18 = .ok (.istore_n 1, 1) := dk_60 (dk_at dksX1_found_0 18 rfl rfl)
theorem dX1_found_19 : decode cX1_found 19 = .ok (.iconst 0, 1) := dk_3 (dk_at dksX1_found_0 19 rfl rfl)
theorem dX1_found_20 : decode cX1_found 20 = .ok (.istore_n 2, 1) := dk_61 (dk_at dksX1_found_0 20 rfl rfl)
theorem dX1_found_21 : decode cX1_found 21 = .ok (.iload_n 2, 1) := dk_28 (dk_at dksX1_found_0 21 rfl rfl)
theorem dX1_found_22 : decode cX1_found 22 = .ok (.aload_n 0, 1) := dk_42 (dk_at dksX1_found_0 22 rfl rfl)
theorem dX1_found_23 : decode cX1_found 23 = .ok (.getfield 137, 3) := dk_180 0 137 (dk_at dksX1_found_1 0 rfl rfl)
theorem dX1_found_26 : decode cX1_found 26 = .ok (.getfield 188, 3) := dk_180 0 188 (dk_at dksX1_found_1 3 rfl rfl)
theorem dX1_found_29 : decode cX1_found 29 = .ok (.if_icmp .ge 29, 3) := dk_162 0 29 (dk_at dksX1_found_1 6 rfl rfl)
theorem dX1_found_32 : decode cX1_found 32 = .ok (.iload_n 1, 1) := dk_27 (dk_at dksX1_found_1 9 rfl rfl)
theorem dX1_found_33 : decode cX1_found 33 = .ok (.aload_n 0, 1) := dk_42 (dk_at dksX1_found_1 10 rfl rfl)
theorem dX1_found_34 : decode cX1_found 34 = .ok (.iload_n 2, 1) := dk_28 (dk_at dksX1_found_1 11 rfl rfl)
theorem dX1_found_35 : decode cX1_found 35 = .ok (.invokevirtual 323, 3) := dk_182 1 67 (dk_at dksX1_found_1 12 rfl rfl)
theorem dX1_found_38 : decode cX1_found 38 = .ok (.bipush (-2), 2) := dk_16 254 (dk_at dksX1_found_1 15 rfl rfl)
theorem dX1_found_40 : decode cX1_found 40 = .ok (.if_icmp .ne 9, 3) := dk_160 0 9 (dk_at dksX1_found_1 17 rfl rfl)
theorem dX1_found_43 : decode cX1_found 43 = .ok (.iconst 1, 1) := dk_4 (dk_at dksX1_found_1 20 rfl rfl)
theorem dX1_found_44 : decode cX1_found 44 = .ok (.iload_n 2, 1) := dk_28 (dk_at dksX1_found_1 21 rfl rfl)
theorem dX1_found_45 : decode cX1_found 45 = .ok (.ishl, 1) := dk_120 (dk_at dksX1_found_1 22 rfl rfl)
theorem dX1_found_46 : decode cX1_found 46 = .ok (.goto 4, 3) := dk_167 0 4 (dk_at dksX1_found_2 0 rfl rfl)
theorem dX1_found_49 : decode cX1_found 49 = .ok (.iconst 0, 1) := dk_3 (dk_at dksX1_found_2 3 rfl rfl)
theorem dX1_found_50 : decode cX1_found 50 = .ok (.ior, 1) := dk_128 (dk_at dksX1_found_2 4 rfl rfl)
theorem dX1_found_51 : decode cX1_found 51 = .ok (.istore_n 1, 1) := dk_60 (dk_at dksX1_found_2 5 rfl rfl)
theorem dX1_found_52 : decode cX1_found 52 = .ok (.iinc 2 1, 3) := dk_132 2 1 (dk_at dksX1_found_2 6 rfl rfl)
theorem dX1_found_55 : decode cX1_found 55 = .ok (.goto (-34), 3) := dk_167 255 222 (dk_at dksX1_found_2 9 rfl rfl)
theorem dX1_found_58 : decode cX1_found 58 = .ok (.iload_n 1, 1) := dk_27 (dk_at dksX1_found_2 12 rfl rfl)
theorem dX1_found_59 : decode cX1_found 59 = .ok (.ireturn, 1) := dk_172 (dk_at dksX1_found_2 13 rfl rfl)
abbrev cX1_apart : ByteArray := prog_1_method_64_code
def yX1_apart : MethodName := ⟨RX1, "apart", "(II)I"⟩
def dkwX1_apart_1 : List UInt8 := [182, 0, 127, 172]
abbrev dktX1_apart_1 : List UInt8 := dkwX1_apart_1 ++ []
def dkwX1_apart_0 : List UInt8 := [42, 182, 0, 113, 42, 27, 28, 182, 1, 70, 153, 0, 12, 42, 27, 28, 182, 1, 73, 167, 0, 8, 42, 4]
abbrev dktX1_apart_0 : List UInt8 := dkwX1_apart_0 ++ dktX1_apart_1
theorem dksX1_apart_0 : cX1_apart.data.toList.drop 0 = dktX1_apart_0 := by decide +kernel
theorem dksX1_apart_1 : cX1_apart.data.toList.drop 24 = dktX1_apart_1 := dk_seg dksX1_apart_0 24 rfl rfl
theorem dX1_apart_0 : decode cX1_apart 0 = .ok (.aload_n 0, 1) := dk_42 (dk_at dksX1_apart_0 0 rfl rfl)
theorem dX1_apart_1 : decode cX1_apart 1 = .ok (.invokevirtual 113, 3) := dk_182 0 113 (dk_at dksX1_apart_0 1 rfl rfl)
theorem dX1_apart_4 : decode cX1_apart 4 = .ok (.aload_n 0, 1) := dk_42 (dk_at dksX1_apart_0 4 rfl rfl)
theorem dX1_apart_5 : decode cX1_apart 5 = .ok (.iload_n 1, 1) := dk_27 (dk_at dksX1_apart_0 5 rfl rfl)
theorem dX1_apart_6 : decode cX1_apart 6 = .ok (.iload_n 2, 1) := dk_28 (dk_at dksX1_apart_0 6 rfl rfl)
theorem dX1_apart_7 : decode cX1_apart 7 = .ok (.invokevirtual 326, 3) := dk_182 1 70 (dk_at dksX1_apart_0 7 rfl rfl)
theorem dX1_apart_10 : decode cX1_apart 10 = .ok (.ifCond .eq 12, 3) := dk_153 0 12 (dk_at dksX1_apart_0 10 rfl rfl)
theorem dX1_apart_13 : decode cX1_apart 13 = .ok (.aload_n 0, 1) := dk_42 (dk_at dksX1_apart_0 13 rfl rfl)
theorem dX1_apart_14 : decode cX1_apart 14 = .ok (.iload_n 1, 1) := dk_27 (dk_at dksX1_apart_0 14 rfl rfl)
theorem dX1_apart_15 : decode cX1_apart 15 = .ok (.iload_n 2, 1) := dk_28 (dk_at dksX1_apart_0 15 rfl rfl)
theorem dX1_apart_16 : decode cX1_apart 16 = .ok (.invokevirtual 329, 3) := dk_182 1 73 (dk_at dksX1_apart_0 16 rfl rfl)
theorem dX1_apart_19 : decode cX1_apart 19 = .ok (.goto 8, 3) := dk_167 0 8 (dk_at dksX1_apart_0 19 rfl rfl)
theorem dX1_apart_22 : decode cX1_apart 22 = .ok (.aload_n 0, 1) := dk_42 (dk_at dksX1_apart_0 22 rfl rfl)
theorem dX1_apart_23 : decode cX1_apart 23 = .ok (.iconst 1, 1) := dk_4 (dk_at dksX1_apart_0 23 rfl rfl)
theorem dX1_apart_24 : decode cX1_apart 24 = .ok (.invokevirtual 127, 3) := dk_182 0 127 (dk_at dksX1_apart_1 0 rfl rfl)
theorem dX1_apart_27 : decode cX1_apart 27 = .ok (.ireturn, 1) := dk_172 (dk_at dksX1_apart_1 3 rfl rfl)
abbrev cX1_arePair : ByteArray := prog_1_method_63_code
def yX1_arePair : MethodName := ⟨RX1, "arePair", "(II)Z"⟩
def dkwX1_arePair_1 : List UInt8 := [167, 0, 4, 3, 172]
abbrev dktX1_arePair_1 : List UInt8 := dkwX1_arePair_1 ++ []
def dkwX1_arePair_0 : List UInt8 := [42, 27, 182, 0, 252, 153, 0, 20, 42, 28, 182, 0, 252, 153, 0, 12, 27, 28, 159, 0, 7, 4]
abbrev dktX1_arePair_0 : List UInt8 := dkwX1_arePair_0 ++ dktX1_arePair_1
theorem dksX1_arePair_0 : cX1_arePair.data.toList.drop 0 = dktX1_arePair_0 := by decide +kernel
theorem dksX1_arePair_1 : cX1_arePair.data.toList.drop 22 = dktX1_arePair_1 := dk_seg dksX1_arePair_0 22 rfl rfl
theorem dX1_arePair_0 : decode cX1_arePair 0 = .ok (.aload_n 0, 1) := dk_42 (dk_at dksX1_arePair_0 0 rfl rfl)
theorem dX1_arePair_1 : decode cX1_arePair 1 = .ok (.iload_n 1, 1) := dk_27 (dk_at dksX1_arePair_0 1 rfl rfl)
theorem dX1_arePair_2 : decode cX1_arePair 2 = .ok (.invokevirtual 252, 3) := dk_182 0 252 (dk_at dksX1_arePair_0 2 rfl rfl)
theorem dX1_arePair_5 : decode cX1_arePair 5 = .ok (.ifCond .eq 20, 3) := dk_153 0 20 (dk_at dksX1_arePair_0 5 rfl rfl)
theorem dX1_arePair_8 : decode cX1_arePair 8 = .ok (.aload_n 0, 1) := dk_42 (dk_at dksX1_arePair_0 8 rfl rfl)
theorem dX1_arePair_9 : decode cX1_arePair 9 = .ok (.iload_n 2, 1) := dk_28 (dk_at dksX1_arePair_0 9 rfl rfl)
theorem dX1_arePair_10 : decode cX1_arePair 10 = .ok (.invokevirtual 252, 3) := dk_182 0 252 (dk_at dksX1_arePair_0 10 rfl rfl)
theorem dX1_arePair_13 : decode cX1_arePair 13 = .ok (.ifCond .eq 12, 3) := dk_153 0 12 (dk_at dksX1_arePair_0 13 rfl rfl)
theorem dX1_arePair_16 : decode cX1_arePair 16 = .ok (.iload_n 1, 1) := dk_27 (dk_at dksX1_arePair_0 16 rfl rfl)
theorem dX1_arePair_17 : decode cX1_arePair 17 = .ok (.iload_n 2, 1) := dk_28 (dk_at dksX1_arePair_0 17 rfl rfl)
theorem dX1_arePair_18 : decode cX1_arePair 18 = .ok (.if_icmp .eq 7, 3) := dk_159 0 7 (dk_at dksX1_arePair_0 18 rfl rfl)
theorem dX1_arePair_21 : decode cX1_arePair 21 = .ok (.iconst 1, 1) := dk_4 (dk_at dksX1_arePair_0 21 rfl rfl)
theorem dX1_arePair_22 : decode cX1_arePair 22 = .ok (.goto 4, 3) := dk_167 0 4 (dk_at dksX1_arePair_1 0 rfl rfl)
theorem dX1_arePair_25 : decode cX1_arePair 25 = .ok (.iconst 0, 1) := dk_3 (dk_at dksX1_arePair_1 3 rfl rfl)
theorem dX1_arePair_26 : decode cX1_arePair 26 = .ok (.ireturn, 1) := dk_172 (dk_at dksX1_arePair_1 4 rfl rfl)
abbrev cX1_apartOf : ByteArray := prog_1_method_62_code
def yX1_apartOf : MethodName := ⟨RX1, "apartOf", "(II)I"⟩
def dkwX1_apartOf_1 : List UInt8 := [21, 4, 182, 0, 255, 159, 0, 7, 4, 167, 0, 4, 3, 96, 62, 132, 4, 1, 167, 255, 219, 29, 172]
abbrev dktX1_apartOf_1 : List UInt8 := dkwX1_apartOf_1 ++ []
def dkwX1_apartOf_0 : List UInt8 := [3, 62, 3, 54, 4, 21, 4, 42, 180, 0, 155, 162, 0, 34, 29, 42, 27, 21, 4, 182, 0, 255, 42, 28]
abbrev dktX1_apartOf_0 : List UInt8 := dkwX1_apartOf_0 ++ dktX1_apartOf_1
theorem dksX1_apartOf_0 : cX1_apartOf.data.toList.drop 0 = dktX1_apartOf_0 := by decide +kernel
theorem dksX1_apartOf_1 : cX1_apartOf.data.toList.drop 24 = dktX1_apartOf_1 := dk_seg dksX1_apartOf_0 24 rfl rfl
theorem dX1_apartOf_0 : decode cX1_apartOf 0 = .ok (.iconst 0, 1) := dk_3 (dk_at dksX1_apartOf_0 0 rfl rfl)
theorem dX1_apartOf_1 : decode cX1_apartOf 1 = .ok (.istore_n 3, 1) := dk_62 (dk_at dksX1_apartOf_0 1 rfl rfl)
theorem dX1_apartOf_2 : decode cX1_apartOf 2 = .ok (.iconst 0, 1) := dk_3 (dk_at dksX1_apartOf_0 2 rfl rfl)
theorem dX1_apartOf_3 : decode cX1_apartOf 3 = .ok (.istore 4, 2) := dk_54 4 (dk_at dksX1_apartOf_0 3 rfl rfl)
theorem dX1_apartOf_5 : decode cX1_apartOf 5 = .ok (.iload 4, 2) := dk_21 4 (dk_at dksX1_apartOf_0 5 rfl rfl)
theorem dX1_apartOf_7 : decode cX1_apartOf 7 = .ok (.aload_n 0, 1) := dk_42 (dk_at dksX1_apartOf_0 7 rfl rfl)
theorem dX1_apartOf_8 : decode cX1_apartOf 8 = .ok (.getfield 155, 3) := dk_180 0 155 (dk_at dksX1_apartOf_0 8 rfl rfl)
theorem dX1_apartOf_11 : decode cX1_apartOf 11 = .ok (.if_icmp .ge 34, 3) := dk_162 0 34 (dk_at dksX1_apartOf_0 11 rfl rfl)
theorem dX1_apartOf_14 : decode cX1_apartOf 14 = .ok (.iload_n 3, 1) := dk_29 (dk_at dksX1_apartOf_0 14 rfl rfl)
theorem dX1_apartOf_15 : decode cX1_apartOf 15 = .ok (.aload_n 0, 1) := dk_42 (dk_at dksX1_apartOf_0 15 rfl rfl)
theorem dX1_apartOf_16 : decode cX1_apartOf 16 = .ok (.iload_n 1, 1) := dk_27 (dk_at dksX1_apartOf_0 16 rfl rfl)
theorem dX1_apartOf_17 : decode cX1_apartOf 17 = .ok (.iload 4, 2) := dk_21 4 (dk_at dksX1_apartOf_0 17 rfl rfl)
theorem dX1_apartOf_19 : decode cX1_apartOf 19 = .ok (.invokevirtual 255, 3) := dk_182 0 255 (dk_at dksX1_apartOf_0 19 rfl rfl)
theorem dX1_apartOf_22 : decode cX1_apartOf 22 = .ok (.aload_n 0, 1) := dk_42 (dk_at dksX1_apartOf_0 22 rfl rfl)
theorem dX1_apartOf_23 : decode cX1_apartOf 23 = .ok (.iload_n 2, 1) := dk_28 (dk_at dksX1_apartOf_0 23 rfl rfl)
theorem dX1_apartOf_24 : decode cX1_apartOf 24 = .ok (.iload 4, 2) := dk_21 4 (dk_at dksX1_apartOf_1 0 rfl rfl)
theorem dX1_apartOf_26 : decode cX1_apartOf 26 = .ok (.invokevirtual 255, 3) := dk_182 0 255 (dk_at dksX1_apartOf_1 2 rfl rfl)
theorem dX1_apartOf_29 : decode cX1_apartOf 29 = .ok (.if_icmp .eq 7, 3) := dk_159 0 7 (dk_at dksX1_apartOf_1 5 rfl rfl)
theorem dX1_apartOf_32 : decode cX1_apartOf 32 = .ok (.iconst 1, 1) := dk_4 (dk_at dksX1_apartOf_1 8 rfl rfl)
theorem dX1_apartOf_33 : decode cX1_apartOf 33 = .ok (.goto 4, 3) := dk_167 0 4 (dk_at dksX1_apartOf_1 9 rfl rfl)
theorem dX1_apartOf_36 : decode cX1_apartOf 36 = .ok (.iconst 0, 1) := dk_3 (dk_at dksX1_apartOf_1 12 rfl rfl)
theorem dX1_apartOf_37 : decode cX1_apartOf 37 = .ok (.iadd, 1) := dk_96 (dk_at dksX1_apartOf_1 13 rfl rfl)
theorem dX1_apartOf_38 : decode cX1_apartOf 38 = .ok (.istore_n 3, 1) := dk_62 (dk_at dksX1_apartOf_1 14 rfl rfl)
theorem dX1_apartOf_39 : decode cX1_apartOf 39 = .ok (.iinc 4 1, 3) := dk_132 4 1 (dk_at dksX1_apartOf_1 15 rfl rfl)
theorem dX1_apartOf_42 : decode cX1_apartOf 42 = .ok (.goto (-37), 3) := dk_167 255 219 (dk_at dksX1_apartOf_1 18 rfl rfl)
theorem dX1_apartOf_45 : decode cX1_apartOf 45 = .ok (.iload_n 3, 1) := dk_29 (dk_at dksX1_apartOf_1 21 rfl rfl)
theorem dX1_apartOf_46 : decode cX1_apartOf 46 = .ok (.ireturn, 1) := dk_172 (dk_at dksX1_apartOf_1 22 rfl rfl)
abbrev cX1_mean : ByteArray := prog_1_method_65_code
def yX1_mean : MethodName := ⟨RX1, "mean", "(IIZ)I"⟩
def dkwX1_mean_2 : List UInt8 := [184, 1, 76, 54, 5, 29, 153, 0, 8, 21, 4, 167, 0, 7, 42, 180, 0, 155, 21, 5, 108, 172]
abbrev dktX1_mean_2 : List UInt8 := dkwX1_mean_2 ++ []
def dkwX1_mean_1 : List UInt8 := [182, 1, 73, 54, 4, 21, 4, 154, 0, 10, 42, 16, 6, 182, 0, 127, 172, 42, 180, 0, 155, 21, 4]
abbrev dktX1_mean_1 : List UInt8 := dkwX1_mean_1 ++ dktX1_mean_2
def dkwX1_mean_0 : List UInt8 := [42, 182, 0, 113, 42, 27, 28, 182, 1, 70, 154, 0, 9, 42, 4, 182, 0, 127, 172, 42, 27, 28]
abbrev dktX1_mean_0 : List UInt8 := dkwX1_mean_0 ++ dktX1_mean_1
theorem dksX1_mean_0 : cX1_mean.data.toList.drop 0 = dktX1_mean_0 := by decide +kernel
theorem dksX1_mean_1 : cX1_mean.data.toList.drop 22 = dktX1_mean_1 := dk_seg dksX1_mean_0 22 rfl rfl
theorem dksX1_mean_2 : cX1_mean.data.toList.drop 45 = dktX1_mean_2 := dk_seg dksX1_mean_1 23 rfl rfl
theorem dX1_mean_0 : decode cX1_mean 0 = .ok (.aload_n 0, 1) := dk_42 (dk_at dksX1_mean_0 0 rfl rfl)
theorem dX1_mean_1 : decode cX1_mean 1 = .ok (.invokevirtual 113, 3) := dk_182 0 113 (dk_at dksX1_mean_0 1 rfl rfl)
theorem dX1_mean_4 : decode cX1_mean 4 = .ok (.aload_n 0, 1) := dk_42 (dk_at dksX1_mean_0 4 rfl rfl)
theorem dX1_mean_5 : decode cX1_mean 5 = .ok (.iload_n 1, 1) := dk_27 (dk_at dksX1_mean_0 5 rfl rfl)
theorem dX1_mean_6 : decode cX1_mean 6 = .ok (.iload_n 2, 1) := dk_28 (dk_at dksX1_mean_0 6 rfl rfl)
theorem dX1_mean_7 : decode cX1_mean 7 = .ok (.invokevirtual 326, 3) := dk_182 1 70 (dk_at dksX1_mean_0 7 rfl rfl)
theorem dX1_mean_10 : decode cX1_mean 10 = .ok (.ifCond .ne 9, 3) := dk_154 0 9 (dk_at dksX1_mean_0 10 rfl rfl)
theorem dX1_mean_13 : decode cX1_mean 13 = .ok (.aload_n 0, 1) := dk_42 (dk_at dksX1_mean_0 13 rfl rfl)
theorem dX1_mean_14 : decode cX1_mean 14 = .ok (.iconst 1, 1) := dk_4 (dk_at dksX1_mean_0 14 rfl rfl)
theorem dX1_mean_15 : decode cX1_mean 15 = .ok (.invokevirtual 127, 3) := dk_182 0 127 (dk_at dksX1_mean_0 15 rfl rfl)
theorem dX1_mean_18 : decode cX1_mean 18 = .ok (.ireturn, 1) := dk_172 (dk_at dksX1_mean_0 18 rfl rfl)
theorem dX1_mean_19 : decode cX1_mean 19 = .ok (.aload_n 0, 1) := dk_42 (dk_at dksX1_mean_0 19 rfl rfl)
theorem dX1_mean_20 : decode cX1_mean 20 = .ok (.iload_n 1, 1) := dk_27 (dk_at dksX1_mean_0 20 rfl rfl)
theorem dX1_mean_21 : decode cX1_mean 21 = .ok (.iload_n 2, 1) := dk_28 (dk_at dksX1_mean_0 21 rfl rfl)
theorem dX1_mean_22 : decode cX1_mean 22 = .ok (.invokevirtual 329, 3) := dk_182 1 73 (dk_at dksX1_mean_1 0 rfl rfl)
theorem dX1_mean_25 : decode cX1_mean 25 = .ok (.istore 4, 2) := dk_54 4 (dk_at dksX1_mean_1 3 rfl rfl)
theorem dX1_mean_27 : decode cX1_mean 27 = .ok (.iload 4, 2) := dk_21 4 (dk_at dksX1_mean_1 5 rfl rfl)
theorem dX1_mean_29 : decode cX1_mean 29 = .ok (.ifCond .ne 10, 3) := dk_154 0 10 (dk_at dksX1_mean_1 7 rfl rfl)
theorem dX1_mean_32 : decode cX1_mean 32 = .ok (.aload_n 0, 1) := dk_42 (dk_at dksX1_mean_1 10 rfl rfl)
theorem dX1_mean_33 : decode cX1_mean 33 = .ok (.bipush 6, 2) := dk_16 6 (dk_at dksX1_mean_1 11 rfl rfl)
theorem dX1_mean_35 : decode cX1_mean 35 = .ok (.invokevirtual 127, 3) := dk_182 0 127 (dk_at dksX1_mean_1 13 rfl rfl)
theorem dX1_mean_38 : decode cX1_mean 38 = .ok (.ireturn, 1) := dk_172 (dk_at dksX1_mean_1 16 rfl rfl)
theorem dX1_mean_39 : decode cX1_mean 39 = .ok (.aload_n 0, 1) := dk_42 (dk_at dksX1_mean_1 17 rfl rfl)
theorem dX1_mean_40 : decode cX1_mean 40 = .ok (.getfield 155, 3) := dk_180 0 155 (dk_at dksX1_mean_1 18 rfl rfl)
theorem dX1_mean_43 : decode cX1_mean 43 = .ok (.iload 4, 2) := dk_21 4 (dk_at dksX1_mean_1 21 rfl rfl)
theorem dX1_mean_45 : decode cX1_mean 45 = .ok (.invokestatic 332, 3) := dk_184 1 76 (dk_at dksX1_mean_2 0 rfl rfl)
theorem dX1_mean_48 : decode cX1_mean 48 = .ok (.istore 5, 2) := dk_54 5 (dk_at dksX1_mean_2 3 rfl rfl)
theorem dX1_mean_50 : decode cX1_mean 50 = .ok (.iload_n 3, 1) := dk_29 (dk_at dksX1_mean_2 5 rfl rfl)
theorem dX1_mean_51 : decode cX1_mean 51 = .ok (.ifCond .eq 8, 3) := dk_153 0 8 (dk_at dksX1_mean_2 6 rfl rfl)
theorem dX1_mean_54 : decode cX1_mean 54 = .ok (.iload 4, 2) := dk_21 4 (dk_at dksX1_mean_2 9 rfl rfl)
theorem dX1_mean_56 : decode cX1_mean 56 = .ok (.goto 7, 3) := dk_167 0 7 (dk_at dksX1_mean_2 11 rfl rfl)
theorem dX1_mean_59 : decode cX1_mean 59 = .ok (.aload_n 0, 1) := dk_42 (dk_at dksX1_mean_2 14 rfl rfl)
theorem dX1_mean_60 : decode cX1_mean 60 = .ok (.getfield 155, 3) := dk_180 0 155 (dk_at dksX1_mean_2 15 rfl rfl)
theorem dX1_mean_63 : decode cX1_mean 63 = .ok (.iload 5, 2) := dk_21 5 (dk_at dksX1_mean_2 18 rfl rfl)
theorem dX1_mean_65 : decode cX1_mean 65 = .ok (.idiv, 1) := dk_108 (dk_at dksX1_mean_2 20 rfl rfl)
theorem dX1_mean_66 : decode cX1_mean 66 = .ok (.ireturn, 1) := dk_172 (dk_at dksX1_mean_2 21 rfl rfl)
abbrev cX1_common : ByteArray := prog_1_method_6_code
def yX1_common : MethodName := ⟨RX1, "common", "(II)I"⟩
def dkwX1_common_0 : List UInt8 := [26, 61, 27, 62, 29, 153, 0, 16, 28, 29, 112, 54, 4, 29, 61, 21, 4, 62, 167, 255, 242, 28, 172]
abbrev dktX1_common_0 : List UInt8 := dkwX1_common_0 ++ []
theorem dksX1_common_0 : cX1_common.data.toList.drop 0 = dktX1_common_0 := by decide +kernel
theorem dX1_common_0 : decode cX1_common 0 = .ok (.iload_n 0, 1) := dk_26 (dk_at dksX1_common_0 0 rfl rfl)
theorem dX1_common_1 : decode cX1_common 1 = .ok (.istore_n 2, 1) := dk_61 (dk_at dksX1_common_0 1 rfl rfl)
theorem dX1_common_2 : decode cX1_common 2 = .ok (.iload_n 1, 1) := dk_27 (dk_at dksX1_common_0 2 rfl rfl)
theorem dX1_common_3 : decode cX1_common 3 = .ok (.istore_n 3, 1) := dk_62 (dk_at dksX1_common_0 3 rfl rfl)
theorem dX1_common_4 : decode cX1_common 4 = .ok (.iload_n 3, 1) := dk_29 (dk_at dksX1_common_0 4 rfl rfl)
theorem dX1_common_5 : decode cX1_common 5 = .ok (.ifCond .eq 16, 3) := dk_153 0 16 (dk_at dksX1_common_0 5 rfl rfl)
theorem dX1_common_8 : decode cX1_common 8 = .ok (.iload_n 2, 1) := dk_28 (dk_at dksX1_common_0 8 rfl rfl)
theorem dX1_common_9 : decode cX1_common 9 = .ok (.iload_n 3, 1) := dk_29 (dk_at dksX1_common_0 9 rfl rfl)
theorem dX1_common_10 : decode cX1_common 10 = .ok (.irem, 1) := dk_112 (dk_at dksX1_common_0 10 rfl rfl)
theorem dX1_common_11 : decode cX1_common 11 = .ok (.istore 4, 2) := dk_54 4 (dk_at dksX1_common_0 11 rfl rfl)
theorem dX1_common_13 : decode cX1_common 13 = .ok (.iload_n 3, 1) := dk_29 (dk_at dksX1_common_0 13 rfl rfl)
theorem dX1_common_14 : decode cX1_common 14 = .ok (.istore_n 2, 1) := dk_61 (dk_at dksX1_common_0 14 rfl rfl)
theorem dX1_common_15 : decode cX1_common 15 = .ok (.iload 4, 2) := dk_21 4 (dk_at dksX1_common_0 15 rfl rfl)
theorem dX1_common_17 : decode cX1_common 17 = .ok (.istore_n 3, 1) := dk_62 (dk_at dksX1_common_0 17 rfl rfl)
theorem dX1_common_18 : decode cX1_common 18 = .ok (.goto (-14), 3) := dk_167 255 242 (dk_at dksX1_common_0 18 rfl rfl)
theorem dX1_common_21 : decode cX1_common 21 = .ok (.iload_n 2, 1) := dk_28 (dk_at dksX1_common_0 21 rfl rfl)
theorem dX1_common_22 : decode cX1_common 22 = .ok (.ireturn, 1) := dk_172 (dk_at dksX1_common_0 22 rfl rfl)
abbrev cX1_hardest : ByteArray := prog_1_method_67_code
def yX1_hardest : MethodName := ⟨RX1, "hardest", "()I"⟩
def dkwX1_hardest_3 : List UInt8 := [132, 2, 1, 167, 255, 223, 27, 172]
abbrev dktX1_hardest_3 : List UInt8 := dkwX1_hardest_3 ++ []
def dkwX1_hardest_2 : List UInt8 := [162, 0, 28, 42, 28, 182, 1, 84, 42, 27, 182, 1, 84, 162, 0, 7, 28, 167, 0, 4, 27, 60]
abbrev dktX1_hardest_2 : List UInt8 := dkwX1_hardest_2 ++ dktX1_hardest_3
def dkwX1_hardest_1 : List UInt8 := [5, 162, 0, 10, 42, 16, 6, 182, 0, 127, 172, 3, 60, 4, 61, 28, 42, 180, 0, 137, 180, 0, 188]
abbrev dktX1_hardest_1 : List UInt8 := dkwX1_hardest_1 ++ dktX1_hardest_2
def dkwX1_hardest_0 : List UInt8 := [42, 182, 0, 113, 42, 180, 0, 137, 199, 0, 9, 42, 4, 182, 0, 127, 172, 42, 180, 0, 137, 180, 0, 188]
abbrev dktX1_hardest_0 : List UInt8 := dkwX1_hardest_0 ++ dktX1_hardest_1
theorem dksX1_hardest_0 : cX1_hardest.data.toList.drop 0 = dktX1_hardest_0 := by decide +kernel
theorem dksX1_hardest_1 : cX1_hardest.data.toList.drop 24 = dktX1_hardest_1 := dk_seg dksX1_hardest_0 24 rfl rfl
theorem dksX1_hardest_2 : cX1_hardest.data.toList.drop 47 = dktX1_hardest_2 := dk_seg dksX1_hardest_1 23 rfl rfl
theorem dksX1_hardest_3 : cX1_hardest.data.toList.drop 69 = dktX1_hardest_3 := dk_seg dksX1_hardest_2 22 rfl rfl
theorem dX1_hardest_0 : decode cX1_hardest 0 = .ok (.aload_n 0, 1) := dk_42 (dk_at dksX1_hardest_0 0 rfl rfl)
theorem dX1_hardest_1 : decode cX1_hardest 1 = .ok (.invokevirtual 113, 3) := dk_182 0 113 (dk_at dksX1_hardest_0 1 rfl rfl)
theorem dX1_hardest_4 : decode cX1_hardest 4 = .ok (.aload_n 0, 1) := dk_42 (dk_at dksX1_hardest_0 4 rfl rfl)
theorem dX1_hardest_5 : decode cX1_hardest 5 = .ok (.getfield 137, 3) := dk_180 0 137 (dk_at dksX1_hardest_0 5 rfl rfl)
theorem dX1_hardest_8 : decode cX1_hardest 8 = .ok (.ifnonnull 9, 3) := dk_199 0 9 (dk_at dksX1_hardest_0 8 rfl rfl)
theorem dX1_hardest_11 : decode cX1_hardest 11 = .ok (.aload_n 0, 1) := dk_42 (dk_at dksX1_hardest_0 11 rfl rfl)
theorem dX1_hardest_12 : decode cX1_hardest 12 = .ok (.iconst 1, 1) := dk_4 (dk_at dksX1_hardest_0 12 rfl rfl)
theorem dX1_hardest_13 : decode cX1_hardest 13 = .ok (.invokevirtual 127, 3) := dk_182 0 127 (dk_at dksX1_hardest_0 13 rfl rfl)
theorem dX1_hardest_16 : decode cX1_hardest 16 = .ok (.ireturn, 1) := dk_172 (dk_at dksX1_hardest_0 16 rfl rfl)
theorem dX1_hardest_17 : decode cX1_hardest 17 = .ok (.aload_n 0, 1) := dk_42 (dk_at dksX1_hardest_0 17 rfl rfl)
theorem dX1_hardest_18 : decode cX1_hardest 18 = .ok (.getfield 137, 3) := dk_180 0 137 (dk_at dksX1_hardest_0 18 rfl rfl)
theorem dX1_hardest_21 : decode cX1_hardest 21 = .ok (.getfield 188, 3) := dk_180 0 188 (dk_at dksX1_hardest_0 21 rfl rfl)
theorem dX1_hardest_24 : decode cX1_hardest 24 = .ok (.iconst 2, 1) := dk_5 (dk_at dksX1_hardest_1 0 rfl rfl)
theorem dX1_hardest_25 : decode cX1_hardest 25 = .ok (.if_icmp .ge 10, 3) := dk_162 0 10 (dk_at dksX1_hardest_1 1 rfl rfl)
theorem dX1_hardest_28 : decode cX1_hardest 28 = .ok (.aload_n 0, 1) := dk_42 (dk_at dksX1_hardest_1 4 rfl rfl)
theorem dX1_hardest_29 : decode cX1_hardest 29 = .ok (.bipush 6, 2) := dk_16 6 (dk_at dksX1_hardest_1 5 rfl rfl)
theorem dX1_hardest_31 : decode cX1_hardest 31 = .ok (.invokevirtual 127, 3) := dk_182 0 127 (dk_at dksX1_hardest_1 7 rfl rfl)
theorem dX1_hardest_34 : decode cX1_hardest 34 = .ok (.ireturn, 1) := dk_172 (dk_at dksX1_hardest_1 10 rfl rfl)
theorem dX1_hardest_35 : decode cX1_hardest 35 = .ok (.iconst 0, 1) := dk_3 (dk_at dksX1_hardest_1 11 rfl rfl)
theorem dX1_hardest_36 : decode cX1_hardest 36 = .ok (.istore_n 1, 1) := dk_60 (dk_at dksX1_hardest_1 12 rfl rfl)
theorem dX1_hardest_37 : decode cX1_hardest 37 = .ok (.iconst 1, 1) := dk_4 (dk_at dksX1_hardest_1 13 rfl rfl)
theorem dX1_hardest_38 : decode cX1_hardest 38 = .ok (.istore_n 2, 1) := dk_61 (dk_at dksX1_hardest_1 14 rfl rfl)
theorem dX1_hardest_39 : decode cX1_hardest 39 = .ok (.iload_n 2, 1) := dk_28 (dk_at dksX1_hardest_1 15 rfl rfl)
theorem dX1_hardest_40 : decode cX1_hardest 40 = .ok (.aload_n 0, 1) := dk_42 (dk_at dksX1_hardest_1 16 rfl rfl)
theorem dX1_hardest_41 : decode cX1_hardest 41 = .ok (.getfield 137, 3) := dk_180 0 137 (dk_at dksX1_hardest_1 17 rfl rfl)
theorem dX1_hardest_44 : decode cX1_hardest 44 = .ok (.getfield 188, 3) := dk_180 0 188 (dk_at dksX1_hardest_1 20 rfl rfl)
theorem dX1_hardest_47 : decode cX1_hardest 47 = .ok (.if_icmp .ge 28, 3) := dk_162 0 28 (dk_at dksX1_hardest_2 0 rfl rfl)
theorem dX1_hardest_50 : decode cX1_hardest 50 = .ok (.aload_n 0, 1) := dk_42 (dk_at dksX1_hardest_2 3 rfl rfl)
theorem dX1_hardest_51 : decode cX1_hardest 51 = .ok (.iload_n 2, 1) := dk_28 (dk_at dksX1_hardest_2 4 rfl rfl)
theorem dX1_hardest_52 : decode cX1_hardest 52 = .ok (.invokevirtual 340, 3) := dk_182 1 84 (dk_at dksX1_hardest_2 5 rfl rfl)
theorem dX1_hardest_55 : decode cX1_hardest 55 = .ok (.aload_n 0, 1) := dk_42 (dk_at dksX1_hardest_2 8 rfl rfl)
theorem dX1_hardest_56 : decode cX1_hardest 56 = .ok (.iload_n 1, 1) := dk_27 (dk_at dksX1_hardest_2 9 rfl rfl)
theorem dX1_hardest_57 : decode cX1_hardest 57 = .ok (.invokevirtual 340, 3) := dk_182 1 84 (dk_at dksX1_hardest_2 10 rfl rfl)
theorem dX1_hardest_60 : decode cX1_hardest 60 = .ok (.if_icmp .ge 7, 3) := dk_162 0 7 (dk_at dksX1_hardest_2 13 rfl rfl)
theorem dX1_hardest_63 : decode cX1_hardest 63 = .ok (.iload_n 2, 1) := dk_28 (dk_at dksX1_hardest_2 16 rfl rfl)
theorem dX1_hardest_64 : decode cX1_hardest 64 = .ok (.goto 4, 3) := dk_167 0 4 (dk_at dksX1_hardest_2 17 rfl rfl)
theorem dX1_hardest_67 : decode cX1_hardest 67 = .ok (.iload_n 1, 1) := dk_27 (dk_at dksX1_hardest_2 20 rfl rfl)
theorem dX1_hardest_68 : decode cX1_hardest 68 = .ok (.istore_n 1, 1) := dk_60 (dk_at dksX1_hardest_2 21 rfl rfl)
theorem dX1_hardest_69 : decode cX1_hardest 69 = .ok (.iinc 2 1, 3) := dk_132 2 1 (dk_at dksX1_hardest_3 0 rfl rfl)
theorem dX1_hardest_72 : decode cX1_hardest 72 = .ok (.goto (-33), 3) := dk_167 255 223 (dk_at dksX1_hardest_3 3 rfl rfl)
theorem dX1_hardest_75 : decode cX1_hardest 75 = .ok (.iload_n 1, 1) := dk_27 (dk_at dksX1_hardest_3 6 rfl rfl)
theorem dX1_hardest_76 : decode cX1_hardest 76 = .ok (.ireturn, 1) := dk_172 (dk_at dksX1_hardest_3 7 rfl rfl)
abbrev cX1_nearest : ByteArray := prog_1_method_66_code
def yX1_nearest : MethodName := ⟨RX1, "nearest", "(I)I"⟩
def dkwX1_nearest_1 : List UInt8 := [27, 29, 182, 1, 73, 184, 1, 79, 61, 132, 3, 1, 167, 255, 226, 28, 172]
abbrev dktX1_nearest_1 : List UInt8 := dkwX1_nearest_1 ++ []
def dkwX1_nearest_0 : List UInt8 := [17, 7, 209, 61, 3, 62, 29, 42, 180, 0, 137, 180, 0, 188, 162, 0, 25, 29, 27, 159, 0, 14, 28, 42]
abbrev dktX1_nearest_0 : List UInt8 := dkwX1_nearest_0 ++ dktX1_nearest_1
theorem dksX1_nearest_0 : cX1_nearest.data.toList.drop 0 = dktX1_nearest_0 := by decide +kernel
theorem dksX1_nearest_1 : cX1_nearest.data.toList.drop 24 = dktX1_nearest_1 := dk_seg dksX1_nearest_0 24 rfl rfl
theorem dX1_nearest_0 : decode cX1_nearest 0 = .ok (.sipush 2001, 3) := dk_17 7 209 (dk_at dksX1_nearest_0 0 rfl rfl)
theorem dX1_nearest_3 : decode cX1_nearest 3 = .ok (.istore_n 2, 1) := dk_61 (dk_at dksX1_nearest_0 3 rfl rfl)
theorem dX1_nearest_4 : decode cX1_nearest 4 = .ok (.iconst 0, 1) := dk_3 (dk_at dksX1_nearest_0 4 rfl rfl)
theorem dX1_nearest_5 : decode cX1_nearest 5 = .ok (.istore_n 3, 1) := dk_62 (dk_at dksX1_nearest_0 5 rfl rfl)
theorem dX1_nearest_6 : decode cX1_nearest 6 = .ok (.iload_n 3, 1) := dk_29 (dk_at dksX1_nearest_0 6 rfl rfl)
theorem dX1_nearest_7 : decode cX1_nearest 7 = .ok (.aload_n 0, 1) := dk_42 (dk_at dksX1_nearest_0 7 rfl rfl)
theorem dX1_nearest_8 : decode cX1_nearest 8 = .ok (.getfield 137, 3) := dk_180 0 137 (dk_at dksX1_nearest_0 8 rfl rfl)
theorem dX1_nearest_11 : decode cX1_nearest 11 = .ok (.getfield 188, 3) := dk_180 0 188 (dk_at dksX1_nearest_0 11 rfl rfl)
theorem dX1_nearest_14 : decode cX1_nearest 14 = .ok (.if_icmp .ge 25, 3) := dk_162 0 25 (dk_at dksX1_nearest_0 14 rfl rfl)
theorem dX1_nearest_17 : decode cX1_nearest 17 = .ok (.iload_n 3, 1) := dk_29 (dk_at dksX1_nearest_0 17 rfl rfl)
theorem dX1_nearest_18 : decode cX1_nearest 18 = .ok (.iload_n 1, 1) := dk_27 (dk_at dksX1_nearest_0 18 rfl rfl)
theorem dX1_nearest_19 : decode cX1_nearest 19 = .ok (.if_icmp .eq 14, 3) := dk_159 0 14 (dk_at dksX1_nearest_0 19 rfl rfl)
theorem dX1_nearest_22 : decode cX1_nearest 22 = .ok (.iload_n 2, 1) := dk_28 (dk_at dksX1_nearest_0 22 rfl rfl)
theorem dX1_nearest_23 : decode cX1_nearest 23 = .ok (.aload_n 0, 1) := dk_42 (dk_at dksX1_nearest_0 23 rfl rfl)
theorem dX1_nearest_24 : decode cX1_nearest 24 = .ok (.iload_n 1, 1) := dk_27 (dk_at dksX1_nearest_1 0 rfl rfl)
theorem dX1_nearest_25 : decode cX1_nearest 25 = .ok (.iload_n 3, 1) := dk_29 (dk_at dksX1_nearest_1 1 rfl rfl)
theorem dX1_nearest_26 : decode cX1_nearest 26 = .ok (.invokevirtual 329, 3) := dk_182 1 73 (dk_at dksX1_nearest_1 2 rfl rfl)
theorem dX1_nearest_29 : decode cX1_nearest 29 = .ok (.invokestatic 335, 3) := dk_184 1 79 (dk_at dksX1_nearest_1 5 rfl rfl)
theorem dX1_nearest_32 : decode cX1_nearest 32 = .ok (.istore_n 2, 1) := dk_61 (dk_at dksX1_nearest_1 8 rfl rfl)
theorem dX1_nearest_33 : decode cX1_nearest 33 = .ok (.iinc 3 1, 3) := dk_132 3 1 (dk_at dksX1_nearest_1 9 rfl rfl)
theorem dX1_nearest_36 : decode cX1_nearest 36 = .ok (.goto (-30), 3) := dk_167 255 226 (dk_at dksX1_nearest_1 12 rfl rfl)
theorem dX1_nearest_39 : decode cX1_nearest 39 = .ok (.iload_n 2, 1) := dk_28 (dk_at dksX1_nearest_1 15 rfl rfl)
theorem dX1_nearest_40 : decode cX1_nearest 40 = .ok (.ireturn, 1) := dk_172 (dk_at dksX1_nearest_1 16 rfl rfl)
abbrev cX1_shows : ByteArray := prog_1_method_68_code
def yX1_shows : MethodName := ⟨RX1, "shows", "(II)I"⟩
def dkwX1_shows_3 : List UInt8 := [182, 0, 181, 42, 180, 0, 86, 180, 0, 166, 4, 100, 172]
abbrev dktX1_shows_3 : List UInt8 := dkwX1_shows_3 ++ []
def dkwX1_shows_2 : List UInt8 := [42, 180, 0, 86, 180, 0, 166, 16, 20, 160, 0, 9, 42, 6, 182, 0, 127, 172, 42, 180, 0, 86, 28, 29]
abbrev dktX1_shows_2 : List UInt8 := dkwX1_shows_2 ++ dktX1_shows_3
def dkwX1_shows_1 : List UInt8 := [182, 0, 127, 172, 42, 27, 28, 182, 0, 255, 62, 29, 16, 254, 160, 0, 10, 42, 16, 6, 182, 0, 127, 172]
abbrev dktX1_shows_1 : List UInt8 := dkwX1_shows_1 ++ dktX1_shows_2
def dkwX1_shows_0 : List UInt8 := [42, 182, 0, 113, 42, 27, 182, 0, 252, 153, 0, 11, 42, 28, 182, 0, 201, 154, 0, 9, 42, 4]
abbrev dktX1_shows_0 : List UInt8 := dkwX1_shows_0 ++ dktX1_shows_1
theorem dksX1_shows_0 : cX1_shows.data.toList.drop 0 = dktX1_shows_0 := by decide +kernel
theorem dksX1_shows_1 : cX1_shows.data.toList.drop 22 = dktX1_shows_1 := dk_seg dksX1_shows_0 22 rfl rfl
theorem dksX1_shows_2 : cX1_shows.data.toList.drop 46 = dktX1_shows_2 := dk_seg dksX1_shows_1 24 rfl rfl
theorem dksX1_shows_3 : cX1_shows.data.toList.drop 70 = dktX1_shows_3 := dk_seg dksX1_shows_2 24 rfl rfl
theorem dX1_shows_0 : decode cX1_shows 0 = .ok (.aload_n 0, 1) := dk_42 (dk_at dksX1_shows_0 0 rfl rfl)
theorem dX1_shows_1 : decode cX1_shows 1 = .ok (.invokevirtual 113, 3) := dk_182 0 113 (dk_at dksX1_shows_0 1 rfl rfl)
theorem dX1_shows_4 : decode cX1_shows 4 = .ok (.aload_n 0, 1) := dk_42 (dk_at dksX1_shows_0 4 rfl rfl)
theorem dX1_shows_5 : decode cX1_shows 5 = .ok (.iload_n 1, 1) := dk_27 (dk_at dksX1_shows_0 5 rfl rfl)
theorem dX1_shows_6 : decode cX1_shows 6 = .ok (.invokevirtual 252, 3) := dk_182 0 252 (dk_at dksX1_shows_0 6 rfl rfl)
theorem dX1_shows_9 : decode cX1_shows 9 = .ok (.ifCond .eq 11, 3) := dk_153 0 11 (dk_at dksX1_shows_0 9 rfl rfl)
theorem dX1_shows_12 : decode cX1_shows 12 = .ok (.aload_n 0, 1) := dk_42 (dk_at dksX1_shows_0 12 rfl rfl)
theorem dX1_shows_13 : decode cX1_shows 13 = .ok (.iload_n 2, 1) := dk_28 (dk_at dksX1_shows_0 13 rfl rfl)
theorem dX1_shows_14 : decode cX1_shows 14 = .ok (.invokevirtual 201, 3) := dk_182 0 201 (dk_at dksX1_shows_0 14 rfl rfl)
theorem dX1_shows_17 : decode cX1_shows 17 = .ok (.ifCond .ne 9, 3) := dk_154 0 9 (dk_at dksX1_shows_0 17 rfl rfl)
theorem dX1_shows_20 : decode cX1_shows 20 = .ok (.aload_n 0, 1) := dk_42 (dk_at dksX1_shows_0 20 rfl rfl)
theorem dX1_shows_21 : decode cX1_shows 21 = .ok (.iconst 1, 1) := dk_4 (dk_at dksX1_shows_0 21 rfl rfl)
theorem dX1_shows_22 : decode cX1_shows 22 = .ok (.invokevirtual 127, 3) := dk_182 0 127 (dk_at dksX1_shows_1 0 rfl rfl)
theorem dX1_shows_25 : decode cX1_shows 25 = .ok (.ireturn, 1) := dk_172 (dk_at dksX1_shows_1 3 rfl rfl)
theorem dX1_shows_26 : decode cX1_shows 26 = .ok (.aload_n 0, 1) := dk_42 (dk_at dksX1_shows_1 4 rfl rfl)
theorem dX1_shows_27 : decode cX1_shows 27 = .ok (.iload_n 1, 1) := dk_27 (dk_at dksX1_shows_1 5 rfl rfl)
theorem dX1_shows_28 : decode cX1_shows 28 = .ok (.iload_n 2, 1) := dk_28 (dk_at dksX1_shows_1 6 rfl rfl)
theorem dX1_shows_29 : decode cX1_shows 29 = .ok (.invokevirtual 255, 3) := dk_182 0 255 (dk_at dksX1_shows_1 7 rfl rfl)
theorem dX1_shows_32 : decode cX1_shows 32 = .ok (.istore_n 3, 1) := dk_62 (dk_at dksX1_shows_1 10 rfl rfl)
theorem dX1_shows_33 : decode cX1_shows 33 = .ok (.iload_n 3, 1) := dk_29 (dk_at dksX1_shows_1 11 rfl rfl)
theorem dX1_shows_34 : decode cX1_shows 34 = .ok (.bipush (-2), 2) := dk_16 254 (dk_at dksX1_shows_1 12 rfl rfl)
theorem dX1_shows_36 : decode cX1_shows 36 = .ok (.if_icmp .ne 10, 3) := dk_160 0 10 (dk_at dksX1_shows_1 14 rfl rfl)
theorem dX1_shows_39 : decode cX1_shows 39 = .ok (.aload_n 0, 1) := dk_42 (dk_at dksX1_shows_1 17 rfl rfl)
theorem dX1_shows_40 : decode cX1_shows 40 = .ok (.bipush 6, 2) := dk_16 6 (dk_at dksX1_shows_1 18 rfl rfl)
theorem dX1_shows_42 : decode cX1_shows 42 = .ok (.invokevirtual 127, 3) := dk_182 0 127 (dk_at dksX1_shows_1 20 rfl rfl)
theorem dX1_shows_45 : decode cX1_shows 45 = .ok (.ireturn, 1) := dk_172 (dk_at dksX1_shows_1 23 rfl rfl)
theorem dX1_shows_46 : decode cX1_shows 46 = .ok (.aload_n 0, 1) := dk_42 (dk_at dksX1_shows_2 0 rfl rfl)
theorem dX1_shows_47 : decode cX1_shows 47 = .ok (.getfield 86, 3) := dk_180 0 86 (dk_at dksX1_shows_2 1 rfl rfl)
theorem dX1_shows_50 : decode cX1_shows 50 = .ok (.getfield 166, 3) := dk_180 0 166 (dk_at dksX1_shows_2 4 rfl rfl)
theorem dX1_shows_53 : decode cX1_shows 53 = .ok (.bipush 20, 2) := dk_16 20 (dk_at dksX1_shows_2 7 rfl rfl)
theorem dX1_shows_55 : decode cX1_shows 55 = .ok (.if_icmp .ne 9, 3) := dk_160 0 9 (dk_at dksX1_shows_2 9 rfl rfl)
theorem dX1_shows_58 : decode cX1_shows 58 = .ok (.aload_n 0, 1) := dk_42 (dk_at dksX1_shows_2 12 rfl rfl)
theorem dX1_shows_59 : decode cX1_shows 59 = .ok (.iconst 3, 1) := dk_6 (dk_at dksX1_shows_2 13 rfl rfl)
theorem dX1_shows_60 : decode cX1_shows 60 = .ok (.invokevirtual 127, 3) := dk_182 0 127 (dk_at dksX1_shows_2 14 rfl rfl)
theorem dX1_shows_63 : decode cX1_shows 63 = .ok (.ireturn, 1) := dk_172 (dk_at dksX1_shows_2 17 rfl rfl)
theorem dX1_shows_64 : decode cX1_shows 64 = .ok (.aload_n 0, 1) := dk_42 (dk_at dksX1_shows_2 18 rfl rfl)
theorem dX1_shows_65 : decode cX1_shows 65 = .ok (.getfield 86, 3) := dk_180 0 86 (dk_at dksX1_shows_2 19 rfl rfl)
theorem dX1_shows_68 : decode cX1_shows 68 = .ok (.iload_n 2, 1) := dk_28 (dk_at dksX1_shows_2 22 rfl rfl)
theorem dX1_shows_69 : decode cX1_shows 69 = .ok (.iload_n 3, 1) := dk_29 (dk_at dksX1_shows_2 23 rfl rfl)
theorem dX1_shows_70 : decode cX1_shows 70 = .ok (.invokevirtual 181, 3) := dk_182 0 181 (dk_at dksX1_shows_3 0 rfl rfl)
theorem dX1_shows_73 : decode cX1_shows 73 = .ok (.aload_n 0, 1) := dk_42 (dk_at dksX1_shows_3 3 rfl rfl)
theorem dX1_shows_74 : decode cX1_shows 74 = .ok (.getfield 86, 3) := dk_180 0 86 (dk_at dksX1_shows_3 4 rfl rfl)
theorem dX1_shows_77 : decode cX1_shows 77 = .ok (.getfield 166, 3) := dk_180 0 166 (dk_at dksX1_shows_3 7 rfl rfl)
theorem dX1_shows_80 : decode cX1_shows 80 = .ok (.iconst 1, 1) := dk_4 (dk_at dksX1_shows_3 10 rfl rfl)
theorem dX1_shows_81 : decode cX1_shows 81 = .ok (.isub, 1) := dk_100 (dk_at dksX1_shows_3 11 rfl rfl)
theorem dX1_shows_82 : decode cX1_shows 82 = .ok (.ireturn, 1) := dk_172 (dk_at dksX1_shows_3 12 rfl rfl)
abbrev cX1_seed : ByteArray := prog_1_method_69_code
def yX1_seed : MethodName := ⟨RX1, "seed", "(I)Z"⟩
def dkwX1_seed_1 : List UInt8 := [167, 0, 4, 5, 182, 1, 88, 154, 0, 5, 3, 172, 42, 180, 0, 86, 27, 181, 0, 169, 4, 172]
abbrev dktX1_seed_1 : List UInt8 := dkwX1_seed_1 ++ []
def dkwX1_seed_0 : List UInt8 := [42, 42, 180, 0, 137, 199, 0, 7, 4, 167, 0, 19, 27, 3, 19, 1, 87, 184, 0, 123, 153, 0, 7, 3]
abbrev dktX1_seed_0 : List UInt8 := dkwX1_seed_0 ++ dktX1_seed_1
theorem dksX1_seed_0 : cX1_seed.data.toList.drop 0 = dktX1_seed_0 := by decide +kernel
theorem dksX1_seed_1 : cX1_seed.data.toList.drop 24 = dktX1_seed_1 := dk_seg dksX1_seed_0 24 rfl rfl
theorem dX1_seed_0 : decode cX1_seed 0 = .ok (.aload_n 0, 1) := dk_42 (dk_at dksX1_seed_0 0 rfl rfl)
theorem dX1_seed_1 : decode cX1_seed 1 = .ok (.aload_n 0, 1) := dk_42 (dk_at dksX1_seed_0 1 rfl rfl)
theorem dX1_seed_2 : decode cX1_seed 2 = .ok (.getfield 137, 3) := dk_180 0 137 (dk_at dksX1_seed_0 2 rfl rfl)
theorem dX1_seed_5 : decode cX1_seed 5 = .ok (.ifnonnull 7, 3) := dk_199 0 7 (dk_at dksX1_seed_0 5 rfl rfl)
theorem dX1_seed_8 : decode cX1_seed 8 = .ok (.iconst 1, 1) := dk_4 (dk_at dksX1_seed_0 8 rfl rfl)
theorem dX1_seed_9 : decode cX1_seed 9 = .ok (.goto 19, 3) := dk_167 0 19 (dk_at dksX1_seed_0 9 rfl rfl)
theorem dX1_seed_12 : decode cX1_seed 12 = .ok (.iload_n 1, 1) := dk_27 (dk_at dksX1_seed_0 12 rfl rfl)
theorem dX1_seed_13 : decode cX1_seed 13 = .ok (.iconst 0, 1) := dk_3 (dk_at dksX1_seed_0 13 rfl rfl)
theorem dX1_seed_14 : decode cX1_seed 14 = .ok (.ldc_w 343, 3) := dk_19 1 87 (dk_at dksX1_seed_0 14 rfl rfl)
theorem dX1_seed_17 : decode cX1_seed 17 = .ok (.invokestatic 123, 3) := dk_184 0 123 (dk_at dksX1_seed_0 17 rfl rfl)
theorem dX1_seed_20 : decode cX1_seed 20 = .ok (.ifCond .eq 7, 3) := dk_153 0 7 (dk_at dksX1_seed_0 20 rfl rfl)
theorem dX1_seed_23 : decode cX1_seed 23 = .ok (.iconst 0, 1) := dk_3 (dk_at dksX1_seed_0 23 rfl rfl)
theorem dX1_seed_24 : decode cX1_seed 24 = .ok (.goto 4, 3) := dk_167 0 4 (dk_at dksX1_seed_1 0 rfl rfl)
theorem dX1_seed_27 : decode cX1_seed 27 = .ok (.iconst 2, 1) := dk_5 (dk_at dksX1_seed_1 3 rfl rfl)
theorem dX1_seed_28 : decode cX1_seed 28 = .ok (.invokevirtual 344, 3) := dk_182 1 88 (dk_at dksX1_seed_1 4 rfl rfl)
theorem dX1_seed_31 : decode cX1_seed 31 = .ok (.ifCond .ne 5, 3) := dk_154 0 5 (dk_at dksX1_seed_1 7 rfl rfl)
theorem dX1_seed_34 : decode cX1_seed 34 = .ok (.iconst 0, 1) := dk_3 (dk_at dksX1_seed_1 10 rfl rfl)
theorem dX1_seed_35 : decode cX1_seed 35 = .ok (.ireturn, 1) := dk_172 (dk_at dksX1_seed_1 11 rfl rfl)
theorem dX1_seed_36 : decode cX1_seed 36 = .ok (.aload_n 0, 1) := dk_42 (dk_at dksX1_seed_1 12 rfl rfl)
theorem dX1_seed_37 : decode cX1_seed 37 = .ok (.getfield 86, 3) := dk_180 0 86 (dk_at dksX1_seed_1 13 rfl rfl)
theorem dX1_seed_40 : decode cX1_seed 40 = .ok (.iload_n 1, 1) := dk_27 (dk_at dksX1_seed_1 16 rfl rfl)
theorem dX1_seed_41 : decode cX1_seed 41 = .ok (.putfield 169, 3) := dk_181 0 169 (dk_at dksX1_seed_1 17 rfl rfl)
theorem dX1_seed_44 : decode cX1_seed 44 = .ok (.iconst 1, 1) := dk_4 (dk_at dksX1_seed_1 20 rfl rfl)
theorem dX1_seed_45 : decode cX1_seed 45 = .ok (.ireturn, 1) := dk_172 (dk_at dksX1_seed_1 21 rfl rfl)
abbrev cX1_yes : ByteArray := prog_1_method_13_code
def yX1_yes : MethodName := ⟨RX1, "yes", "(I)Z"⟩
def dkwX1_yes_0 : List UInt8 := [42, 182, 0, 113, 42, 27, 181, 0, 110, 27, 154, 0, 7, 4, 167, 0, 4, 3, 172]
abbrev dktX1_yes_0 : List UInt8 := dkwX1_yes_0 ++ []
theorem dksX1_yes_0 : cX1_yes.data.toList.drop 0 = dktX1_yes_0 := by decide +kernel
theorem dX1_yes_0 : decode cX1_yes 0 = .ok (.aload_n 0, 1) := dk_42 (dk_at dksX1_yes_0 0 rfl rfl)
theorem dX1_yes_1 : decode cX1_yes 1 = .ok (.invokevirtual 113, 3) := dk_182 0 113 (dk_at dksX1_yes_0 1 rfl rfl)
theorem dX1_yes_4 : decode cX1_yes 4 = .ok (.aload_n 0, 1) := dk_42 (dk_at dksX1_yes_0 4 rfl rfl)
theorem dX1_yes_5 : decode cX1_yes 5 = .ok (.iload_n 1, 1) := dk_27 (dk_at dksX1_yes_0 5 rfl rfl)
theorem dX1_yes_6 : decode cX1_yes 6 = .ok (.putfield 110, 3) := dk_181 0 110 (dk_at dksX1_yes_0 6 rfl rfl)
theorem dX1_yes_9 : decode cX1_yes 9 = .ok (.iload_n 1, 1) := dk_27 (dk_at dksX1_yes_0 9 rfl rfl)
theorem dX1_yes_10 : decode cX1_yes 10 = .ok (.ifCond .ne 7, 3) := dk_154 0 7 (dk_at dksX1_yes_0 10 rfl rfl)
theorem dX1_yes_13 : decode cX1_yes 13 = .ok (.iconst 1, 1) := dk_4 (dk_at dksX1_yes_0 13 rfl rfl)
theorem dX1_yes_14 : decode cX1_yes 14 = .ok (.goto 4, 3) := dk_167 0 4 (dk_at dksX1_yes_0 14 rfl rfl)
theorem dX1_yes_17 : decode cX1_yes 17 = .ok (.iconst 0, 1) := dk_3 (dk_at dksX1_yes_0 17 rfl rfl)
theorem dX1_yes_18 : decode cX1_yes 18 = .ok (.ireturn, 1) := dk_172 (dk_at dksX1_yes_0 18 rfl rfl)
abbrev cX1_draw : ByteArray := prog_1_method_70_code
def yX1_draw : MethodName := ⟨RX1, "draw", "()I"⟩
def dkwX1_draw_2 : List UInt8 := [42, 180, 0, 155, 112, 172]
abbrev dktX1_draw_2 : List UInt8 := dkwX1_draw_2 ++ []
def dkwX1_draw_1 : List UInt8 := [180, 0, 86, 180, 0, 169, 104, 16, 74, 96, 19, 1, 91, 112, 181, 0, 169, 42, 180, 0, 86, 180, 0, 169]
abbrev dktX1_draw_1 : List UInt8 := dkwX1_draw_1 ++ dktX1_draw_2
def dkwX1_draw_0 : List UInt8 := [42, 182, 0, 113, 42, 180, 0, 137, 199, 0, 9, 42, 4, 182, 0, 127, 172, 42, 180, 0, 86, 16, 75, 42]
abbrev dktX1_draw_0 : List UInt8 := dkwX1_draw_0 ++ dktX1_draw_1
theorem dksX1_draw_0 : cX1_draw.data.toList.drop 0 = dktX1_draw_0 := by decide +kernel
theorem dksX1_draw_1 : cX1_draw.data.toList.drop 24 = dktX1_draw_1 := dk_seg dksX1_draw_0 24 rfl rfl
theorem dksX1_draw_2 : cX1_draw.data.toList.drop 48 = dktX1_draw_2 := dk_seg dksX1_draw_1 24 rfl rfl
theorem dX1_draw_0 : decode cX1_draw 0 = .ok (.aload_n 0, 1) := dk_42 (dk_at dksX1_draw_0 0 rfl rfl)
theorem dX1_draw_1 : decode cX1_draw 1 = .ok (.invokevirtual 113, 3) := dk_182 0 113 (dk_at dksX1_draw_0 1 rfl rfl)
theorem dX1_draw_4 : decode cX1_draw 4 = .ok (.aload_n 0, 1) := dk_42 (dk_at dksX1_draw_0 4 rfl rfl)
theorem dX1_draw_5 : decode cX1_draw 5 = .ok (.getfield 137, 3) := dk_180 0 137 (dk_at dksX1_draw_0 5 rfl rfl)
theorem dX1_draw_8 : decode cX1_draw 8 = .ok (.ifnonnull 9, 3) := dk_199 0 9 (dk_at dksX1_draw_0 8 rfl rfl)
theorem dX1_draw_11 : decode cX1_draw 11 = .ok (.aload_n 0, 1) := dk_42 (dk_at dksX1_draw_0 11 rfl rfl)
theorem dX1_draw_12 : decode cX1_draw 12 = .ok (.iconst 1, 1) := dk_4 (dk_at dksX1_draw_0 12 rfl rfl)
theorem dX1_draw_13 : decode cX1_draw 13 = .ok (.invokevirtual 127, 3) := dk_182 0 127 (dk_at dksX1_draw_0 13 rfl rfl)
theorem dX1_draw_16 : decode cX1_draw 16 = .ok (.ireturn, 1) := dk_172 (dk_at dksX1_draw_0 16 rfl rfl)
theorem dX1_draw_17 : decode cX1_draw 17 = .ok (.aload_n 0, 1) := dk_42 (dk_at dksX1_draw_0 17 rfl rfl)
theorem dX1_draw_18 : decode cX1_draw 18 = .ok (.getfield 86, 3) := dk_180 0 86 (dk_at dksX1_draw_0 18 rfl rfl)
theorem dX1_draw_21 : decode cX1_draw 21 = .ok (.bipush 75, 2) := dk_16 75 (dk_at dksX1_draw_0 21 rfl rfl)
theorem dX1_draw_23 : decode cX1_draw 23 = .ok (.aload_n 0, 1) := dk_42 (dk_at dksX1_draw_0 23 rfl rfl)
theorem dX1_draw_24 : decode cX1_draw 24 = .ok (.getfield 86, 3) := dk_180 0 86 (dk_at dksX1_draw_1 0 rfl rfl)
theorem dX1_draw_27 : decode cX1_draw 27 = .ok (.getfield 169, 3) := dk_180 0 169 (dk_at dksX1_draw_1 3 rfl rfl)
theorem dX1_draw_30 : decode cX1_draw 30 = .ok (.imul, 1) := dk_104 (dk_at dksX1_draw_1 6 rfl rfl)
theorem dX1_draw_31 : decode cX1_draw 31 = .ok (.bipush 74, 2) := dk_16 74 (dk_at dksX1_draw_1 7 rfl rfl)
theorem dX1_draw_33 : decode cX1_draw 33 = .ok (.iadd, 1) := dk_96 (dk_at dksX1_draw_1 9 rfl rfl)
theorem dX1_draw_34 : decode cX1_draw 34 = .ok (.ldc_w 347, 3) := dk_19 1 91 (dk_at dksX1_draw_1 10 rfl rfl)
theorem dX1_draw_37 : decode cX1_draw 37 = .ok (.irem, 1) := dk_112 (dk_at dksX1_draw_1 13 rfl rfl)
theorem dX1_draw_38 : decode cX1_draw 38 = .ok (.putfield 169, 3) := dk_181 0 169 (dk_at dksX1_draw_1 14 rfl rfl)
theorem dX1_draw_41 : decode cX1_draw 41 = .ok (.aload_n 0, 1) := dk_42 (dk_at dksX1_draw_1 17 rfl rfl)
theorem dX1_draw_42 : decode cX1_draw 42 = .ok (.getfield 86, 3) := dk_180 0 86 (dk_at dksX1_draw_1 18 rfl rfl)
theorem dX1_draw_45 : decode cX1_draw 45 = .ok (.getfield 169, 3) := dk_180 0 169 (dk_at dksX1_draw_1 21 rfl rfl)
theorem dX1_draw_48 : decode cX1_draw 48 = .ok (.aload_n 0, 1) := dk_42 (dk_at dksX1_draw_2 0 rfl rfl)
theorem dX1_draw_49 : decode cX1_draw 49 = .ok (.getfield 155, 3) := dk_180 0 155 (dk_at dksX1_draw_2 1 rfl rfl)
theorem dX1_draw_52 : decode cX1_draw 52 = .ok (.irem, 1) := dk_112 (dk_at dksX1_draw_2 4 rfl rfl)
theorem dX1_draw_53 : decode cX1_draw 53 = .ok (.ireturn, 1) := dk_172 (dk_at dksX1_draw_2 5 rfl rfl)
abbrev cX1_strike : ByteArray := prog_1_method_71_code
def yX1_strike : MethodName := ⟨RX1, "strike", "()Z"⟩
def dkwX1_strike_1 : List UInt8 := [172, 42, 180, 0, 86, 89, 180, 0, 166, 4, 100, 181, 0, 166, 4, 172]
abbrev dktX1_strike_1 : List UInt8 := dkwX1_strike_1 ++ []
def dkwX1_strike_0 : List UInt8 := [42, 42, 180, 0, 86, 180, 0, 166, 154, 0, 8, 16, 6, 167, 0, 4, 3, 182, 1, 88, 154, 0, 5, 3]
abbrev dktX1_strike_0 : List UInt8 := dkwX1_strike_0 ++ dktX1_strike_1
theorem dksX1_strike_0 : cX1_strike.data.toList.drop 0 = dktX1_strike_0 := by decide +kernel
theorem dksX1_strike_1 : cX1_strike.data.toList.drop 24 = dktX1_strike_1 := dk_seg dksX1_strike_0 24 rfl rfl
theorem dX1_strike_0 : decode cX1_strike 0 = .ok (.aload_n 0, 1) := dk_42 (dk_at dksX1_strike_0 0 rfl rfl)
theorem dX1_strike_1 : decode cX1_strike 1 = .ok (.aload_n 0, 1) := dk_42 (dk_at dksX1_strike_0 1 rfl rfl)
theorem dX1_strike_2 : decode cX1_strike 2 = .ok (.getfield 86, 3) := dk_180 0 86 (dk_at dksX1_strike_0 2 rfl rfl)
theorem dX1_strike_5 : decode cX1_strike 5 = .ok (.getfield 166, 3) := dk_180 0 166 (dk_at dksX1_strike_0 5 rfl rfl)
theorem dX1_strike_8 : decode cX1_strike 8 = .ok (.ifCond .ne 8, 3) := dk_154 0 8 (dk_at dksX1_strike_0 8 rfl rfl)
theorem dX1_strike_11 : decode cX1_strike 11 = .ok (.bipush 6, 2) := dk_16 6 (dk_at dksX1_strike_0 11 rfl rfl)
theorem dX1_strike_13 : decode cX1_strike 13 = .ok (.goto 4, 3) := dk_167 0 4 (dk_at dksX1_strike_0 13 rfl rfl)
theorem dX1_strike_16 : decode cX1_strike 16 = .ok (.iconst 0, 1) := dk_3 (dk_at dksX1_strike_0 16 rfl rfl)
theorem dX1_strike_17 : decode cX1_strike 17 = .ok (.invokevirtual 344, 3) := dk_182 1 88 (dk_at dksX1_strike_0 17 rfl rfl)
theorem dX1_strike_20 : decode cX1_strike 20 = .ok (.ifCond .ne 5, 3) := dk_154 0 5 (dk_at dksX1_strike_0 20 rfl rfl)
theorem dX1_strike_23 : decode cX1_strike 23 = .ok (.iconst 0, 1) := dk_3 (dk_at dksX1_strike_0 23 rfl rfl)
theorem dX1_strike_24 : decode cX1_strike 24 = .ok (.ireturn, 1) := dk_172 (dk_at dksX1_strike_1 0 rfl rfl)
theorem dX1_strike_25 : decode cX1_strike 25 = .ok (.aload_n 0, 1) := dk_42 (dk_at dksX1_strike_1 1 rfl rfl)
theorem dX1_strike_26 : decode cX1_strike 26 = .ok (.getfield 86, 3) := dk_180 0 86 (dk_at dksX1_strike_1 2 rfl rfl)
theorem dX1_strike_29 : decode cX1_strike 29 = .ok (.dup, 1) := dk_89 (dk_at dksX1_strike_1 5 rfl rfl)
theorem dX1_strike_30 : decode cX1_strike 30 = .ok (.getfield 166, 3) := dk_180 0 166 (dk_at dksX1_strike_1 6 rfl rfl)
theorem dX1_strike_33 : decode cX1_strike 33 = .ok (.iconst 1, 1) := dk_4 (dk_at dksX1_strike_1 9 rfl rfl)
theorem dX1_strike_34 : decode cX1_strike 34 = .ok (.isub, 1) := dk_100 (dk_at dksX1_strike_1 10 rfl rfl)
theorem dX1_strike_35 : decode cX1_strike 35 = .ok (.putfield 166, 3) := dk_181 0 166 (dk_at dksX1_strike_1 11 rfl rfl)
theorem dX1_strike_38 : decode cX1_strike 38 = .ok (.iconst 1, 1) := dk_4 (dk_at dksX1_strike_1 14 rfl rfl)
theorem dX1_strike_39 : decode cX1_strike 39 = .ok (.ireturn, 1) := dk_172 (dk_at dksX1_strike_1 15 rfl rfl)
abbrev cX1_image : ByteArray := prog_1_method_72_code
def yX1_image : MethodName := ⟨RX1, "image", "()I"⟩
def dkwX1_image_2 : List UInt8 := [182, 1, 92, 42, 89, 180, 0, 185, 4, 96, 181, 0, 185, 42, 180, 0, 185, 4, 100, 172]
abbrev dktX1_image_2 : List UInt8 := dkwX1_image_2 ++ []
def dkwX1_image_1 : List UInt8 := [160, 0, 9, 42, 6, 182, 0, 127, 172, 42, 180, 0, 90, 42, 180, 0, 185, 50, 42, 180, 0, 86]
abbrev dktX1_image_1 : List UInt8 := dkwX1_image_1 ++ dktX1_image_2
def dkwX1_image_0 : List UInt8 := [42, 182, 0, 113, 42, 180, 0, 137, 199, 0, 9, 42, 4, 182, 0, 127, 172, 42, 180, 0, 185, 6]
abbrev dktX1_image_0 : List UInt8 := dkwX1_image_0 ++ dktX1_image_1
theorem dksX1_image_0 : cX1_image.data.toList.drop 0 = dktX1_image_0 := by decide +kernel
theorem dksX1_image_1 : cX1_image.data.toList.drop 22 = dktX1_image_1 := dk_seg dksX1_image_0 22 rfl rfl
theorem dksX1_image_2 : cX1_image.data.toList.drop 44 = dktX1_image_2 := dk_seg dksX1_image_1 22 rfl rfl
theorem dX1_image_0 : decode cX1_image 0 = .ok (.aload_n 0, 1) := dk_42 (dk_at dksX1_image_0 0 rfl rfl)
theorem dX1_image_1 : decode cX1_image 1 = .ok (.invokevirtual 113, 3) := dk_182 0 113 (dk_at dksX1_image_0 1 rfl rfl)
theorem dX1_image_4 : decode cX1_image 4 = .ok (.aload_n 0, 1) := dk_42 (dk_at dksX1_image_0 4 rfl rfl)
theorem dX1_image_5 : decode cX1_image 5 = .ok (.getfield 137, 3) := dk_180 0 137 (dk_at dksX1_image_0 5 rfl rfl)
theorem dX1_image_8 : decode cX1_image 8 = .ok (.ifnonnull 9, 3) := dk_199 0 9 (dk_at dksX1_image_0 8 rfl rfl)
theorem dX1_image_11 : decode cX1_image 11 = .ok (.aload_n 0, 1) := dk_42 (dk_at dksX1_image_0 11 rfl rfl)
theorem dX1_image_12 : decode cX1_image 12 = .ok (.iconst 1, 1) := dk_4 (dk_at dksX1_image_0 12 rfl rfl)
theorem dX1_image_13 : decode cX1_image 13 = .ok (.invokevirtual 127, 3) := dk_182 0 127 (dk_at dksX1_image_0 13 rfl rfl)
theorem dX1_image_16 : decode cX1_image 16 = .ok (.ireturn, 1) := dk_172 (dk_at dksX1_image_0 16 rfl rfl)
theorem dX1_image_17 : decode cX1_image 17 = .ok (.aload_n 0, 1) := dk_42 (dk_at dksX1_image_0 17 rfl rfl)
theorem dX1_image_18 : decode cX1_image 18 = .ok (.getfield 185, 3) := dk_180 0 185 (dk_at dksX1_image_0 18 rfl rfl)
theorem dX1_image_21 : decode cX1_image 21 = .ok (.iconst 3, 1) := dk_6 (dk_at dksX1_image_0 21 rfl rfl)
theorem dX1_image_22 : decode cX1_image 22 = .ok (.if_icmp .ne 9, 3) := dk_160 0 9 (dk_at dksX1_image_1 0 rfl rfl)
theorem dX1_image_25 : decode cX1_image 25 = .ok (.aload_n 0, 1) := dk_42 (dk_at dksX1_image_1 3 rfl rfl)
theorem dX1_image_26 : decode cX1_image 26 = .ok (.iconst 3, 1) := dk_6 (dk_at dksX1_image_1 4 rfl rfl)
theorem dX1_image_27 : decode cX1_image 27 = .ok (.invokevirtual 127, 3) := dk_182 0 127 (dk_at dksX1_image_1 5 rfl rfl)
theorem dX1_image_30 : decode cX1_image 30 = .ok (.ireturn, 1) := dk_172 (dk_at dksX1_image_1 8 rfl rfl)
theorem dX1_image_31 : decode cX1_image 31 = .ok (.aload_n 0, 1) := dk_42 (dk_at dksX1_image_1 9 rfl rfl)
theorem dX1_image_32 : decode cX1_image 32 = .ok (.getfield 90, 3) := dk_180 0 90 (dk_at dksX1_image_1 10 rfl rfl)
theorem dX1_image_35 : decode cX1_image 35 = .ok (.aload_n 0, 1) := dk_42 (dk_at dksX1_image_1 13 rfl rfl)
theorem dX1_image_36 : decode cX1_image 36 = .ok (.getfield 185, 3) := dk_180 0 185 (dk_at dksX1_image_1 14 rfl rfl)
theorem dX1_image_39 : decode cX1_image 39 = .ok (.aaload, 1) := dk_50 (dk_at dksX1_image_1 17 rfl rfl)
theorem dX1_image_40 : decode cX1_image 40 = .ok (.aload_n 0, 1) := dk_42 (dk_at dksX1_image_1 18 rfl rfl)
theorem dX1_image_41 : decode cX1_image 41 = .ok (.getfield 86, 3) := dk_180 0 86 (dk_at dksX1_image_1 19 rfl rfl)
theorem dX1_image_44 : decode cX1_image 44 = .ok (.invokevirtual 348, 3) := dk_182 1 92 (dk_at dksX1_image_2 0 rfl rfl)
theorem dX1_image_47 : decode cX1_image 47 = .ok (.aload_n 0, 1) := dk_42 (dk_at dksX1_image_2 3 rfl rfl)
theorem dX1_image_48 : decode cX1_image 48 = .ok (.dup, 1) := dk_89 (dk_at dksX1_image_2 4 rfl rfl)
theorem dX1_image_49 : decode cX1_image 49 = .ok (.getfield 185, 3) := dk_180 0 185 (dk_at dksX1_image_2 5 rfl rfl)
theorem dX1_image_52 : decode cX1_image 52 = .ok (.iconst 1, 1) := dk_4 (dk_at dksX1_image_2 8 rfl rfl)
theorem dX1_image_53 : decode cX1_image 53 = .ok (.iadd, 1) := dk_96 (dk_at dksX1_image_2 9 rfl rfl)
theorem dX1_image_54 : decode cX1_image 54 = .ok (.putfield 185, 3) := dk_181 0 185 (dk_at dksX1_image_2 10 rfl rfl)
theorem dX1_image_57 : decode cX1_image 57 = .ok (.aload_n 0, 1) := dk_42 (dk_at dksX1_image_2 13 rfl rfl)
theorem dX1_image_58 : decode cX1_image 58 = .ok (.getfield 185, 3) := dk_180 0 185 (dk_at dksX1_image_2 14 rfl rfl)
theorem dX1_image_61 : decode cX1_image 61 = .ok (.iconst 1, 1) := dk_4 (dk_at dksX1_image_2 17 rfl rfl)
theorem dX1_image_62 : decode cX1_image 62 = .ok (.isub, 1) := dk_100 (dk_at dksX1_image_2 18 rfl rfl)
theorem dX1_image_63 : decode cX1_image 63 = .ok (.ireturn, 1) := dk_172 (dk_at dksX1_image_2 19 rfl rfl)
abbrev cX1_back : ByteArray := prog_1_method_73_code
def yX1_back : MethodName := ⟨RX1, "back", "(I)Z"⟩
def dkwX1_back_1 : List UInt8 := [154, 0, 5, 3, 172, 42, 180, 0, 86, 42, 180, 0, 90, 27, 50, 182, 1, 92, 4, 172]
abbrev dktX1_back_1 : List UInt8 := dkwX1_back_1 ++ []
def dkwX1_back_0 : List UInt8 := [42, 27, 3, 42, 180, 0, 185, 4, 100, 184, 0, 123, 153, 0, 7, 3, 167, 0, 4, 4, 182, 1, 88]
abbrev dktX1_back_0 : List UInt8 := dkwX1_back_0 ++ dktX1_back_1
theorem dksX1_back_0 : cX1_back.data.toList.drop 0 = dktX1_back_0 := by decide +kernel
theorem dksX1_back_1 : cX1_back.data.toList.drop 23 = dktX1_back_1 := dk_seg dksX1_back_0 23 rfl rfl
theorem dX1_back_0 : decode cX1_back 0 = .ok (.aload_n 0, 1) := dk_42 (dk_at dksX1_back_0 0 rfl rfl)
theorem dX1_back_1 : decode cX1_back 1 = .ok (.iload_n 1, 1) := dk_27 (dk_at dksX1_back_0 1 rfl rfl)
theorem dX1_back_2 : decode cX1_back 2 = .ok (.iconst 0, 1) := dk_3 (dk_at dksX1_back_0 2 rfl rfl)
theorem dX1_back_3 : decode cX1_back 3 = .ok (.aload_n 0, 1) := dk_42 (dk_at dksX1_back_0 3 rfl rfl)
theorem dX1_back_4 : decode cX1_back 4 = .ok (.getfield 185, 3) := dk_180 0 185 (dk_at dksX1_back_0 4 rfl rfl)
theorem dX1_back_7 : decode cX1_back 7 = .ok (.iconst 1, 1) := dk_4 (dk_at dksX1_back_0 7 rfl rfl)
theorem dX1_back_8 : decode cX1_back 8 = .ok (.isub, 1) := dk_100 (dk_at dksX1_back_0 8 rfl rfl)
theorem dX1_back_9 : decode cX1_back 9 = .ok (.invokestatic 123, 3) := dk_184 0 123 (dk_at dksX1_back_0 9 rfl rfl)
theorem dX1_back_12 : decode cX1_back 12 = .ok (.ifCond .eq 7, 3) := dk_153 0 7 (dk_at dksX1_back_0 12 rfl rfl)
theorem dX1_back_15 : decode cX1_back 15 = .ok (.iconst 0, 1) := dk_3 (dk_at dksX1_back_0 15 rfl rfl)
theorem dX1_back_16 : decode cX1_back 16 = .ok (.goto 4, 3) := dk_167 0 4 (dk_at dksX1_back_0 16 rfl rfl)
theorem dX1_back_19 : decode cX1_back 19 = .ok (.iconst 1, 1) := dk_4 (dk_at dksX1_back_0 19 rfl rfl)
theorem dX1_back_20 : decode cX1_back 20 = .ok (.invokevirtual 344, 3) := dk_182 1 88 (dk_at dksX1_back_0 20 rfl rfl)
theorem dX1_back_23 : decode cX1_back 23 = .ok (.ifCond .ne 5, 3) := dk_154 0 5 (dk_at dksX1_back_1 0 rfl rfl)
theorem dX1_back_26 : decode cX1_back 26 = .ok (.iconst 0, 1) := dk_3 (dk_at dksX1_back_1 3 rfl rfl)
theorem dX1_back_27 : decode cX1_back 27 = .ok (.ireturn, 1) := dk_172 (dk_at dksX1_back_1 4 rfl rfl)
theorem dX1_back_28 : decode cX1_back 28 = .ok (.aload_n 0, 1) := dk_42 (dk_at dksX1_back_1 5 rfl rfl)
theorem dX1_back_29 : decode cX1_back 29 = .ok (.getfield 86, 3) := dk_180 0 86 (dk_at dksX1_back_1 6 rfl rfl)
theorem dX1_back_32 : decode cX1_back 32 = .ok (.aload_n 0, 1) := dk_42 (dk_at dksX1_back_1 9 rfl rfl)
theorem dX1_back_33 : decode cX1_back 33 = .ok (.getfield 90, 3) := dk_180 0 90 (dk_at dksX1_back_1 10 rfl rfl)
theorem dX1_back_36 : decode cX1_back 36 = .ok (.iload_n 1, 1) := dk_27 (dk_at dksX1_back_1 13 rfl rfl)
theorem dX1_back_37 : decode cX1_back 37 = .ok (.aaload, 1) := dk_50 (dk_at dksX1_back_1 14 rfl rfl)
theorem dX1_back_38 : decode cX1_back 38 = .ok (.invokevirtual 348, 3) := dk_182 1 92 (dk_at dksX1_back_1 15 rfl rfl)
theorem dX1_back_41 : decode cX1_back 41 = .ok (.iconst 1, 1) := dk_4 (dk_at dksX1_back_1 18 rfl rfl)
theorem dX1_back_42 : decode cX1_back 42 = .ok (.ireturn, 1) := dk_172 (dk_at dksX1_back_1 19 rfl rfl)
abbrev cX1_size : ByteArray := prog_1_method_75_code
def yX1_size : MethodName := ⟨RX1, "size", "(I)I"⟩
def dkwX1_size_7 : List UInt8 := [172, 42, 180, 0, 86, 180, 0, 169, 172, 42, 180, 0, 185, 172, 2, 172]
abbrev dktX1_size_7 : List UInt8 := dkwX1_size_7 ++ []
def dkwX1_size_6 : List UInt8 := [153, 0, 7, 4, 167, 0, 4, 3, 172, 42, 180, 0, 137, 180, 0, 188, 172, 42, 180, 0, 86, 180, 0, 166]
abbrev dktX1_size_6 : List UInt8 := dkwX1_size_6 ++ dktX1_size_7
def dkwX1_size_5 : List UInt8 := [42, 180, 0, 137, 180, 1, 105, 153, 0, 7, 4, 167, 0, 4, 3, 172, 42, 180, 0, 137, 180, 1, 108]
abbrev dktX1_size_5 : List UInt8 := dkwX1_size_5 ++ dktX1_size_6
def dkwX1_size_4 : List UInt8 := [42, 180, 0, 137, 180, 1, 2, 172, 42, 180, 0, 137, 180, 1, 102, 153, 0, 7, 4, 167, 0, 4, 3, 172]
abbrev dktX1_size_4 : List UInt8 := dkwX1_size_4 ++ dktX1_size_5
def dkwX1_size_3 : List UInt8 := [42, 180, 0, 137, 180, 0, 147, 172, 42, 180, 0, 137, 180, 1, 99, 172, 42, 180, 0, 137, 180, 0, 205, 172]
abbrev dktX1_size_3 : List UInt8 := dkwX1_size_3 ++ dktX1_size_4
def dkwX1_size_2 : List UInt8 := [170, 0, 0, 0, 166, 0, 0, 0, 0, 0, 0, 0, 10, 0, 0, 0, 57, 0, 0, 0, 65, 0, 0, 0, 73, 0, 0, 0, 81, 0, 0, 0, 89, 0, 0, 0, 105, 0, 0, 0, 121, 0, 0, 0, 137, 0, 0, 0, 145, 0, 0, 0, 153, 0, 0, 0, 161]
abbrev dktX1_size_2 : List UInt8 := dkwX1_size_2 ++ dktX1_size_3
def dkwX1_size_1 : List UInt8 := [184, 0, 123, 153, 0, 7, 3, 167, 0, 4, 2, 172, 27]
abbrev dktX1_size_1 : List UInt8 := dkwX1_size_1 ++ dktX1_size_2
def dkwX1_size_0 : List UInt8 := [27, 16, 11, 160, 0, 8, 42, 180, 0, 116, 172, 42, 180, 0, 137, 199, 0, 19, 27, 3, 16, 10]
abbrev dktX1_size_0 : List UInt8 := dkwX1_size_0 ++ dktX1_size_1
theorem dksX1_size_0 : cX1_size.data.toList.drop 0 = dktX1_size_0 := by decide +kernel
theorem dksX1_size_1 : cX1_size.data.toList.drop 22 = dktX1_size_1 := dk_seg dksX1_size_0 22 rfl rfl
theorem dksX1_size_2 : cX1_size.data.toList.drop 35 = dktX1_size_2 := dk_seg dksX1_size_1 13 rfl rfl
theorem dksX1_size_3 : cX1_size.data.toList.drop 92 = dktX1_size_3 := dk_seg dksX1_size_2 57 rfl rfl
theorem dksX1_size_4 : cX1_size.data.toList.drop 116 = dktX1_size_4 := dk_seg dksX1_size_3 24 rfl rfl
theorem dksX1_size_5 : cX1_size.data.toList.drop 140 = dktX1_size_5 := dk_seg dksX1_size_4 24 rfl rfl
theorem dksX1_size_6 : cX1_size.data.toList.drop 163 = dktX1_size_6 := dk_seg dksX1_size_5 23 rfl rfl
theorem dksX1_size_7 : cX1_size.data.toList.drop 187 = dktX1_size_7 := dk_seg dksX1_size_6 24 rfl rfl
theorem dX1_size_0 : decode cX1_size 0 = .ok (.iload_n 1, 1) := dk_27 (dk_at dksX1_size_0 0 rfl rfl)
theorem dX1_size_1 : decode cX1_size 1 = .ok (.bipush 11, 2) := dk_16 11 (dk_at dksX1_size_0 1 rfl rfl)
theorem dX1_size_3 : decode cX1_size 3 = .ok (.if_icmp .ne 8, 3) := dk_160 0 8 (dk_at dksX1_size_0 3 rfl rfl)
theorem dX1_size_6 : decode cX1_size 6 = .ok (.aload_n 0, 1) := dk_42 (dk_at dksX1_size_0 6 rfl rfl)
theorem dX1_size_7 : decode cX1_size 7 = .ok (.getfield 116, 3) := dk_180 0 116 (dk_at dksX1_size_0 7 rfl rfl)
theorem dX1_size_10 : decode cX1_size 10 = .ok (.ireturn, 1) := dk_172 (dk_at dksX1_size_0 10 rfl rfl)
theorem dX1_size_11 : decode cX1_size 11 = .ok (.aload_n 0, 1) := dk_42 (dk_at dksX1_size_0 11 rfl rfl)
theorem dX1_size_12 : decode cX1_size 12 = .ok (.getfield 137, 3) := dk_180 0 137 (dk_at dksX1_size_0 12 rfl rfl)
theorem dX1_size_15 : decode cX1_size 15 = .ok (.ifnonnull 19, 3) := dk_199 0 19 (dk_at dksX1_size_0 15 rfl rfl)
theorem dX1_size_18 : decode cX1_size 18 = .ok (.iload_n 1, 1) := dk_27 (dk_at dksX1_size_0 18 rfl rfl)
theorem dX1_size_19 : decode cX1_size 19 = .ok (.iconst 0, 1) := dk_3 (dk_at dksX1_size_0 19 rfl rfl)
theorem dX1_size_20 : decode cX1_size 20 = .ok (.bipush 10, 2) := dk_16 10 (dk_at dksX1_size_0 20 rfl rfl)
theorem dX1_size_22 : decode cX1_size 22 = .ok (.invokestatic 123, 3) := dk_184 0 123 (dk_at dksX1_size_1 0 rfl rfl)
theorem dX1_size_25 : decode cX1_size 25 = .ok (.ifCond .eq 7, 3) := dk_153 0 7 (dk_at dksX1_size_1 3 rfl rfl)
theorem dX1_size_28 : decode cX1_size 28 = .ok (.iconst 0, 1) := dk_3 (dk_at dksX1_size_1 6 rfl rfl)
theorem dX1_size_29 : decode cX1_size 29 = .ok (.goto 4, 3) := dk_167 0 4 (dk_at dksX1_size_1 7 rfl rfl)
theorem dX1_size_32 : decode cX1_size 32 = .ok (.iconst (-1), 1) := dk_2 (dk_at dksX1_size_1 10 rfl rfl)
theorem dX1_size_33 : decode cX1_size 33 = .ok (.ireturn, 1) := dk_172 (dk_at dksX1_size_1 11 rfl rfl)
theorem dX1_size_34 : decode cX1_size 34 = .ok (.iload_n 1, 1) := dk_27 (dk_at dksX1_size_1 12 rfl rfl)
theorem dX1_size_35 : decode cX1_size 35 = .ok (.tableswitch 166 0 10 #[57, 65, 73, 81, 89, 105, 121, 137, 145, 153, 161], 57) := by decide +kernel
theorem dX1_size_92 : decode cX1_size 92 = .ok (.aload_n 0, 1) := dk_42 (dk_at dksX1_size_3 0 rfl rfl)
theorem dX1_size_93 : decode cX1_size 93 = .ok (.getfield 137, 3) := dk_180 0 137 (dk_at dksX1_size_3 1 rfl rfl)
theorem dX1_size_96 : decode cX1_size 96 = .ok (.getfield 147, 3) := dk_180 0 147 (dk_at dksX1_size_3 4 rfl rfl)
theorem dX1_size_99 : decode cX1_size 99 = .ok (.ireturn, 1) := dk_172 (dk_at dksX1_size_3 7 rfl rfl)
theorem dX1_size_100 : decode cX1_size 100 = .ok (.aload_n 0, 1) := dk_42 (dk_at dksX1_size_3 8 rfl rfl)
theorem dX1_size_101 : decode cX1_size 101 = .ok (.getfield 137, 3) := dk_180 0 137 (dk_at dksX1_size_3 9 rfl rfl)
theorem dX1_size_104 : decode cX1_size 104 = .ok (.getfield 355, 3) := dk_180 1 99 (dk_at dksX1_size_3 12 rfl rfl)
theorem dX1_size_107 : decode cX1_size 107 = .ok (.ireturn, 1) := dk_172 (dk_at dksX1_size_3 15 rfl rfl)
theorem dX1_size_108 : decode cX1_size 108 = .ok (.aload_n 0, 1) := dk_42 (dk_at dksX1_size_3 16 rfl rfl)
theorem dX1_size_109 : decode cX1_size 109 = .ok (.getfield 137, 3) := dk_180 0 137 (dk_at dksX1_size_3 17 rfl rfl)
theorem dX1_size_112 : decode cX1_size 112 = .ok (.getfield 205, 3) := dk_180 0 205 (dk_at dksX1_size_3 20 rfl rfl)
theorem dX1_size_115 : decode cX1_size 115 = .ok (.ireturn, 1) := dk_172 (dk_at dksX1_size_3 23 rfl rfl)
theorem dX1_size_116 : decode cX1_size 116 = .ok (.aload_n 0, 1) := dk_42 (dk_at dksX1_size_4 0 rfl rfl)
theorem dX1_size_117 : decode cX1_size 117 = .ok (.getfield 137, 3) := dk_180 0 137 (dk_at dksX1_size_4 1 rfl rfl)
theorem dX1_size_120 : decode cX1_size 120 = .ok (.getfield 258, 3) := dk_180 1 2 (dk_at dksX1_size_4 4 rfl rfl)
theorem dX1_size_123 : decode cX1_size 123 = .ok (.ireturn, 1) := dk_172 (dk_at dksX1_size_4 7 rfl rfl)
theorem dX1_size_124 : decode cX1_size 124 = .ok (.aload_n 0, 1) := dk_42 (dk_at dksX1_size_4 8 rfl rfl)
theorem dX1_size_125 : decode cX1_size 125 = .ok (.getfield 137, 3) := dk_180 0 137 (dk_at dksX1_size_4 9 rfl rfl)
theorem dX1_size_128 : decode cX1_size 128 = .ok (.getfield 358, 3) := dk_180 1 102 (dk_at dksX1_size_4 12 rfl rfl)
theorem dX1_size_131 : decode cX1_size 131 = .ok (.ifCond .eq 7, 3) := dk_153 0 7 (dk_at dksX1_size_4 15 rfl rfl)
theorem dX1_size_134 : decode cX1_size 134 = .ok (.iconst 1, 1) := dk_4 (dk_at dksX1_size_4 18 rfl rfl)
theorem dX1_size_135 : decode cX1_size 135 = .ok (.goto 4, 3) := dk_167 0 4 (dk_at dksX1_size_4 19 rfl rfl)
theorem dX1_size_138 : decode cX1_size 138 = .ok (.iconst 0, 1) := dk_3 (dk_at dksX1_size_4 22 rfl rfl)
theorem dX1_size_139 : decode cX1_size 139 = .ok (.ireturn, 1) := dk_172 (dk_at dksX1_size_4 23 rfl rfl)
theorem dX1_size_140 : decode cX1_size 140 = .ok (.aload_n 0, 1) := dk_42 (dk_at dksX1_size_5 0 rfl rfl)
theorem dX1_size_141 : decode cX1_size 141 = .ok (.getfield 137, 3) := dk_180 0 137 (dk_at dksX1_size_5 1 rfl rfl)
theorem dX1_size_144 : decode cX1_size 144 = .ok (.getfield 361, 3) := dk_180 1 105 (dk_at dksX1_size_5 4 rfl rfl)
theorem dX1_size_147 : decode cX1_size 147 = .ok (.ifCond .eq 7, 3) := dk_153 0 7 (dk_at dksX1_size_5 7 rfl rfl)
theorem dX1_size_150 : decode cX1_size 150 = .ok (.iconst 1, 1) := dk_4 (dk_at dksX1_size_5 10 rfl rfl)
theorem dX1_size_151 : decode cX1_size 151 = .ok (.goto 4, 3) := dk_167 0 4 (dk_at dksX1_size_5 11 rfl rfl)
theorem dX1_size_154 : decode cX1_size 154 = .ok (.iconst 0, 1) := dk_3 (dk_at dksX1_size_5 14 rfl rfl)
theorem dX1_size_155 : decode cX1_size 155 = .ok (.ireturn, 1) := dk_172 (dk_at dksX1_size_5 15 rfl rfl)
theorem dX1_size_156 : decode cX1_size 156 = .ok (.aload_n 0, 1) := dk_42 (dk_at dksX1_size_5 16 rfl rfl)
theorem dX1_size_157 : decode cX1_size 157 = .ok (.getfield 137, 3) := dk_180 0 137 (dk_at dksX1_size_5 17 rfl rfl)
theorem dX1_size_160 : decode cX1_size 160 = .ok (.getfield 364, 3) := dk_180 1 108 (dk_at dksX1_size_5 20 rfl rfl)
theorem dX1_size_163 : decode cX1_size 163 = .ok (.ifCond .eq 7, 3) := dk_153 0 7 (dk_at dksX1_size_6 0 rfl rfl)
theorem dX1_size_166 : decode cX1_size 166 = .ok (.iconst 1, 1) := dk_4 (dk_at dksX1_size_6 3 rfl rfl)
theorem dX1_size_167 : decode cX1_size 167 = .ok (.goto 4, 3) := dk_167 0 4 (dk_at dksX1_size_6 4 rfl rfl)
theorem dX1_size_170 : decode cX1_size 170 = .ok (.iconst 0, 1) := dk_3 (dk_at dksX1_size_6 7 rfl rfl)
theorem dX1_size_171 : decode cX1_size 171 = .ok (.ireturn, 1) := dk_172 (dk_at dksX1_size_6 8 rfl rfl)
theorem dX1_size_172 : decode cX1_size 172 = .ok (.aload_n 0, 1) := dk_42 (dk_at dksX1_size_6 9 rfl rfl)
theorem dX1_size_173 : decode cX1_size 173 = .ok (.getfield 137, 3) := dk_180 0 137 (dk_at dksX1_size_6 10 rfl rfl)
theorem dX1_size_176 : decode cX1_size 176 = .ok (.getfield 188, 3) := dk_180 0 188 (dk_at dksX1_size_6 13 rfl rfl)
theorem dX1_size_179 : decode cX1_size 179 = .ok (.ireturn, 1) := dk_172 (dk_at dksX1_size_6 16 rfl rfl)
theorem dX1_size_180 : decode cX1_size 180 = .ok (.aload_n 0, 1) := dk_42 (dk_at dksX1_size_6 17 rfl rfl)
theorem dX1_size_181 : decode cX1_size 181 = .ok (.getfield 86, 3) := dk_180 0 86 (dk_at dksX1_size_6 18 rfl rfl)
theorem dX1_size_184 : decode cX1_size 184 = .ok (.getfield 166, 3) := dk_180 0 166 (dk_at dksX1_size_6 21 rfl rfl)
theorem dX1_size_187 : decode cX1_size 187 = .ok (.ireturn, 1) := dk_172 (dk_at dksX1_size_7 0 rfl rfl)
theorem dX1_size_188 : decode cX1_size 188 = .ok (.aload_n 0, 1) := dk_42 (dk_at dksX1_size_7 1 rfl rfl)
theorem dX1_size_189 : decode cX1_size 189 = .ok (.getfield 86, 3) := dk_180 0 86 (dk_at dksX1_size_7 2 rfl rfl)
theorem dX1_size_192 : decode cX1_size 192 = .ok (.getfield 169, 3) := dk_180 0 169 (dk_at dksX1_size_7 5 rfl rfl)
theorem dX1_size_195 : decode cX1_size 195 = .ok (.ireturn, 1) := dk_172 (dk_at dksX1_size_7 8 rfl rfl)
theorem dX1_size_196 : decode cX1_size 196 = .ok (.aload_n 0, 1) := dk_42 (dk_at dksX1_size_7 9 rfl rfl)
theorem dX1_size_197 : decode cX1_size 197 = .ok (.getfield 185, 3) := dk_180 0 185 (dk_at dksX1_size_7 10 rfl rfl)
theorem dX1_size_200 : decode cX1_size 200 = .ok (.ireturn, 1) := dk_172 (dk_at dksX1_size_7 13 rfl rfl)
theorem dX1_size_201 : decode cX1_size 201 = .ok (.iconst (-1), 1) := dk_2 (dk_at dksX1_size_7 14 rfl rfl)
theorem dX1_size_202 : decode cX1_size 202 = .ok (.ireturn, 1) := dk_172 (dk_at dksX1_size_7 15 rfl rfl)
abbrev cX1_words : ByteArray := prog_1_method_76_code
def yX1_words : MethodName := ⟨RX1, "words", "(I)I"⟩
def dkwX1_words_1 : List UInt8 := [172]
abbrev dktX1_words_1 : List UInt8 := dkwX1_words_1 ++ []
def dkwX1_words_0 : List UInt8 := [42, 27, 182, 0, 252, 153, 0, 18, 42, 180, 0, 137, 180, 0, 246, 27, 50, 182, 1, 111, 167, 0, 4, 2]
abbrev dktX1_words_0 : List UInt8 := dkwX1_words_0 ++ dktX1_words_1
theorem dksX1_words_0 : cX1_words.data.toList.drop 0 = dktX1_words_0 := by decide +kernel
theorem dksX1_words_1 : cX1_words.data.toList.drop 24 = dktX1_words_1 := dk_seg dksX1_words_0 24 rfl rfl
theorem dX1_words_0 : decode cX1_words 0 = .ok (.aload_n 0, 1) := dk_42 (dk_at dksX1_words_0 0 rfl rfl)
theorem dX1_words_1 : decode cX1_words 1 = .ok (.iload_n 1, 1) := dk_27 (dk_at dksX1_words_0 1 rfl rfl)
theorem dX1_words_2 : decode cX1_words 2 = .ok (.invokevirtual 252, 3) := dk_182 0 252 (dk_at dksX1_words_0 2 rfl rfl)
theorem dX1_words_5 : decode cX1_words 5 = .ok (.ifCond .eq 18, 3) := dk_153 0 18 (dk_at dksX1_words_0 5 rfl rfl)
theorem dX1_words_8 : decode cX1_words 8 = .ok (.aload_n 0, 1) := dk_42 (dk_at dksX1_words_0 8 rfl rfl)
theorem dX1_words_9 : decode cX1_words 9 = .ok (.getfield 137, 3) := dk_180 0 137 (dk_at dksX1_words_0 9 rfl rfl)
theorem dX1_words_12 : decode cX1_words 12 = .ok (.getfield 246, 3) := dk_180 0 246 (dk_at dksX1_words_0 12 rfl rfl)
theorem dX1_words_15 : decode cX1_words 15 = .ok (.iload_n 1, 1) := dk_27 (dk_at dksX1_words_0 15 rfl rfl)
theorem dX1_words_16 : decode cX1_words 16 = .ok (.aaload, 1) := dk_50 (dk_at dksX1_words_0 16 rfl rfl)
theorem dX1_words_17 : decode cX1_words 17 = .ok (.invokevirtual 367, 3) := dk_182 1 111 (dk_at dksX1_words_0 17 rfl rfl)
theorem dX1_words_20 : decode cX1_words 20 = .ok (.goto 4, 3) := dk_167 0 4 (dk_at dksX1_words_0 20 rfl rfl)
theorem dX1_words_23 : decode cX1_words 23 = .ok (.iconst (-1), 1) := dk_2 (dk_at dksX1_words_0 23 rfl rfl)
theorem dX1_words_24 : decode cX1_words 24 = .ok (.ireturn, 1) := dk_172 (dk_at dksX1_words_1 0 rfl rfl)
abbrev cX1_trouble : ByteArray := prog_1_method_77_code
def yX1_trouble : MethodName := ⟨RX1, "trouble", "()I"⟩
theorem dX1_trouble_0 : decode cX1_trouble 0 = .ok (.aload_n 0, 1) := by decide +kernel
theorem dX1_trouble_1 : decode cX1_trouble 1 = .ok (.getfield 110, 3) := by decide +kernel
theorem dX1_trouble_4 : decode cX1_trouble 4 = .ok (.ireturn, 1) := by decide +kernel
abbrev cX1_led : ByteArray := prog_1_method_74_code
def yX1_led : MethodName := ⟨RX1, "led", "(II)I"⟩
def dkwX1_led_2 : List UInt8 := [132, 4, 1, 167, 255, 210, 187, 1, 96, 89, 183, 1, 98, 191]
abbrev dktX1_led_2 : List UInt8 := dkwX1_led_2 ++ []
def dkwX1_led_1 : List UInt8 := [21, 4, 182, 0, 255, 16, 254, 159, 0, 6, 167, 0, 14, 29, 28, 160, 0, 6, 21, 4, 172, 132, 3, 1]
abbrev dktX1_led_1 : List UInt8 := dkwX1_led_1 ++ dktX1_led_2
def dkwX1_led_0 : List UInt8 := [3, 62, 3, 54, 4, 42, 27, 182, 0, 252, 153, 0, 44, 21, 4, 42, 180, 0, 155, 162, 0, 35, 42, 27]
abbrev dktX1_led_0 : List UInt8 := dkwX1_led_0 ++ dktX1_led_1
theorem dksX1_led_0 : cX1_led.data.toList.drop 0 = dktX1_led_0 := by decide +kernel
theorem dksX1_led_1 : cX1_led.data.toList.drop 24 = dktX1_led_1 := dk_seg dksX1_led_0 24 rfl rfl
theorem dksX1_led_2 : cX1_led.data.toList.drop 48 = dktX1_led_2 := dk_seg dksX1_led_1 24 rfl rfl
theorem dX1_led_0 : decode cX1_led 0 = .ok (.iconst 0, 1) := dk_3 (dk_at dksX1_led_0 0 rfl rfl)
theorem dX1_led_1 : decode cX1_led 1 = .ok (.istore_n 3, 1) := dk_62 (dk_at dksX1_led_0 1 rfl rfl)
theorem dX1_led_2 : decode cX1_led 2 = .ok (.iconst 0, 1) := dk_3 (dk_at dksX1_led_0 2 rfl rfl)
theorem dX1_led_3 : decode cX1_led 3 = .ok (.istore 4, 2) := dk_54 4 (dk_at dksX1_led_0 3 rfl rfl)
theorem dX1_led_5 : decode cX1_led 5 = .ok (.aload_n 0, 1) := dk_42 (dk_at dksX1_led_0 5 rfl rfl)
theorem dX1_led_6 : decode cX1_led 6 = .ok (.iload_n 1, 1) := dk_27 (dk_at dksX1_led_0 6 rfl rfl)
theorem dX1_led_7 : decode cX1_led 7 = .ok (.invokevirtual 252, 3) := dk_182 0 252 (dk_at dksX1_led_0 7 rfl rfl)
theorem dX1_led_10 : decode cX1_led 10 = .ok (.ifCond .eq 44, 3) := dk_153 0 44 (dk_at dksX1_led_0 10 rfl rfl)
theorem dX1_led_13 : decode cX1_led 13 = .ok (.iload 4, 2) := dk_21 4 (dk_at dksX1_led_0 13 rfl rfl)
theorem dX1_led_15 : decode cX1_led 15 = .ok (.aload_n 0, 1) := dk_42 (dk_at dksX1_led_0 15 rfl rfl)
theorem dX1_led_16 : decode cX1_led 16 = .ok (.getfield 155, 3) := dk_180 0 155 (dk_at dksX1_led_0 16 rfl rfl)
theorem dX1_led_19 : decode cX1_led 19 = .ok (.if_icmp .ge 35, 3) := dk_162 0 35 (dk_at dksX1_led_0 19 rfl rfl)
theorem dX1_led_22 : decode cX1_led 22 = .ok (.aload_n 0, 1) := dk_42 (dk_at dksX1_led_0 22 rfl rfl)
theorem dX1_led_23 : decode cX1_led 23 = .ok (.iload_n 1, 1) := dk_27 (dk_at dksX1_led_0 23 rfl rfl)
theorem dX1_led_24 : decode cX1_led 24 = .ok (.iload 4, 2) := dk_21 4 (dk_at dksX1_led_1 0 rfl rfl)
theorem dX1_led_26 : decode cX1_led 26 = .ok (.invokevirtual 255, 3) := dk_182 0 255 (dk_at dksX1_led_1 2 rfl rfl)
theorem dX1_led_29 : decode cX1_led 29 = .ok (.bipush (-2), 2) := dk_16 254 (dk_at dksX1_led_1 5 rfl rfl)
theorem dX1_led_31 : decode cX1_led 31 = .ok (.if_icmp .eq 6, 3) := dk_159 0 6 (dk_at dksX1_led_1 7 rfl rfl)
theorem dX1_led_34 : decode cX1_led 34 = .ok (.goto 14, 3) := dk_167 0 14 (dk_at dksX1_led_1 10 rfl rfl)
theorem dX1_led_37 : decode cX1_led 37 = .ok (.iload_n 3, 1) := dk_29 (dk_at dksX1_led_1 13 rfl rfl)
theorem dX1_led_38 : decode cX1_led 38 = .ok (.iload_n 2, 1) := dk_28 (dk_at dksX1_led_1 14 rfl rfl)
theorem dX1_led_39 : decode cX1_led 39 = .ok (.if_icmp .ne 6, 3) := dk_160 0 6 (dk_at dksX1_led_1 15 rfl rfl)
theorem dX1_led_42 : decode cX1_led 42 = .ok (.iload 4, 2) := dk_21 4 (dk_at dksX1_led_1 18 rfl rfl)
theorem dX1_led_44 : decode cX1_led 44 = .ok (.ireturn, 1) := dk_172 (dk_at dksX1_led_1 20 rfl rfl)
theorem dX1_led_45 : decode cX1_led 45 = .ok (.iinc 3 1, 3) := dk_132 3 1 (dk_at dksX1_led_1 21 rfl rfl)
theorem dX1_led_48 : decode cX1_led 48 = .ok (.iinc 4 1, 3) := dk_132 4 1 (dk_at dksX1_led_2 0 rfl rfl)
theorem dX1_led_51 : decode cX1_led 51 = .ok (.goto (-46), 3) := dk_167 255 210 (dk_at dksX1_led_2 3 rfl rfl)
theorem dX1_led_54 : decode cX1_led 54 = .ok (.new 352, 3) := dk_187 1 96 (dk_at dksX1_led_2 6 rfl rfl)
theorem dX1_led_57 : decode cX1_led 57 = .ok (.dup, 1) := dk_89 (dk_at dksX1_led_2 9 rfl rfl)
theorem dX1_led_58 : decode cX1_led 58 = .ok (.invokespecial 354, 3) := dk_183 1 98 (dk_at dksX1_led_2 10 rfl rfl)
theorem dX1_led_61 : decode cX1_led 61 = .ok (.athrow, 1) := dk_191 (dk_at dksX1_led_2 13 rfl rfl)
theorem q122 : (Jvm.Cond.initialized "FifthCard") ∈ lw_all := lw_g (lw_at lw_m1 1 rfl) rfl
theorem q157 : (Jvm.Cond.instantiable "FifthCard" (16 : Nat)) ∈ lw_all := lw_g (lw_at lw_m1 36 rfl) rfl
theorem q159 : (Jvm.Cond.instanceMethod ({ cls := "FifthCard", name := "<init>", desc := "()V" } : Jvm.MethodName)) ∈ lw_all := lw_g (lw_at lw_m1 38 rfl) rfl
theorem q160 : (Jvm.Cond.code ({ cls := "FifthCard", name := "<init>", desc := "()V" } : Jvm.MethodName) prog_1_method_10_code (2 : Nat) (Option.none : Option Jvm.ClassFile.FieldType)) ∈ lw_all := lw_g (lw_at lw_m1 39 rfl) rfl
theorem q161 : (Jvm.Cond.methodLink "FifthCard" (50 : Nat) ({ cls := "java/lang/Object", name := "<init>", desc := "()V" } : Jvm.MethodName)) ∈ lw_all := lw_g (lw_at lw_m1 40 rfl) rfl
theorem q164 : (Jvm.Cond.classLink "FifthCard" (57 : Nat) "FifthCard$Reader") ∈ lw_all := lw_g (lw_at lw_m1 43 rfl) rfl
theorem q166 : (Jvm.Cond.methodLink "FifthCard" (59 : Nat) ({ cls := "FifthCard$Reader", name := "<init>", desc := "([B)V" } : Jvm.MethodName)) ∈ lw_all := lw_g (lw_at lw_m1 45 rfl) rfl
theorem q223 : (Jvm.Cond.fieldLink "FifthCard" (143 : Nat) "FifthCard$Refused" "fault" "I") ∈ lw_all := lw_g (lw_at lw_m1 102 rfl) rfl
theorem q225 : (Jvm.Cond.fieldLink "FifthCard" (144 : Nat) "FifthCard$Refused" "place" "I") ∈ lw_all := lw_g (lw_at lw_m1 104 rfl) rfl
theorem q280 : (Jvm.Cond.classLink "FifthCard" (70 : Nat) "FifthCard$Pairing") ∈ lw_all := lw_g (lw_at lw_m1 159 rfl) rfl
theorem q282 : (Jvm.Cond.methodLinkNest "FifthCard" (72 : Nat) ({ cls := "FifthCard$Pairing", name := "<init>", desc := "()V" } : Jvm.MethodName) "FifthCard") ∈ lw_tbl := lw_at lw_m1 161 rfl
theorem q301 : (Jvm.Cond.fieldLink "FifthCard" (308 : Nat) "FifthCard$Pairing" "pairs" "I") ∈ lw_all := lw_g (lw_at lw_m1 180 rfl) rfl
theorem q332 : (Jvm.Cond.classLink "FifthCard" (77 : Nat) "FifthCard$Rule") ∈ lw_all := lw_g (lw_at lw_m1 211 rfl) rfl
theorem q334 : (Jvm.Cond.classLink "FifthCard" (83 : Nat) "FifthCard$Log") ∈ lw_all := lw_g (lw_at lw_m1 213 rfl) rfl
theorem q336 : (Jvm.Cond.methodLinkNest "FifthCard" (85 : Nat) ({ cls := "FifthCard$Log", name := "<init>", desc := "()V" } : Jvm.MethodName) "FifthCard") ∈ lw_tbl := lw_at lw_m1 215 rfl
theorem q341 : (Jvm.Cond.fieldLink "FifthCard" (317 : Nat) "FifthCard$Log" "hands" "[I") ∈ lw_all := lw_g (lw_at lw_m1 220 rfl) rfl
theorem q343 : (Jvm.Cond.fieldLink "FifthCard" (319 : Nat) "FifthCard$Log" "rows" "[I") ∈ lw_all := lw_g (lw_at lw_m1 222 rfl) rfl
theorem q345 : (Jvm.Cond.fieldLink "FifthCard" (166 : Nat) "FifthCard$Log" "many" "I") ∈ lw_all := lw_g (lw_at lw_m1 224 rfl) rfl
theorem q347 : (Jvm.Cond.fieldLink "FifthCard" (169 : Nat) "FifthCard$Log" "seed" "I") ∈ lw_all := lw_g (lw_at lw_m1 226 rfl) rfl
theorem q358 : (Jvm.Cond.stringRef "FifthCard" (104 : Nat) "") ∈ lw_tbl := lw_at lw_m1 237 rfl
theorem q359 : (Jvm.Cond.methodLink "FifthCard" (106 : Nat) ({ cls := "FifthCard", name := "spoken", desc := "(Ljava/lang/String;II)LFifthCard$Rule;" } : Jvm.MethodName)) ∈ lw_all := lw_g (lw_at lw_m1 238 rfl) rfl
theorem q360 : (Jvm.Cond.static ({ cls := "FifthCard", name := "spoken", desc := "(Ljava/lang/String;II)LFifthCard$Rule;" } : Jvm.MethodName)) ∈ lw_all := lw_g (lw_at lw_m1 239 rfl) rfl
theorem q361 : (Jvm.Cond.code ({ cls := "FifthCard", name := "spoken", desc := "(Ljava/lang/String;II)LFifthCard$Rule;" } : Jvm.MethodName) prog_1_method_9_code (5 : Nat) (Option.some (Jvm.ClassFile.FieldType.object "FifthCard$Rule"))) ∈ lw_all := lw_g (lw_at lw_m2 0 rfl) rfl
theorem q362 : (Jvm.Cond.classLink "FifthCard" (15 : Nat) "FifthCard$Low") ∈ lw_all := lw_g (lw_at lw_m2 1 rfl) rfl
theorem q364 : (Jvm.Cond.methodLinkNest "FifthCard" (17 : Nat) ({ cls := "FifthCard$Low", name := "<init>", desc := "()V" } : Jvm.MethodName) "FifthCard") ∈ lw_tbl := lw_at lw_m2 3 rfl
theorem q372 : (Jvm.Cond.classLink "FifthCard" (21 : Nat) "FifthCard$High") ∈ lw_all := lw_g (lw_at lw_m2 11 rfl) rfl
theorem q374 : (Jvm.Cond.methodLinkNest "FifthCard" (23 : Nat) ({ cls := "FifthCard$High", name := "<init>", desc := "()V" } : Jvm.MethodName) "FifthCard") ∈ lw_tbl := lw_at lw_m2 13 rfl
theorem q379 : (Jvm.Cond.classLink "FifthCard" (24 : Nat) "FifthCard$Mid") ∈ lw_all := lw_g (lw_at lw_m2 18 rfl) rfl
theorem q381 : (Jvm.Cond.methodLinkNest "FifthCard" (26 : Nat) ({ cls := "FifthCard$Mid", name := "<init>", desc := "()V" } : Jvm.MethodName) "FifthCard") ∈ lw_tbl := lw_at lw_m2 20 rfl
theorem q386 : (Jvm.Cond.classLink "FifthCard" (27 : Nat) "FifthCard$BySum") ∈ lw_all := lw_g (lw_at lw_m2 25 rfl) rfl
theorem q388 : (Jvm.Cond.methodLinkNest "FifthCard" (29 : Nat) ({ cls := "FifthCard$BySum", name := "<init>", desc := "()V" } : Jvm.MethodName) "FifthCard") ∈ lw_tbl := lw_at lw_m2 27 rfl
theorem q393 : (Jvm.Cond.classLink "FifthCard" (30 : Nat) "FifthCard$Place") ∈ lw_all := lw_g (lw_at lw_m2 32 rfl) rfl
theorem q395 : (Jvm.Cond.methodLinkNest "FifthCard" (32 : Nat) ({ cls := "FifthCard$Place", name := "<init>", desc := "()V" } : Jvm.MethodName) "FifthCard") ∈ lw_tbl := lw_at lw_m2 34 rfl
theorem q403 : (Jvm.Cond.classLink "FifthCard" (33 : Nat) "FifthCard$Rank") ∈ lw_all := lw_g (lw_at lw_m2 42 rfl) rfl
theorem q405 : (Jvm.Cond.methodLinkNest "FifthCard" (35 : Nat) ({ cls := "FifthCard$Rank", name := "<init>", desc := "()V" } : Jvm.MethodName) "FifthCard") ∈ lw_tbl := lw_at lw_m2 44 rfl
theorem q410 : (Jvm.Cond.classLink "FifthCard" (36 : Nat) "FifthCard$Gap") ∈ lw_all := lw_g (lw_at lw_m2 49 rfl) rfl
theorem q412 : (Jvm.Cond.methodLinkNest "FifthCard" (38 : Nat) ({ cls := "FifthCard$Gap", name := "<init>", desc := "()V" } : Jvm.MethodName) "FifthCard") ∈ lw_tbl := lw_at lw_m2 51 rfl
theorem q417 : (Jvm.Cond.classLink "FifthCard" (39 : Nat) "FifthCard$Ring") ∈ lw_all := lw_g (lw_at lw_m2 56 rfl) rfl
theorem q419 : (Jvm.Cond.methodLinkNest "FifthCard" (41 : Nat) ({ cls := "FifthCard$Ring", name := "<init>", desc := "()V" } : Jvm.MethodName) "FifthCard") ∈ lw_tbl := lw_at lw_m2 58 rfl
theorem q424 : (Jvm.Cond.classLink "FifthCard" (42 : Nat) "FifthCard$KeptSum") ∈ lw_all := lw_g (lw_at lw_m2 63 rfl) rfl
theorem q426 : (Jvm.Cond.methodLinkNest "FifthCard" (44 : Nat) ({ cls := "FifthCard$KeptSum", name := "<init>", desc := "()V" } : Jvm.MethodName) "FifthCard") ∈ lw_tbl := lw_at lw_m2 65 rfl
theorem q431 : (Jvm.Cond.classLink "FifthCard" (45 : Nat) "FifthCard$Spoken") ∈ lw_all := lw_g (lw_at lw_m2 70 rfl) rfl
theorem q433 : (Jvm.Cond.methodLink "FifthCard" (47 : Nat) ({ cls := "FifthCard$Spoken", name := "<init>", desc := "(Ljava/lang/String;ILFifthCard$Keep;LFifthCard$Tell;I)V" } : Jvm.MethodName)) ∈ lw_all := lw_g (lw_at lw_m2 72 rfl) rfl
theorem q450 : (Jvm.Cond.fieldLink "FifthCard" (238 : Nat) "FifthCard$Rule" "rows" "[I") ∈ lw_all := lw_g (lw_at lw_m2 89 rfl) rfl
theorem q451 : (Jvm.Cond.fieldLink "FifthCard" (162 : Nat) "FifthCard$Rule" "isLaid" "Z") ∈ lw_all := lw_g (lw_at lw_m2 90 rfl) rfl
theorem q473 : (Jvm.Cond.fieldLink "FifthCard" (53 : Nat) "FifthCard" "tape" "[B") ∈ lw_all := lw_g (lw_at lw_m2 112 rfl) rfl
theorem q474 : (Jvm.Cond.fieldLink "FifthCard" (116 : Nat) "FifthCard" "taped" "I") ∈ lw_all := lw_g (lw_at lw_m2 113 rfl) rfl
theorem q475 : (Jvm.Cond.fieldLink "FifthCard" (62 : Nat) "FifthCard" "reader" "LFifthCard$Reader;") ∈ lw_all := lw_g (lw_at lw_m2 114 rfl) rfl
theorem q476 : (Jvm.Cond.fieldLink "FifthCard" (137 : Nat) "FifthCard" "trick" "LFifthCard$Trick;") ∈ lw_all := lw_g (lw_at lw_m2 115 rfl) rfl
theorem q477 : (Jvm.Cond.fieldLink "FifthCard" (110 : Nat) "FifthCard" "trouble" "I") ∈ lw_all := lw_g (lw_at lw_m2 116 rfl) rfl
theorem q478 : (Jvm.Cond.fieldLink "FifthCard" (130 : Nat) "FifthCard" "fault" "I") ∈ lw_all := lw_g (lw_at lw_m2 117 rfl) rfl
theorem q479 : (Jvm.Cond.fieldLink "FifthCard" (66 : Nat) "FifthCard" "where" "I") ∈ lw_all := lw_g (lw_at lw_m2 118 rfl) rfl
theorem q480 : (Jvm.Cond.fieldLink "FifthCard" (185 : Nat) "FifthCard" "imageMany" "I") ∈ lw_all := lw_g (lw_at lw_m2 119 rfl) rfl
theorem q481 : (Jvm.Cond.fieldLink "FifthCard" (155 : Nat) "FifthCard" "handMany" "I") ∈ lw_all := lw_g (lw_at lw_m2 120 rfl) rfl
theorem q482 : (Jvm.Cond.fieldLink "FifthCard" (73 : Nat) "FifthCard" "pairing" "LFifthCard$Pairing;") ∈ lw_all := lw_g (lw_at lw_m2 121 rfl) rfl
theorem q483 : (Jvm.Cond.fieldLink "FifthCard" (79 : Nat) "FifthCard" "spokenRules" "[LFifthCard$Rule;") ∈ lw_all := lw_g (lw_at lw_m2 122 rfl) rfl
theorem q484 : (Jvm.Cond.fieldLink "FifthCard" (86 : Nat) "FifthCard" "log" "LFifthCard$Log;") ∈ lw_all := lw_g (lw_at lw_m2 123 rfl) rfl
theorem q485 : (Jvm.Cond.fieldLink "FifthCard" (90 : Nat) "FifthCard" "images" "[LFifthCard$Log;") ∈ lw_all := lw_g (lw_at lw_m2 124 rfl) rfl
theorem q486 : (Jvm.Cond.fieldLink "FifthCard" (94 : Nat) "FifthCard" "cards" "[I") ∈ lw_all := lw_g (lw_at lw_m2 125 rfl) rfl
theorem q487 : (Jvm.Cond.fieldLink "FifthCard" (98 : Nat) "FifthCard" "row" "[I") ∈ lw_all := lw_g (lw_at lw_m2 126 rfl) rfl
theorem q488 : (Jvm.Cond.fieldLink "FifthCard" (101 : Nat) "FifthCard" "swap" "[I") ∈ lw_all := lw_g (lw_at lw_m2 127 rfl) rfl
theorem q489 : (Jvm.Cond.laysFinal "FifthCard" "FifthCard" "tape" "[B") ∈ lw_all := lw_g (lw_at lw_m2 128 rfl) rfl
theorem q490 : (Jvm.Cond.soleField "FifthCard" "tape") ∈ lw_all := lw_g (lw_at lw_m2 129 rfl) rfl
theorem q491 : (Jvm.Cond.lays "FifthCard" "FifthCard" "taped" "I") ∈ lw_all := lw_g (lw_at lw_m2 130 rfl) rfl
theorem q492 : (Jvm.Cond.soleField "FifthCard" "taped") ∈ lw_all := lw_g (lw_at lw_m2 131 rfl) rfl
theorem q493 : (Jvm.Cond.laysFinal "FifthCard" "FifthCard" "reader" "LFifthCard$Reader;") ∈ lw_all := lw_g (lw_at lw_m2 132 rfl) rfl
theorem q494 : (Jvm.Cond.soleField "FifthCard" "reader") ∈ lw_all := lw_g (lw_at lw_m2 133 rfl) rfl
theorem q495 : (Jvm.Cond.lays "FifthCard" "FifthCard" "trick" "LFifthCard$Trick;") ∈ lw_all := lw_g (lw_at lw_m2 134 rfl) rfl
theorem q496 : (Jvm.Cond.soleField "FifthCard" "trick") ∈ lw_all := lw_g (lw_at lw_m2 135 rfl) rfl
theorem q497 : (Jvm.Cond.lays "FifthCard" "FifthCard" "trouble" "I") ∈ lw_all := lw_g (lw_at lw_m2 136 rfl) rfl
theorem q498 : (Jvm.Cond.soleField "FifthCard" "trouble") ∈ lw_all := lw_g (lw_at lw_m2 137 rfl) rfl
theorem q499 : (Jvm.Cond.lays "FifthCard" "FifthCard" "fault" "I") ∈ lw_all := lw_g (lw_at lw_m2 138 rfl) rfl
theorem q500 : (Jvm.Cond.soleField "FifthCard" "fault") ∈ lw_all := lw_g (lw_at lw_m2 139 rfl) rfl
theorem q501 : (Jvm.Cond.lays "FifthCard" "FifthCard" "where" "I") ∈ lw_all := lw_g (lw_at lw_m2 140 rfl) rfl
theorem q502 : (Jvm.Cond.soleField "FifthCard" "where") ∈ lw_all := lw_g (lw_at lw_m2 141 rfl) rfl
theorem q503 : (Jvm.Cond.lays "FifthCard" "FifthCard" "imageMany" "I") ∈ lw_all := lw_g (lw_at lw_m2 142 rfl) rfl
theorem q504 : (Jvm.Cond.soleField "FifthCard" "imageMany") ∈ lw_all := lw_g (lw_at lw_m2 143 rfl) rfl
theorem q505 : (Jvm.Cond.lays "FifthCard" "FifthCard" "handMany" "I") ∈ lw_all := lw_g (lw_at lw_m2 144 rfl) rfl
theorem q506 : (Jvm.Cond.soleField "FifthCard" "handMany") ∈ lw_all := lw_g (lw_at lw_m2 145 rfl) rfl
theorem q507 : (Jvm.Cond.laysFinal "FifthCard" "FifthCard" "pairing" "LFifthCard$Pairing;") ∈ lw_all := lw_g (lw_at lw_m2 146 rfl) rfl
theorem q508 : (Jvm.Cond.soleField "FifthCard" "pairing") ∈ lw_all := lw_g (lw_at lw_m2 147 rfl) rfl
theorem q509 : (Jvm.Cond.laysFinal "FifthCard" "FifthCard" "spokenRules" "[LFifthCard$Rule;") ∈ lw_all := lw_g (lw_at lw_m2 148 rfl) rfl
theorem q510 : (Jvm.Cond.soleField "FifthCard" "spokenRules") ∈ lw_all := lw_g (lw_at lw_m2 149 rfl) rfl
theorem q511 : (Jvm.Cond.laysFinal "FifthCard" "FifthCard" "log" "LFifthCard$Log;") ∈ lw_all := lw_g (lw_at lw_m2 150 rfl) rfl
theorem q512 : (Jvm.Cond.soleField "FifthCard" "log") ∈ lw_all := lw_g (lw_at lw_m2 151 rfl) rfl
theorem q513 : (Jvm.Cond.laysFinal "FifthCard" "FifthCard" "images" "[LFifthCard$Log;") ∈ lw_all := lw_g (lw_at lw_m2 152 rfl) rfl
theorem q514 : (Jvm.Cond.soleField "FifthCard" "images") ∈ lw_all := lw_g (lw_at lw_m2 153 rfl) rfl
theorem q515 : (Jvm.Cond.laysFinal "FifthCard" "FifthCard" "cards" "[I") ∈ lw_all := lw_g (lw_at lw_m2 154 rfl) rfl
theorem q516 : (Jvm.Cond.soleField "FifthCard" "cards") ∈ lw_all := lw_g (lw_at lw_m2 155 rfl) rfl
theorem q517 : (Jvm.Cond.laysFinal "FifthCard" "FifthCard" "row" "[I") ∈ lw_all := lw_g (lw_at lw_m2 156 rfl) rfl
theorem q518 : (Jvm.Cond.soleField "FifthCard" "row") ∈ lw_all := lw_g (lw_at lw_m2 157 rfl) rfl
theorem q519 : (Jvm.Cond.laysFinal "FifthCard" "FifthCard" "swap" "[I") ∈ lw_all := lw_g (lw_at lw_m2 158 rfl) rfl
theorem q520 : (Jvm.Cond.soleField "FifthCard" "swap") ∈ lw_all := lw_g (lw_at lw_m2 159 rfl) rfl
theorem q521 : (Jvm.Cond.superclass "FifthCard" "java/lang/Object") ∈ lw_all := lw_g (lw_at lw_m2 160 rfl) rfl
theorem q523 : (Jvm.Cond.instanceMethod ({ cls := "FifthCard", name := "feed", desc := "(IIIII)I" } : Jvm.MethodName)) ∈ lw_all := lw_g (lw_at lw_m2 162 rfl) rfl
theorem q524 : (Jvm.Cond.selects "FifthCard" ({ cls := "FifthCard", name := "feed", desc := "(IIIII)I" } : Jvm.MethodName) ({ cls := "FifthCard", name := "feed", desc := "(IIIII)I" } : Jvm.MethodName)) ∈ lw_all := lw_g (lw_at lw_m2 163 rfl) rfl
theorem q525 : (Jvm.Cond.code ({ cls := "FifthCard", name := "feed", desc := "(IIIII)I" } : Jvm.MethodName) prog_1_method_14_code (6 : Nat) (Option.some Jvm.ClassFile.FieldType.int)) ∈ lw_all := lw_g (lw_at lw_m2 164 rfl) rfl
theorem q526 : (Jvm.Cond.methodLink "FifthCard" (119 : Nat) ({ cls := "FifthCard", name := "bytes", desc := "(I)V" } : Jvm.MethodName)) ∈ lw_all := lw_g (lw_at lw_m2 165 rfl) rfl
theorem q527 : (Jvm.Cond.privateMethod ({ cls := "FifthCard", name := "bytes", desc := "(I)V" } : Jvm.MethodName)) ∈ lw_tbl := lw_at lw_m2 166 rfl
theorem q528 : (Jvm.Cond.instanceMethod ({ cls := "FifthCard", name := "bytes", desc := "(I)V" } : Jvm.MethodName)) ∈ lw_all := lw_g (lw_at lw_m2 167 rfl) rfl
theorem q529 : (Jvm.Cond.code ({ cls := "FifthCard", name := "bytes", desc := "(I)V" } : Jvm.MethodName) prog_1_method_15_code (3 : Nat) (Option.none : Option Jvm.ClassFile.FieldType)) ∈ lw_all := lw_g (lw_at lw_m2 168 rfl) rfl
theorem q531 : (Jvm.Cond.instanceMethod ({ cls := "FifthCard", name := "trick", desc := "(I)I" } : Jvm.MethodName)) ∈ lw_all := lw_g (lw_at lw_m2 170 rfl) rfl
theorem q532 : (Jvm.Cond.selects "FifthCard" ({ cls := "FifthCard", name := "trick", desc := "(I)I" } : Jvm.MethodName) ({ cls := "FifthCard", name := "trick", desc := "(I)I" } : Jvm.MethodName)) ∈ lw_all := lw_g (lw_at lw_m2 171 rfl) rfl
theorem q533 : (Jvm.Cond.codeWith ({ cls := "FifthCard", name := "trick", desc := "(I)I" } : Jvm.MethodName) prog_1_method_16_code (3 : Nat) (Option.some Jvm.ClassFile.FieldType.int) [((32 : Nat), (44 : Nat), (47 : Nat), (141 : Nat))]) ∈ lw_all := lw_g (lw_at lw_m2 172 rfl) rfl
theorem q534 : (Jvm.Cond.classLink "FifthCard" (141 : Nat) "FifthCard$Refused") ∈ lw_all := lw_g (lw_at lw_m2 173 rfl) rfl
theorem q535 : (Jvm.Cond.methodLink "FifthCard" (113 : Nat) ({ cls := "FifthCard", name := "anew", desc := "()V" } : Jvm.MethodName)) ∈ lw_all := lw_g (lw_at lw_m2 174 rfl) rfl
theorem q536 : (Jvm.Cond.privateMethod ({ cls := "FifthCard", name := "anew", desc := "()V" } : Jvm.MethodName)) ∈ lw_tbl := lw_at lw_m2 175 rfl
theorem q537 : (Jvm.Cond.instanceMethod ({ cls := "FifthCard", name := "anew", desc := "()V" } : Jvm.MethodName)) ∈ lw_all := lw_g (lw_at lw_m2 176 rfl) rfl
theorem q538 : (Jvm.Cond.code ({ cls := "FifthCard", name := "anew", desc := "()V" } : Jvm.MethodName) prog_1_method_11_code (1 : Nat) (Option.none : Option Jvm.ClassFile.FieldType)) ∈ lw_all := lw_g (lw_at lw_m2 177 rfl) rfl
theorem q539 : (Jvm.Cond.methodLink "FifthCard" (123 : Nat) ({ cls := "FifthCard", name := "in", desc := "(III)Z" } : Jvm.MethodName)) ∈ lw_all := lw_g (lw_at lw_m2 178 rfl) rfl
theorem q540 : (Jvm.Cond.static ({ cls := "FifthCard", name := "in", desc := "(III)Z" } : Jvm.MethodName)) ∈ lw_all := lw_g (lw_at lw_m2 179 rfl) rfl
theorem q541 : (Jvm.Cond.code ({ cls := "FifthCard", name := "in", desc := "(III)Z" } : Jvm.MethodName) prog_1_method_1_code (3 : Nat) (Option.some Jvm.ClassFile.FieldType.boolean)) ∈ lw_all := lw_g (lw_at lw_m2 180 rfl) rfl
theorem q542 : (Jvm.Cond.methodLink "FifthCard" (127 : Nat) ({ cls := "FifthCard", name := "no", desc := "(I)I" } : Jvm.MethodName)) ∈ lw_all := lw_g (lw_at lw_m2 181 rfl) rfl
theorem q543 : (Jvm.Cond.privateMethod ({ cls := "FifthCard", name := "no", desc := "(I)I" } : Jvm.MethodName)) ∈ lw_tbl := lw_at lw_m2 182 rfl
theorem q544 : (Jvm.Cond.instanceMethod ({ cls := "FifthCard", name := "no", desc := "(I)I" } : Jvm.MethodName)) ∈ lw_all := lw_g (lw_at lw_m2 183 rfl) rfl
theorem q545 : (Jvm.Cond.code ({ cls := "FifthCard", name := "no", desc := "(I)I" } : Jvm.MethodName) prog_1_method_12_code (2 : Nat) (Option.some Jvm.ClassFile.FieldType.int)) ∈ lw_all := lw_g (lw_at lw_m2 184 rfl) rfl
theorem q546 : (Jvm.Cond.methodLink "FifthCard" (133 : Nat) ({ cls := "FifthCard$Reader", name := "read", desc := "(I)LFifthCard$Trick;" } : Jvm.MethodName)) ∈ lw_all := lw_g (lw_at lw_m2 185 rfl) rfl
theorem q559 : (Jvm.Cond.fieldLink "FifthCard" (246 : Nat) "FifthCard$Trick" "rules" "[LFifthCard$Rule;") ∈ lw_all := lw_g (lw_at lw_m2 198 rfl) rfl
theorem q561 : (Jvm.Cond.fieldLink "FifthCard" (175 : Nat) "FifthCard$Trick" "evenings" "[I") ∈ lw_all := lw_g (lw_at lw_m2 200 rfl) rfl
theorem q564 : (Jvm.Cond.fieldLink "FifthCard" (178 : Nat) "FifthCard$Trick" "shown" "[I") ∈ lw_all := lw_g (lw_at lw_m2 203 rfl) rfl
theorem q572 : (Jvm.Cond.fieldLink "FifthCard" (147 : Nat) "FifthCard$Trick" "cards" "I") ∈ lw_all := lw_g (lw_at lw_m2 211 rfl) rfl
theorem q575 : (Jvm.Cond.fieldLink "FifthCard" (355 : Nat) "FifthCard$Trick" "suits" "I") ∈ lw_all := lw_g (lw_at lw_m2 214 rfl) rfl
theorem q585 : (Jvm.Cond.fieldLink "FifthCard" (205 : Nat) "FifthCard$Trick" "hand" "I") ∈ lw_all := lw_g (lw_at lw_m2 224 rfl) rfl
theorem q591 : (Jvm.Cond.fieldLink "FifthCard" (258 : Nat) "FifthCard$Trick" "kept" "I") ∈ lw_all := lw_g (lw_at lw_m2 230 rfl) rfl
theorem q593 : (Jvm.Cond.fieldLink "FifthCard" (188 : Nat) "FifthCard$Trick" "ruleMany" "I") ∈ lw_all := lw_g (lw_at lw_m2 232 rfl) rfl
theorem q595 : (Jvm.Cond.fieldLink "FifthCard" (172 : Nat) "FifthCard$Trick" "eveningMany" "I") ∈ lw_all := lw_g (lw_at lw_m2 234 rfl) rfl
theorem q602 : (Jvm.Cond.fieldLink "FifthCard" (358 : Nat) "FifthCard$Trick" "stranger" "Z") ∈ lw_all := lw_g (lw_at lw_m3 1 rfl) rfl
theorem q608 : (Jvm.Cond.fieldLink "FifthCard" (361 : Nat) "FifthCard$Trick" "held" "Z") ∈ lw_all := lw_g (lw_at lw_m3 7 rfl) rfl
theorem q611 : (Jvm.Cond.fieldLink "FifthCard" (364 : Nat) "FifthCard$Trick" "tilts" "Z") ∈ lw_all := lw_g (lw_at lw_m3 10 rfl) rfl
theorem q848 : (Jvm.Cond.static ({ cls := "FifthCard", name := "falling", desc := "(II)J" } : Jvm.MethodName)) ∈ lw_all := lw_g (lw_at lw_m4 7 rfl) rfl
theorem q849 : (Jvm.Cond.code ({ cls := "FifthCard", name := "falling", desc := "(II)J" } : Jvm.MethodName) prog_1_method_4_code (5 : Nat) (Option.some Jvm.ClassFile.FieldType.long)) ∈ lw_all := lw_g (lw_at lw_m4 8 rfl) rfl
theorem q851 : (Jvm.Cond.static ({ cls := "FifthCard", name := "factorial", desc := "(I)I" } : Jvm.MethodName)) ∈ lw_all := lw_g (lw_at lw_m4 10 rfl) rfl
theorem q852 : (Jvm.Cond.code ({ cls := "FifthCard", name := "factorial", desc := "(I)I" } : Jvm.MethodName) prog_1_method_5_code (1 : Nat) (Option.some Jvm.ClassFile.FieldType.int)) ∈ lw_all := lw_g (lw_at lw_m4 11 rfl) rfl
theorem q853 : (Jvm.Cond.methodLink "FifthCard" (1 : Nat) ({ cls := "FifthCard", name := "falling", desc := "(II)J" } : Jvm.MethodName)) ∈ lw_all := lw_g (lw_at lw_m4 12 rfl) rfl
theorem q938 : (Jvm.Cond.static ({ cls := "FifthCard", name := "has", desc := "(II)Z" } : Jvm.MethodName)) ∈ lw_all := lw_g (lw_at lw_m4 97 rfl) rfl
theorem q939 : (Jvm.Cond.code ({ cls := "FifthCard", name := "has", desc := "(II)Z" } : Jvm.MethodName) prog_1_method_2_code (2 : Nat) (Option.some Jvm.ClassFile.FieldType.boolean)) ∈ lw_all := lw_g (lw_at lw_m4 98 rfl) rfl
theorem q958 : (Jvm.Cond.methodLink "FifthCard" (151 : Nat) ({ cls := "FifthCard$Trick", name := "hands", desc := "(I)J" } : Jvm.MethodName)) ∈ lw_all := lw_g (lw_at lw_m4 117 rfl) rfl
theorem q959 : (Jvm.Cond.methodLink "FifthCard" (158 : Nat) ({ cls := "FifthCard$Pairing", name := "lay", desc := "(LFifthCard$Trick;)V" } : Jvm.MethodName)) ∈ lw_all := lw_g (lw_at lw_m4 118 rfl) rfl
theorem q981 : (Jvm.Cond.static ({ cls := "FifthCard", name := "ones", desc := "(I)I" } : Jvm.MethodName)) ∈ lw_all := lw_g (lw_at lw_m4 140 rfl) rfl
theorem q982 : (Jvm.Cond.code ({ cls := "FifthCard", name := "ones", desc := "(I)I" } : Jvm.MethodName) prog_1_method_3_code (3 : Nat) (Option.some Jvm.ClassFile.FieldType.int)) ∈ lw_all := lw_g (lw_at lw_m4 141 rfl) rfl
theorem q989 : (Jvm.Cond.methodLink "FifthCard" (181 : Nat) ({ cls := "FifthCard$Log", name := "add", desc := "(II)V" } : Jvm.MethodName)) ∈ lw_all := lw_g (lw_at lw_m4 148 rfl) rfl
theorem q994 : (Jvm.Cond.instanceMethod ({ cls := "FifthCard", name := "fault", desc := "()I" } : Jvm.MethodName)) ∈ lw_all := lw_g (lw_at lw_m4 153 rfl) rfl
theorem q995 : (Jvm.Cond.selects "FifthCard" ({ cls := "FifthCard", name := "fault", desc := "()I" } : Jvm.MethodName) ({ cls := "FifthCard", name := "fault", desc := "()I" } : Jvm.MethodName)) ∈ lw_all := lw_g (lw_at lw_m4 154 rfl) rfl
theorem q996 : (Jvm.Cond.code ({ cls := "FifthCard", name := "fault", desc := "()I" } : Jvm.MethodName) prog_1_method_17_code (1 : Nat) (Option.some Jvm.ClassFile.FieldType.int)) ∈ lw_all := lw_g (lw_at lw_m4 155 rfl) rfl
theorem q998 : (Jvm.Cond.instanceMethod ({ cls := "FifthCard", name := "where", desc := "()I" } : Jvm.MethodName)) ∈ lw_all := lw_g (lw_at lw_m4 157 rfl) rfl
theorem q999 : (Jvm.Cond.selects "FifthCard" ({ cls := "FifthCard", name := "where", desc := "()I" } : Jvm.MethodName) ({ cls := "FifthCard", name := "where", desc := "()I" } : Jvm.MethodName)) ∈ lw_all := lw_g (lw_at lw_m4 158 rfl) rfl
theorem q1000 : (Jvm.Cond.code ({ cls := "FifthCard", name := "where", desc := "()I" } : Jvm.MethodName) prog_1_method_18_code (1 : Nat) (Option.some Jvm.ClassFile.FieldType.int)) ∈ lw_all := lw_g (lw_at lw_m4 159 rfl) rfl
theorem q1002 : (Jvm.Cond.instanceMethod ({ cls := "FifthCard", name := "hands", desc := "()I" } : Jvm.MethodName)) ∈ lw_all := lw_g (lw_at lw_m4 161 rfl) rfl
theorem q1003 : (Jvm.Cond.selects "FifthCard" ({ cls := "FifthCard", name := "hands", desc := "()I" } : Jvm.MethodName) ({ cls := "FifthCard", name := "hands", desc := "()I" } : Jvm.MethodName)) ∈ lw_all := lw_g (lw_at lw_m4 162 rfl) rfl
theorem q1004 : (Jvm.Cond.code ({ cls := "FifthCard", name := "hands", desc := "()I" } : Jvm.MethodName) prog_1_method_24_code (1 : Nat) (Option.some Jvm.ClassFile.FieldType.int)) ∈ lw_all := lw_g (lw_at lw_m4 163 rfl) rfl
theorem q1006 : (Jvm.Cond.instanceMethod ({ cls := "FifthCard", name := "rows", desc := "()I" } : Jvm.MethodName)) ∈ lw_all := lw_g (lw_at lw_m4 165 rfl) rfl
theorem q1007 : (Jvm.Cond.selects "FifthCard" ({ cls := "FifthCard", name := "rows", desc := "()I" } : Jvm.MethodName) ({ cls := "FifthCard", name := "rows", desc := "()I" } : Jvm.MethodName)) ∈ lw_all := lw_g (lw_at lw_m4 166 rfl) rfl
theorem q1008 : (Jvm.Cond.code ({ cls := "FifthCard", name := "rows", desc := "()I" } : Jvm.MethodName) prog_1_method_25_code (1 : Nat) (Option.some Jvm.ClassFile.FieldType.int)) ∈ lw_all := lw_g (lw_at lw_m4 167 rfl) rfl
theorem q1009 : (Jvm.Cond.methodLink "FifthCard" (191 : Nat) ({ cls := "FifthCard", name := "rowMany", desc := "()I" } : Jvm.MethodName)) ∈ lw_all := lw_g (lw_at lw_m4 168 rfl) rfl
theorem q1010 : (Jvm.Cond.privateMethod ({ cls := "FifthCard", name := "rowMany", desc := "()I" } : Jvm.MethodName)) ∈ lw_tbl := lw_at lw_m4 169 rfl
theorem q1011 : (Jvm.Cond.instanceMethod ({ cls := "FifthCard", name := "rowMany", desc := "()I" } : Jvm.MethodName)) ∈ lw_all := lw_g (lw_at lw_m4 170 rfl) rfl
theorem q1012 : (Jvm.Cond.code ({ cls := "FifthCard", name := "rowMany", desc := "()I" } : Jvm.MethodName) prog_1_method_23_code (1 : Nat) (Option.some Jvm.ClassFile.FieldType.int)) ∈ lw_all := lw_g (lw_at lw_m4 171 rfl) rfl
theorem q1013 : (Jvm.Cond.methodLink "FifthCard" (195 : Nat) ({ cls := "FifthCard$Trick", name := "rows", desc := "()I" } : Jvm.MethodName)) ∈ lw_all := lw_g (lw_at lw_m4 172 rfl) rfl
theorem q1014 : (Jvm.Cond.methodLink "FifthCard" (198 : Nat) ({ cls := "FifthCard$Trick", name := "tiltings", desc := "()I" } : Jvm.MethodName)) ∈ lw_all := lw_g (lw_at lw_m4 173 rfl) rfl
theorem q1016 : (Jvm.Cond.instanceMethod ({ cls := "FifthCard", name := "hand", desc := "(II)I" } : Jvm.MethodName)) ∈ lw_all := lw_g (lw_at lw_m4 175 rfl) rfl
theorem q1017 : (Jvm.Cond.selects "FifthCard" ({ cls := "FifthCard", name := "hand", desc := "(II)I" } : Jvm.MethodName) ({ cls := "FifthCard", name := "hand", desc := "(II)I" } : Jvm.MethodName)) ∈ lw_all := lw_g (lw_at lw_m4 176 rfl) rfl
theorem q1018 : (Jvm.Cond.code ({ cls := "FifthCard", name := "hand", desc := "(II)I" } : Jvm.MethodName) prog_1_method_26_code (3 : Nat) (Option.some Jvm.ClassFile.FieldType.int)) ∈ lw_all := lw_g (lw_at lw_m4 177 rfl) rfl
theorem q1019 : (Jvm.Cond.methodLink "FifthCard" (201 : Nat) ({ cls := "FifthCard", name := "isHand", desc := "(I)Z" } : Jvm.MethodName)) ∈ lw_all := lw_g (lw_at lw_m4 178 rfl) rfl
theorem q1020 : (Jvm.Cond.privateMethod ({ cls := "FifthCard", name := "isHand", desc := "(I)Z" } : Jvm.MethodName)) ∈ lw_tbl := lw_at lw_m4 179 rfl
theorem q1021 : (Jvm.Cond.instanceMethod ({ cls := "FifthCard", name := "isHand", desc := "(I)Z" } : Jvm.MethodName)) ∈ lw_all := lw_g (lw_at lw_m4 180 rfl) rfl
theorem q1022 : (Jvm.Cond.code ({ cls := "FifthCard", name := "isHand", desc := "(I)Z" } : Jvm.MethodName) prog_1_method_19_code (2 : Nat) (Option.some Jvm.ClassFile.FieldType.boolean)) ∈ lw_all := lw_g (lw_at lw_m4 181 rfl) rfl
theorem q1023 : (Jvm.Cond.methodLink "FifthCard" (208 : Nat) ({ cls := "FifthCard$Trick", name := "layHand", desc := "(I[I)V" } : Jvm.MethodName)) ∈ lw_all := lw_g (lw_at lw_m4 182 rfl) rfl
theorem q1025 : (Jvm.Cond.instanceMethod ({ cls := "FifthCard", name := "handOf", desc := "(IIIII)I" } : Jvm.MethodName)) ∈ lw_all := lw_g (lw_at lw_m4 184 rfl) rfl
theorem q1026 : (Jvm.Cond.selects "FifthCard" ({ cls := "FifthCard", name := "handOf", desc := "(IIIII)I" } : Jvm.MethodName) ({ cls := "FifthCard", name := "handOf", desc := "(IIIII)I" } : Jvm.MethodName)) ∈ lw_all := lw_g (lw_at lw_m4 185 rfl) rfl
theorem q1027 : (Jvm.Cond.code ({ cls := "FifthCard", name := "handOf", desc := "(IIIII)I" } : Jvm.MethodName) prog_1_method_28_code (7 : Nat) (Option.some Jvm.ClassFile.FieldType.int)) ∈ lw_all := lw_g (lw_at lw_m4 186 rfl) rfl
theorem q1028 : (Jvm.Cond.methodLink "FifthCard" (212 : Nat) ({ cls := "FifthCard", name := "puts", desc := "(II)Z" } : Jvm.MethodName)) ∈ lw_all := lw_g (lw_at lw_m4 187 rfl) rfl
theorem q1029 : (Jvm.Cond.privateMethod ({ cls := "FifthCard", name := "puts", desc := "(II)Z" } : Jvm.MethodName)) ∈ lw_tbl := lw_at lw_m4 188 rfl
theorem q1030 : (Jvm.Cond.instanceMethod ({ cls := "FifthCard", name := "puts", desc := "(II)Z" } : Jvm.MethodName)) ∈ lw_all := lw_g (lw_at lw_m4 189 rfl) rfl
theorem q1031 : (Jvm.Cond.code ({ cls := "FifthCard", name := "puts", desc := "(II)Z" } : Jvm.MethodName) prog_1_method_27_code (5 : Nat) (Option.some Jvm.ClassFile.FieldType.boolean)) ∈ lw_all := lw_g (lw_at lw_m4 190 rfl) rfl
theorem q1032 : (Jvm.Cond.methodLink "FifthCard" (215 : Nat) ({ cls := "FifthCard$Trick", name := "handOf", desc := "([I)I" } : Jvm.MethodName)) ∈ lw_all := lw_g (lw_at lw_m4 191 rfl) rfl
theorem q1042 : (Jvm.Cond.instanceMethod ({ cls := "FifthCard", name := "row", desc := "(II)I" } : Jvm.MethodName)) ∈ lw_all := lw_g (lw_at lw_m4 201 rfl) rfl
theorem q1043 : (Jvm.Cond.selects "FifthCard" ({ cls := "FifthCard", name := "row", desc := "(II)I" } : Jvm.MethodName) ({ cls := "FifthCard", name := "row", desc := "(II)I" } : Jvm.MethodName)) ∈ lw_all := lw_g (lw_at lw_m4 202 rfl) rfl
theorem q1044 : (Jvm.Cond.code ({ cls := "FifthCard", name := "row", desc := "(II)I" } : Jvm.MethodName) prog_1_method_29_code (3 : Nat) (Option.some Jvm.ClassFile.FieldType.int)) ∈ lw_all := lw_g (lw_at lw_m4 203 rfl) rfl
theorem q1045 : (Jvm.Cond.methodLink "FifthCard" (219 : Nat) ({ cls := "FifthCard", name := "isRow", desc := "(I)Z" } : Jvm.MethodName)) ∈ lw_all := lw_g (lw_at lw_m4 204 rfl) rfl
theorem q1046 : (Jvm.Cond.privateMethod ({ cls := "FifthCard", name := "isRow", desc := "(I)Z" } : Jvm.MethodName)) ∈ lw_tbl := lw_at lw_m4 205 rfl
theorem q1047 : (Jvm.Cond.instanceMethod ({ cls := "FifthCard", name := "isRow", desc := "(I)Z" } : Jvm.MethodName)) ∈ lw_all := lw_g (lw_at lw_m4 206 rfl) rfl
theorem q1048 : (Jvm.Cond.code ({ cls := "FifthCard", name := "isRow", desc := "(I)Z" } : Jvm.MethodName) prog_1_method_20_code (2 : Nat) (Option.some Jvm.ClassFile.FieldType.boolean)) ∈ lw_all := lw_g (lw_at lw_m4 207 rfl) rfl
theorem q1049 : (Jvm.Cond.methodLink "FifthCard" (222 : Nat) ({ cls := "FifthCard$Trick", name := "unrank", desc := "(II[I)V" } : Jvm.MethodName)) ∈ lw_all := lw_g (lw_at lw_m4 208 rfl) rfl
theorem q1051 : (Jvm.Cond.instanceMethod ({ cls := "FifthCard", name := "tilted", desc := "(I)I" } : Jvm.MethodName)) ∈ lw_all := lw_g (lw_at lw_m4 210 rfl) rfl
theorem q1052 : (Jvm.Cond.selects "FifthCard" ({ cls := "FifthCard", name := "tilted", desc := "(I)I" } : Jvm.MethodName) ({ cls := "FifthCard", name := "tilted", desc := "(I)I" } : Jvm.MethodName)) ∈ lw_all := lw_g (lw_at lw_m4 211 rfl) rfl
theorem q1053 : (Jvm.Cond.code ({ cls := "FifthCard", name := "tilted", desc := "(I)I" } : Jvm.MethodName) prog_1_method_30_code (2 : Nat) (Option.some Jvm.ClassFile.FieldType.int)) ∈ lw_all := lw_g (lw_at lw_m4 212 rfl) rfl
theorem q1055 : (Jvm.Cond.instanceMethod ({ cls := "FifthCard", name := "fits", desc := "(II)I" } : Jvm.MethodName)) ∈ lw_all := lw_g (lw_at lw_m4 214 rfl) rfl
theorem q1056 : (Jvm.Cond.selects "FifthCard" ({ cls := "FifthCard", name := "fits", desc := "(II)I" } : Jvm.MethodName) ({ cls := "FifthCard", name := "fits", desc := "(II)I" } : Jvm.MethodName)) ∈ lw_all := lw_g (lw_at lw_m4 215 rfl) rfl
theorem q1057 : (Jvm.Cond.code ({ cls := "FifthCard", name := "fits", desc := "(II)I" } : Jvm.MethodName) prog_1_method_31_code (3 : Nat) (Option.some Jvm.ClassFile.FieldType.int)) ∈ lw_all := lw_g (lw_at lw_m4 216 rfl) rfl
theorem q1058 : (Jvm.Cond.methodLink "FifthCard" (226 : Nat) ({ cls := "FifthCard$Pairing", name := "fits", desc := "(II)Z" } : Jvm.MethodName)) ∈ lw_all := lw_g (lw_at lw_m4 217 rfl) rfl
theorem q1063 : (Jvm.Cond.instanceMethod ({ cls := "FifthCard", name := "fitting", desc := "()I" } : Jvm.MethodName)) ∈ lw_all := lw_g (lw_at lw_m4 222 rfl) rfl
theorem q1064 : (Jvm.Cond.selects "FifthCard" ({ cls := "FifthCard", name := "fitting", desc := "()I" } : Jvm.MethodName) ({ cls := "FifthCard", name := "fitting", desc := "()I" } : Jvm.MethodName)) ∈ lw_all := lw_g (lw_at lw_m4 223 rfl) rfl
theorem q1065 : (Jvm.Cond.code ({ cls := "FifthCard", name := "fitting", desc := "()I" } : Jvm.MethodName) prog_1_method_32_code (1 : Nat) (Option.some Jvm.ClassFile.FieldType.int)) ∈ lw_all := lw_g (lw_at lw_m4 224 rfl) rfl
theorem q1066 : (Jvm.Cond.methodLink "FifthCard" (229 : Nat) ({ cls := "FifthCard$Pairing", name := "fitting", desc := "()I" } : Jvm.MethodName)) ∈ lw_all := lw_g (lw_at lw_m4 225 rfl) rfl
theorem q1071 : (Jvm.Cond.instanceMethod ({ cls := "FifthCard", name := "lays", desc := "(II)I" } : Jvm.MethodName)) ∈ lw_all := lw_g (lw_at lw_m4 230 rfl) rfl
theorem q1072 : (Jvm.Cond.selects "FifthCard" ({ cls := "FifthCard", name := "lays", desc := "(II)I" } : Jvm.MethodName) ({ cls := "FifthCard", name := "lays", desc := "(II)I" } : Jvm.MethodName)) ∈ lw_all := lw_g (lw_at lw_m4 231 rfl) rfl
theorem q1073 : (Jvm.Cond.code ({ cls := "FifthCard", name := "lays", desc := "(II)I" } : Jvm.MethodName) prog_1_method_35_code (3 : Nat) (Option.some Jvm.ClassFile.FieldType.int)) ∈ lw_all := lw_g (lw_at lw_m4 232 rfl) rfl
theorem q1074 : (Jvm.Cond.methodLink "FifthCard" (252 : Nat) ({ cls := "FifthCard", name := "isRule", desc := "(I)Z" } : Jvm.MethodName)) ∈ lw_all := lw_g (lw_at lw_m4 233 rfl) rfl
theorem q1075 : (Jvm.Cond.privateMethod ({ cls := "FifthCard", name := "isRule", desc := "(I)Z" } : Jvm.MethodName)) ∈ lw_tbl := lw_at lw_m4 234 rfl
theorem q1076 : (Jvm.Cond.instanceMethod ({ cls := "FifthCard", name := "isRule", desc := "(I)Z" } : Jvm.MethodName)) ∈ lw_all := lw_g (lw_at lw_m4 235 rfl) rfl
theorem q1077 : (Jvm.Cond.code ({ cls := "FifthCard", name := "isRule", desc := "(I)Z" } : Jvm.MethodName) prog_1_method_21_code (2 : Nat) (Option.some Jvm.ClassFile.FieldType.boolean)) ∈ lw_all := lw_g (lw_at lw_m4 236 rfl) rfl
theorem q1078 : (Jvm.Cond.methodLink "FifthCard" (255 : Nat) ({ cls := "FifthCard", name := "rowOf", desc := "(II)I" } : Jvm.MethodName)) ∈ lw_all := lw_g (lw_at lw_m4 237 rfl) rfl
theorem q1079 : (Jvm.Cond.privateMethod ({ cls := "FifthCard", name := "rowOf", desc := "(II)I" } : Jvm.MethodName)) ∈ lw_tbl := lw_at lw_m4 238 rfl
theorem q1080 : (Jvm.Cond.instanceMethod ({ cls := "FifthCard", name := "rowOf", desc := "(II)I" } : Jvm.MethodName)) ∈ lw_all := lw_g (lw_at lw_m4 239 rfl) rfl
theorem q1081 : (Jvm.Cond.code ({ cls := "FifthCard", name := "rowOf", desc := "(II)I" } : Jvm.MethodName) prog_1_method_34_code (3 : Nat) (Option.some Jvm.ClassFile.FieldType.int)) ∈ lw_all := lw_g (lw_at lw_m5 0 rfl) rfl
theorem q1082 : (Jvm.Cond.methodLink "FifthCard" (249 : Nat) ({ cls := "FifthCard", name := "lay", desc := "(LFifthCard$Rule;)V" } : Jvm.MethodName)) ∈ lw_all := lw_g (lw_at lw_m5 1 rfl) rfl
theorem q1083 : (Jvm.Cond.privateMethod ({ cls := "FifthCard", name := "lay", desc := "(LFifthCard$Rule;)V" } : Jvm.MethodName)) ∈ lw_tbl := lw_at lw_m5 2 rfl
theorem q1084 : (Jvm.Cond.instanceMethod ({ cls := "FifthCard", name := "lay", desc := "(LFifthCard$Rule;)V" } : Jvm.MethodName)) ∈ lw_all := lw_g (lw_at lw_m5 3 rfl) rfl
theorem q1085 : (Jvm.Cond.code ({ cls := "FifthCard", name := "lay", desc := "(LFifthCard$Rule;)V" } : Jvm.MethodName) prog_1_method_33_code (4 : Nat) (Option.none : Option Jvm.ClassFile.FieldType)) ∈ lw_all := lw_g (lw_at lw_m5 4 rfl) rfl
theorem q1086 : (Jvm.Cond.classLink "FifthCard" (232 : Nat) "FifthCard$Tabled") ∈ lw_all := lw_g (lw_at lw_m5 5 rfl) rfl
theorem q1087 : (Jvm.Cond.methodLink "FifthCard" (234 : Nat) ({ cls := "FifthCard$Pairing", name := "least", desc := "()Z" } : Jvm.MethodName)) ∈ lw_all := lw_g (lw_at lw_m5 6 rfl) rfl
theorem q1112 : (Jvm.Cond.methodLink "FifthCard" (240 : Nat) ({ cls := "FifthCard$Pairing", name := "rowOf", desc := "(I)I" } : Jvm.MethodName)) ∈ lw_all := lw_g (lw_at lw_m5 31 rfl) rfl
theorem q1116 : (Jvm.Cond.methodLink "FifthCard" (243 : Nat) ({ cls := "FifthCard$Rule", name := "lay", desc := "([ILFifthCard$Trick;)I" } : Jvm.MethodName)) ∈ lw_all := lw_g (lw_at lw_m5 35 rfl) rfl
theorem q1123 : (Jvm.Cond.static ({ cls := "FifthCard", name := "spread", desc := "(I[I)I" } : Jvm.MethodName)) ∈ lw_all := lw_g (lw_at lw_m5 42 rfl) rfl
theorem q1124 : (Jvm.Cond.code ({ cls := "FifthCard", name := "spread", desc := "(I[I)I" } : Jvm.MethodName) prog_1_method_7_code (4 : Nat) (Option.some Jvm.ClassFile.FieldType.int)) ∈ lw_all := lw_g (lw_at lw_m5 43 rfl) rfl
theorem q1125 : (Jvm.Cond.methodLink "FifthCard" (7 : Nat) ({ cls := "FifthCard", name := "has", desc := "(II)Z" } : Jvm.MethodName)) ∈ lw_all := lw_g (lw_at lw_m5 44 rfl) rfl
theorem q1171 : (Jvm.Cond.static ({ cls := "FifthCard", name := "arrange", desc := "([IIII[I)V" } : Jvm.MethodName)) ∈ lw_all := lw_g (lw_at lw_m5 90 rfl) rfl
theorem q1172 : (Jvm.Cond.code ({ cls := "FifthCard", name := "arrange", desc := "([IIII[I)V" } : Jvm.MethodName) prog_1_method_8_code (11 : Nat) (Option.none : Option Jvm.ClassFile.FieldType)) ∈ lw_all := lw_g (lw_at lw_m5 91 rfl) rfl
theorem q1173 : (Jvm.Cond.methodLink "FifthCard" (11 : Nat) ({ cls := "FifthCard", name := "factorial", desc := "(I)I" } : Jvm.MethodName)) ∈ lw_all := lw_g (lw_at lw_m5 92 rfl) rfl
theorem q1190 : (Jvm.Cond.instanceMethod ({ cls := "FifthCard", name := "kept", desc := "(III)I" } : Jvm.MethodName)) ∈ lw_all := lw_g (lw_at lw_m5 109 rfl) rfl
theorem q1191 : (Jvm.Cond.selects "FifthCard" ({ cls := "FifthCard", name := "kept", desc := "(III)I" } : Jvm.MethodName) ({ cls := "FifthCard", name := "kept", desc := "(III)I" } : Jvm.MethodName)) ∈ lw_all := lw_g (lw_at lw_m5 110 rfl) rfl
theorem q1192 : (Jvm.Cond.code ({ cls := "FifthCard", name := "kept", desc := "(III)I" } : Jvm.MethodName) prog_1_method_36_code (7 : Nat) (Option.some Jvm.ClassFile.FieldType.int)) ∈ lw_all := lw_g (lw_at lw_m5 111 rfl) rfl
theorem q1193 : (Jvm.Cond.methodLinkNest "FifthCard" (261 : Nat) ({ cls := "FifthCard$Trick", name := "setOf", desc := "([II)I" } : Jvm.MethodName) "FifthCard") ∈ lw_tbl := lw_at lw_m5 112 rfl
theorem q1194 : (Jvm.Cond.methodLink "FifthCard" (265 : Nat) ({ cls := "FifthCard", name := "spread", desc := "(I[I)I" } : Jvm.MethodName)) ∈ lw_all := lw_g (lw_at lw_m5 113 rfl) rfl
theorem q1196 : (Jvm.Cond.instanceMethod ({ cls := "FifthCard", name := "says", desc := "(II)I" } : Jvm.MethodName)) ∈ lw_all := lw_g (lw_at lw_m5 115 rfl) rfl
theorem q1197 : (Jvm.Cond.selects "FifthCard" ({ cls := "FifthCard", name := "says", desc := "(II)I" } : Jvm.MethodName) ({ cls := "FifthCard", name := "says", desc := "(II)I" } : Jvm.MethodName)) ∈ lw_all := lw_g (lw_at lw_m5 116 rfl) rfl
theorem q1198 : (Jvm.Cond.code ({ cls := "FifthCard", name := "says", desc := "(II)I" } : Jvm.MethodName) prog_1_method_37_code (4 : Nat) (Option.some Jvm.ClassFile.FieldType.int)) ∈ lw_all := lw_g (lw_at lw_m5 117 rfl) rfl
theorem q1200 : (Jvm.Cond.instanceMethod ({ cls := "FifthCard", name := "works", desc := "(I)I" } : Jvm.MethodName)) ∈ lw_all := lw_g (lw_at lw_m5 119 rfl) rfl
theorem q1201 : (Jvm.Cond.selects "FifthCard" ({ cls := "FifthCard", name := "works", desc := "(I)I" } : Jvm.MethodName) ({ cls := "FifthCard", name := "works", desc := "(I)I" } : Jvm.MethodName)) ∈ lw_all := lw_g (lw_at lw_m5 120 rfl) rfl
theorem q1202 : (Jvm.Cond.code ({ cls := "FifthCard", name := "works", desc := "(I)I" } : Jvm.MethodName) prog_1_method_41_code (2 : Nat) (Option.some Jvm.ClassFile.FieldType.int)) ∈ lw_all := lw_g (lw_at lw_m5 121 rfl) rfl
theorem q1203 : (Jvm.Cond.methodLink "FifthCard" (285 : Nat) ({ cls := "FifthCard", name := "doesWork", desc := "(LFifthCard$Rule;)Z" } : Jvm.MethodName)) ∈ lw_all := lw_g (lw_at lw_m5 122 rfl) rfl
theorem q1204 : (Jvm.Cond.privateMethod ({ cls := "FifthCard", name := "doesWork", desc := "(LFifthCard$Rule;)Z" } : Jvm.MethodName)) ∈ lw_tbl := lw_at lw_m5 123 rfl
theorem q1205 : (Jvm.Cond.instanceMethod ({ cls := "FifthCard", name := "doesWork", desc := "(LFifthCard$Rule;)Z" } : Jvm.MethodName)) ∈ lw_all := lw_g (lw_at lw_m5 124 rfl) rfl
theorem q1206 : (Jvm.Cond.code ({ cls := "FifthCard", name := "doesWork", desc := "(LFifthCard$Rule;)Z" } : Jvm.MethodName) prog_1_method_40_code (2 : Nat) (Option.some Jvm.ClassFile.FieldType.boolean)) ∈ lw_all := lw_g (lw_at lw_m5 125 rfl) rfl
theorem q1207 : (Jvm.Cond.methodLink "FifthCard" (278 : Nat) ({ cls := "FifthCard", name := "failsOf", desc := "(LFifthCard$Rule;)I" } : Jvm.MethodName)) ∈ lw_all := lw_g (lw_at lw_m5 126 rfl) rfl
theorem q1208 : (Jvm.Cond.privateMethod ({ cls := "FifthCard", name := "failsOf", desc := "(LFifthCard$Rule;)I" } : Jvm.MethodName)) ∈ lw_tbl := lw_at lw_m5 127 rfl
theorem q1209 : (Jvm.Cond.instanceMethod ({ cls := "FifthCard", name := "failsOf", desc := "(LFifthCard$Rule;)I" } : Jvm.MethodName)) ∈ lw_all := lw_g (lw_at lw_m5 128 rfl) rfl
theorem q1210 : (Jvm.Cond.code ({ cls := "FifthCard", name := "failsOf", desc := "(LFifthCard$Rule;)I" } : Jvm.MethodName) prog_1_method_39_code (4 : Nat) (Option.some Jvm.ClassFile.FieldType.int)) ∈ lw_all := lw_g (lw_at lw_m5 129 rfl) rfl
theorem q1211 : (Jvm.Cond.methodLink "FifthCard" (282 : Nat) ({ cls := "FifthCard", name := "clashOf", desc := "(LFifthCard$Rule;)I" } : Jvm.MethodName)) ∈ lw_all := lw_g (lw_at lw_m5 130 rfl) rfl
theorem q1212 : (Jvm.Cond.privateMethod ({ cls := "FifthCard", name := "clashOf", desc := "(LFifthCard$Rule;)I" } : Jvm.MethodName)) ∈ lw_tbl := lw_at lw_m5 131 rfl
theorem q1213 : (Jvm.Cond.instanceMethod ({ cls := "FifthCard", name := "clashOf", desc := "(LFifthCard$Rule;)I" } : Jvm.MethodName)) ∈ lw_all := lw_g (lw_at lw_m5 132 rfl) rfl
theorem q1214 : (Jvm.Cond.code ({ cls := "FifthCard", name := "clashOf", desc := "(LFifthCard$Rule;)I" } : Jvm.MethodName) prog_1_method_38_code (3 : Nat) (Option.some Jvm.ClassFile.FieldType.int)) ∈ lw_all := lw_g (lw_at lw_m5 133 rfl) rfl
theorem q1215 : (Jvm.Cond.methodLink "FifthCard" (269 : Nat) ({ cls := "FifthCard$Pairing", name := "begin", desc := "()V" } : Jvm.MethodName)) ∈ lw_all := lw_g (lw_at lw_m5 134 rfl) rfl
theorem q1219 : (Jvm.Cond.methodLink "FifthCard" (272 : Nat) ({ cls := "FifthCard$Pairing", name := "isThere", desc := "(I)Z" } : Jvm.MethodName)) ∈ lw_all := lw_g (lw_at lw_m5 138 rfl) rfl
theorem q1223 : (Jvm.Cond.methodLink "FifthCard" (275 : Nat) ({ cls := "FifthCard$Pairing", name := "mark", desc := "(II)V" } : Jvm.MethodName)) ∈ lw_all := lw_g (lw_at lw_m5 142 rfl) rfl
theorem q1228 : (Jvm.Cond.instanceMethod ({ cls := "FifthCard", name := "clash", desc := "(IZ)I" } : Jvm.MethodName)) ∈ lw_all := lw_g (lw_at lw_m5 147 rfl) rfl
theorem q1229 : (Jvm.Cond.selects "FifthCard" ({ cls := "FifthCard", name := "clash", desc := "(IZ)I" } : Jvm.MethodName) ({ cls := "FifthCard", name := "clash", desc := "(IZ)I" } : Jvm.MethodName)) ∈ lw_all := lw_g (lw_at lw_m5 148 rfl) rfl
theorem q1230 : (Jvm.Cond.code ({ cls := "FifthCard", name := "clash", desc := "(IZ)I" } : Jvm.MethodName) prog_1_method_42_code (4 : Nat) (Option.some Jvm.ClassFile.FieldType.int)) ∈ lw_all := lw_g (lw_at lw_m5 149 rfl) rfl
theorem q1231 : (Jvm.Cond.methodLink "FifthCard" (289 : Nat) ({ cls := "FifthCard$Pairing", name := "markOf", desc := "(I)I" } : Jvm.MethodName)) ∈ lw_all := lw_g (lw_at lw_m5 150 rfl) rfl
theorem q1236 : (Jvm.Cond.instanceMethod ({ cls := "FifthCard", name := "laid", desc := "(I)I" } : Jvm.MethodName)) ∈ lw_all := lw_g (lw_at lw_m5 155 rfl) rfl
theorem q1237 : (Jvm.Cond.selects "FifthCard" ({ cls := "FifthCard", name := "laid", desc := "(I)I" } : Jvm.MethodName) ({ cls := "FifthCard", name := "laid", desc := "(I)I" } : Jvm.MethodName)) ∈ lw_all := lw_g (lw_at lw_m5 156 rfl) rfl
theorem q1238 : (Jvm.Cond.code ({ cls := "FifthCard", name := "laid", desc := "(I)I" } : Jvm.MethodName) prog_1_method_43_code (5 : Nat) (Option.some Jvm.ClassFile.FieldType.int)) ∈ lw_all := lw_g (lw_at lw_m5 157 rfl) rfl
theorem q1240 : (Jvm.Cond.instanceMethod ({ cls := "FifthCard", name := "fails", desc := "(I)I" } : Jvm.MethodName)) ∈ lw_all := lw_g (lw_at lw_m5 159 rfl) rfl
theorem q1241 : (Jvm.Cond.selects "FifthCard" ({ cls := "FifthCard", name := "fails", desc := "(I)I" } : Jvm.MethodName) ({ cls := "FifthCard", name := "fails", desc := "(I)I" } : Jvm.MethodName)) ∈ lw_all := lw_g (lw_at lw_m5 160 rfl) rfl
theorem q1242 : (Jvm.Cond.code ({ cls := "FifthCard", name := "fails", desc := "(I)I" } : Jvm.MethodName) prog_1_method_44_code (2 : Nat) (Option.some Jvm.ClassFile.FieldType.int)) ∈ lw_all := lw_g (lw_at lw_m5 161 rfl) rfl
theorem q1244 : (Jvm.Cond.instanceMethod ({ cls := "FifthCard", name := "seen", desc := "(I)I" } : Jvm.MethodName)) ∈ lw_all := lw_g (lw_at lw_m5 163 rfl) rfl
theorem q1245 : (Jvm.Cond.selects "FifthCard" ({ cls := "FifthCard", name := "seen", desc := "(I)I" } : Jvm.MethodName) ({ cls := "FifthCard", name := "seen", desc := "(I)I" } : Jvm.MethodName)) ∈ lw_all := lw_g (lw_at lw_m5 164 rfl) rfl
theorem q1246 : (Jvm.Cond.code ({ cls := "FifthCard", name := "seen", desc := "(I)I" } : Jvm.MethodName) prog_1_method_47_code (2 : Nat) (Option.some Jvm.ClassFile.FieldType.int)) ∈ lw_all := lw_g (lw_at lw_m5 165 rfl) rfl
theorem q1247 : (Jvm.Cond.methodLink "FifthCard" (301 : Nat) ({ cls := "FifthCard", name := "keepApart", desc := "(LFifthCard$Rule;Z)Z" } : Jvm.MethodName)) ∈ lw_all := lw_g (lw_at lw_m5 166 rfl) rfl
theorem q1248 : (Jvm.Cond.privateMethod ({ cls := "FifthCard", name := "keepApart", desc := "(LFifthCard$Rule;Z)Z" } : Jvm.MethodName)) ∈ lw_tbl := lw_at lw_m5 167 rfl
theorem q1249 : (Jvm.Cond.instanceMethod ({ cls := "FifthCard", name := "keepApart", desc := "(LFifthCard$Rule;Z)Z" } : Jvm.MethodName)) ∈ lw_all := lw_g (lw_at lw_m5 168 rfl) rfl
theorem q1250 : (Jvm.Cond.code ({ cls := "FifthCard", name := "keepApart", desc := "(LFifthCard$Rule;Z)Z" } : Jvm.MethodName) prog_1_method_46_code (7 : Nat) (Option.some Jvm.ClassFile.FieldType.boolean)) ∈ lw_all := lw_g (lw_at lw_m5 169 rfl) rfl
theorem q1251 : (Jvm.Cond.methodLink "FifthCard" (295 : Nat) ({ cls := "FifthCard", name := "changed", desc := "(II)I" } : Jvm.MethodName)) ∈ lw_all := lw_g (lw_at lw_m5 170 rfl) rfl
theorem q1252 : (Jvm.Cond.privateMethod ({ cls := "FifthCard", name := "changed", desc := "(II)I" } : Jvm.MethodName)) ∈ lw_tbl := lw_at lw_m5 171 rfl
theorem q1253 : (Jvm.Cond.instanceMethod ({ cls := "FifthCard", name := "changed", desc := "(II)I" } : Jvm.MethodName)) ∈ lw_all := lw_g (lw_at lw_m5 172 rfl) rfl
theorem q1254 : (Jvm.Cond.code ({ cls := "FifthCard", name := "changed", desc := "(II)I" } : Jvm.MethodName) prog_1_method_45_code (7 : Nat) (Option.some Jvm.ClassFile.FieldType.int)) ∈ lw_all := lw_g (lw_at lw_m5 173 rfl) rfl
theorem q1255 : (Jvm.Cond.methodLink "FifthCard" (292 : Nat) ({ cls := "FifthCard$Trick", name := "rank", desc := "([II)I" } : Jvm.MethodName)) ∈ lw_all := lw_g (lw_at lw_m5 174 rfl) rfl
theorem q1256 : (Jvm.Cond.methodLink "FifthCard" (298 : Nat) ({ cls := "FifthCard$Pairing", name := "isMarked", desc := "(II)Z" } : Jvm.MethodName)) ∈ lw_all := lw_g (lw_at lw_m5 175 rfl) rfl
theorem q1261 : (Jvm.Cond.instanceMethod ({ cls := "FifthCard", name := "borne", desc := "(I)I" } : Jvm.MethodName)) ∈ lw_all := lw_g (lw_at lw_m5 180 rfl) rfl
theorem q1262 : (Jvm.Cond.selects "FifthCard" ({ cls := "FifthCard", name := "borne", desc := "(I)I" } : Jvm.MethodName) ({ cls := "FifthCard", name := "borne", desc := "(I)I" } : Jvm.MethodName)) ∈ lw_all := lw_g (lw_at lw_m5 181 rfl) rfl
theorem q1263 : (Jvm.Cond.code ({ cls := "FifthCard", name := "borne", desc := "(I)I" } : Jvm.MethodName) prog_1_method_48_code (2 : Nat) (Option.some Jvm.ClassFile.FieldType.int)) ∈ lw_all := lw_g (lw_at lw_m5 182 rfl) rfl
theorem q1265 : (Jvm.Cond.instanceMethod ({ cls := "FifthCard", name := "wordsWork", desc := "(I)I" } : Jvm.MethodName)) ∈ lw_all := lw_g (lw_at lw_m5 184 rfl) rfl
theorem q1266 : (Jvm.Cond.selects "FifthCard" ({ cls := "FifthCard", name := "wordsWork", desc := "(I)I" } : Jvm.MethodName) ({ cls := "FifthCard", name := "wordsWork", desc := "(I)I" } : Jvm.MethodName)) ∈ lw_all := lw_g (lw_at lw_m5 185 rfl) rfl
theorem q1267 : (Jvm.Cond.code ({ cls := "FifthCard", name := "wordsWork", desc := "(I)I" } : Jvm.MethodName) prog_1_method_49_code (2 : Nat) (Option.some Jvm.ClassFile.FieldType.int)) ∈ lw_all := lw_g (lw_at lw_m5 186 rfl) rfl
theorem q1269 : (Jvm.Cond.instanceMethod ({ cls := "FifthCard", name := "shortest", desc := "()I" } : Jvm.MethodName)) ∈ lw_all := lw_g (lw_at lw_m5 188 rfl) rfl
theorem q1270 : (Jvm.Cond.selects "FifthCard" ({ cls := "FifthCard", name := "shortest", desc := "()I" } : Jvm.MethodName) ({ cls := "FifthCard", name := "shortest", desc := "()I" } : Jvm.MethodName)) ∈ lw_all := lw_g (lw_at lw_m5 189 rfl) rfl
theorem q1271 : (Jvm.Cond.code ({ cls := "FifthCard", name := "shortest", desc := "()I" } : Jvm.MethodName) prog_1_method_50_code (2 : Nat) (Option.some Jvm.ClassFile.FieldType.int)) ∈ lw_all := lw_g (lw_at lw_m5 190 rfl) rfl
theorem q1273 : (Jvm.Cond.instanceMethod ({ cls := "FifthCard", name := "pairs", desc := "()I" } : Jvm.MethodName)) ∈ lw_all := lw_g (lw_at lw_m5 192 rfl) rfl
theorem q1274 : (Jvm.Cond.selects "FifthCard" ({ cls := "FifthCard", name := "pairs", desc := "()I" } : Jvm.MethodName) ({ cls := "FifthCard", name := "pairs", desc := "()I" } : Jvm.MethodName)) ∈ lw_all := lw_g (lw_at lw_m5 193 rfl) rfl
theorem q1275 : (Jvm.Cond.code ({ cls := "FifthCard", name := "pairs", desc := "()I" } : Jvm.MethodName) prog_1_method_51_code (1 : Nat) (Option.some Jvm.ClassFile.FieldType.int)) ∈ lw_all := lw_g (lw_at lw_m5 194 rfl) rfl
theorem q1276 : (Jvm.Cond.methodLink "FifthCard" (305 : Nat) ({ cls := "FifthCard$Pairing", name := "pair", desc := "()V" } : Jvm.MethodName)) ∈ lw_all := lw_g (lw_at lw_m5 195 rfl) rfl
theorem q1278 : (Jvm.Cond.instanceMethod ({ cls := "FifthCard", name := "table", desc := "(I)I" } : Jvm.MethodName)) ∈ lw_all := lw_g (lw_at lw_m5 197 rfl) rfl
theorem q1279 : (Jvm.Cond.selects "FifthCard" ({ cls := "FifthCard", name := "table", desc := "(I)I" } : Jvm.MethodName) ({ cls := "FifthCard", name := "table", desc := "(I)I" } : Jvm.MethodName)) ∈ lw_all := lw_g (lw_at lw_m5 198 rfl) rfl
theorem q1280 : (Jvm.Cond.code ({ cls := "FifthCard", name := "table", desc := "(I)I" } : Jvm.MethodName) prog_1_method_52_code (2 : Nat) (Option.some Jvm.ClassFile.FieldType.int)) ∈ lw_all := lw_g (lw_at lw_m5 199 rfl) rfl
theorem q1282 : (Jvm.Cond.instanceMethod ({ cls := "FifthCard", name := "count", desc := "(IZ)J" } : Jvm.MethodName)) ∈ lw_all := lw_g (lw_at lw_m5 201 rfl) rfl
theorem q1283 : (Jvm.Cond.selects "FifthCard" ({ cls := "FifthCard", name := "count", desc := "(IZ)J" } : Jvm.MethodName) ({ cls := "FifthCard", name := "count", desc := "(IZ)J" } : Jvm.MethodName)) ∈ lw_all := lw_g (lw_at lw_m5 202 rfl) rfl
theorem q1284 : (Jvm.Cond.code ({ cls := "FifthCard", name := "count", desc := "(IZ)J" } : Jvm.MethodName) prog_1_method_53_code (3 : Nat) (Option.some Jvm.ClassFile.FieldType.long)) ∈ lw_all := lw_g (lw_at lw_m5 203 rfl) rfl
theorem q1285 : (Jvm.Cond.methodLink "FifthCard" (311 : Nat) ({ cls := "FifthCard$Trick", name := "rowsOf", desc := "(I)J" } : Jvm.MethodName)) ∈ lw_all := lw_g (lw_at lw_m5 204 rfl) rfl
theorem q1291 : (Jvm.Cond.instanceMethod ({ cls := "FifthCard", name := "most", desc := "()I" } : Jvm.MethodName)) ∈ lw_all := lw_g (lw_at lw_m5 210 rfl) rfl
theorem q1292 : (Jvm.Cond.selects "FifthCard" ({ cls := "FifthCard", name := "most", desc := "()I" } : Jvm.MethodName) ({ cls := "FifthCard", name := "most", desc := "()I" } : Jvm.MethodName)) ∈ lw_all := lw_g (lw_at lw_m5 211 rfl) rfl
theorem q1293 : (Jvm.Cond.code ({ cls := "FifthCard", name := "most", desc := "()I" } : Jvm.MethodName) prog_1_method_54_code (2 : Nat) (Option.some Jvm.ClassFile.FieldType.int)) ∈ lw_all := lw_g (lw_at lw_m5 212 rfl) rfl
theorem q1295 : (Jvm.Cond.instanceMethod ({ cls := "FifthCard", name := "judge", desc := "(I)I" } : Jvm.MethodName)) ∈ lw_all := lw_g (lw_at lw_m5 214 rfl) rfl
theorem q1296 : (Jvm.Cond.selects "FifthCard" ({ cls := "FifthCard", name := "judge", desc := "(I)I" } : Jvm.MethodName) ({ cls := "FifthCard", name := "judge", desc := "(I)I" } : Jvm.MethodName)) ∈ lw_all := lw_g (lw_at lw_m5 215 rfl) rfl
theorem q1297 : (Jvm.Cond.code ({ cls := "FifthCard", name := "judge", desc := "(I)I" } : Jvm.MethodName) prog_1_method_55_code (2 : Nat) (Option.some Jvm.ClassFile.FieldType.int)) ∈ lw_all := lw_g (lw_at lw_m5 216 rfl) rfl
theorem q1298 : (Jvm.Cond.methodLink "FifthCard" (314 : Nat) ({ cls := "FifthCard", name := "isEvening", desc := "(I)Z" } : Jvm.MethodName)) ∈ lw_all := lw_g (lw_at lw_m5 217 rfl) rfl
theorem q1299 : (Jvm.Cond.privateMethod ({ cls := "FifthCard", name := "isEvening", desc := "(I)Z" } : Jvm.MethodName)) ∈ lw_tbl := lw_at lw_m5 218 rfl
theorem q1300 : (Jvm.Cond.instanceMethod ({ cls := "FifthCard", name := "isEvening", desc := "(I)Z" } : Jvm.MethodName)) ∈ lw_all := lw_g (lw_at lw_m5 219 rfl) rfl
theorem q1301 : (Jvm.Cond.code ({ cls := "FifthCard", name := "isEvening", desc := "(I)Z" } : Jvm.MethodName) prog_1_method_22_code (2 : Nat) (Option.some Jvm.ClassFile.FieldType.boolean)) ∈ lw_all := lw_g (lw_at lw_m5 220 rfl) rfl
theorem q1303 : (Jvm.Cond.instanceMethod ({ cls := "FifthCard", name := "evening", desc := "(IZ)I" } : Jvm.MethodName)) ∈ lw_all := lw_g (lw_at lw_m5 222 rfl) rfl
theorem q1304 : (Jvm.Cond.selects "FifthCard" ({ cls := "FifthCard", name := "evening", desc := "(IZ)I" } : Jvm.MethodName) ({ cls := "FifthCard", name := "evening", desc := "(IZ)I" } : Jvm.MethodName)) ∈ lw_all := lw_g (lw_at lw_m5 223 rfl) rfl
theorem q1305 : (Jvm.Cond.code ({ cls := "FifthCard", name := "evening", desc := "(IZ)I" } : Jvm.MethodName) prog_1_method_56_code (3 : Nat) (Option.some Jvm.ClassFile.FieldType.int)) ∈ lw_all := lw_g (lw_at lw_m5 224 rfl) rfl
theorem q1307 : (Jvm.Cond.instanceMethod ({ cls := "FifthCard", name := "agrees", desc := "(I)I" } : Jvm.MethodName)) ∈ lw_all := lw_g (lw_at lw_m5 226 rfl) rfl
theorem q1308 : (Jvm.Cond.selects "FifthCard" ({ cls := "FifthCard", name := "agrees", desc := "(I)I" } : Jvm.MethodName) ({ cls := "FifthCard", name := "agrees", desc := "(I)I" } : Jvm.MethodName)) ∈ lw_all := lw_g (lw_at lw_m5 227 rfl) rfl
theorem q1309 : (Jvm.Cond.code ({ cls := "FifthCard", name := "agrees", desc := "(I)I" } : Jvm.MethodName) prog_1_method_59_code (4 : Nat) (Option.some Jvm.ClassFile.FieldType.int)) ∈ lw_all := lw_g (lw_at lw_m5 228 rfl) rfl
theorem q1310 : (Jvm.Cond.methodLink "FifthCard" (320 : Nat) ({ cls := "FifthCard", name := "doesAgree", desc := "(II)Z" } : Jvm.MethodName)) ∈ lw_all := lw_g (lw_at lw_m5 229 rfl) rfl
theorem q1311 : (Jvm.Cond.privateMethod ({ cls := "FifthCard", name := "doesAgree", desc := "(II)Z" } : Jvm.MethodName)) ∈ lw_tbl := lw_at lw_m5 230 rfl
theorem q1312 : (Jvm.Cond.instanceMethod ({ cls := "FifthCard", name := "doesAgree", desc := "(II)Z" } : Jvm.MethodName)) ∈ lw_all := lw_g (lw_at lw_m5 231 rfl) rfl
theorem q1313 : (Jvm.Cond.code ({ cls := "FifthCard", name := "doesAgree", desc := "(II)Z" } : Jvm.MethodName) prog_1_method_57_code (3 : Nat) (Option.some Jvm.ClassFile.FieldType.boolean)) ∈ lw_all := lw_g (lw_at lw_m5 232 rfl) rfl
theorem q1315 : (Jvm.Cond.instanceMethod ({ cls := "FifthCard", name := "wrong", desc := "(I)I" } : Jvm.MethodName)) ∈ lw_all := lw_g (lw_at lw_m5 234 rfl) rfl
theorem q1316 : (Jvm.Cond.selects "FifthCard" ({ cls := "FifthCard", name := "wrong", desc := "(I)I" } : Jvm.MethodName) ({ cls := "FifthCard", name := "wrong", desc := "(I)I" } : Jvm.MethodName)) ∈ lw_all := lw_g (lw_at lw_m5 235 rfl) rfl
theorem q1317 : (Jvm.Cond.code ({ cls := "FifthCard", name := "wrong", desc := "(I)I" } : Jvm.MethodName) prog_1_method_60_code (2 : Nat) (Option.some Jvm.ClassFile.FieldType.int)) ∈ lw_all := lw_g (lw_at lw_m5 236 rfl) rfl
theorem q1318 : (Jvm.Cond.methodLink "FifthCard" (323 : Nat) ({ cls := "FifthCard", name := "firstWrong", desc := "(I)I" } : Jvm.MethodName)) ∈ lw_all := lw_g (lw_at lw_m5 237 rfl) rfl
theorem q1319 : (Jvm.Cond.privateMethod ({ cls := "FifthCard", name := "firstWrong", desc := "(I)I" } : Jvm.MethodName)) ∈ lw_tbl := lw_at lw_m5 238 rfl
theorem q1320 : (Jvm.Cond.instanceMethod ({ cls := "FifthCard", name := "firstWrong", desc := "(I)I" } : Jvm.MethodName)) ∈ lw_all := lw_g (lw_at lw_m5 239 rfl) rfl
theorem q1321 : (Jvm.Cond.code ({ cls := "FifthCard", name := "firstWrong", desc := "(I)I" } : Jvm.MethodName) prog_1_method_58_code (3 : Nat) (Option.some Jvm.ClassFile.FieldType.int)) ∈ lw_all := lw_g (lw_at lw_m6 0 rfl) rfl
theorem q1323 : (Jvm.Cond.instanceMethod ({ cls := "FifthCard", name := "found", desc := "()I" } : Jvm.MethodName)) ∈ lw_all := lw_g (lw_at lw_m6 2 rfl) rfl
theorem q1324 : (Jvm.Cond.selects "FifthCard" ({ cls := "FifthCard", name := "found", desc := "()I" } : Jvm.MethodName) ({ cls := "FifthCard", name := "found", desc := "()I" } : Jvm.MethodName)) ∈ lw_all := lw_g (lw_at lw_m6 3 rfl) rfl
theorem q1325 : (Jvm.Cond.code ({ cls := "FifthCard", name := "found", desc := "()I" } : Jvm.MethodName) prog_1_method_61_code (3 : Nat) (Option.some Jvm.ClassFile.FieldType.int)) ∈ lw_all := lw_g (lw_at lw_m6 4 rfl) rfl
theorem q1327 : (Jvm.Cond.instanceMethod ({ cls := "FifthCard", name := "apart", desc := "(II)I" } : Jvm.MethodName)) ∈ lw_all := lw_g (lw_at lw_m6 6 rfl) rfl
theorem q1328 : (Jvm.Cond.selects "FifthCard" ({ cls := "FifthCard", name := "apart", desc := "(II)I" } : Jvm.MethodName) ({ cls := "FifthCard", name := "apart", desc := "(II)I" } : Jvm.MethodName)) ∈ lw_all := lw_g (lw_at lw_m6 7 rfl) rfl
theorem q1329 : (Jvm.Cond.code ({ cls := "FifthCard", name := "apart", desc := "(II)I" } : Jvm.MethodName) prog_1_method_64_code (3 : Nat) (Option.some Jvm.ClassFile.FieldType.int)) ∈ lw_all := lw_g (lw_at lw_m6 8 rfl) rfl
theorem q1330 : (Jvm.Cond.methodLink "FifthCard" (326 : Nat) ({ cls := "FifthCard", name := "arePair", desc := "(II)Z" } : Jvm.MethodName)) ∈ lw_all := lw_g (lw_at lw_m6 9 rfl) rfl
theorem q1331 : (Jvm.Cond.privateMethod ({ cls := "FifthCard", name := "arePair", desc := "(II)Z" } : Jvm.MethodName)) ∈ lw_tbl := lw_at lw_m6 10 rfl
theorem q1332 : (Jvm.Cond.instanceMethod ({ cls := "FifthCard", name := "arePair", desc := "(II)Z" } : Jvm.MethodName)) ∈ lw_all := lw_g (lw_at lw_m6 11 rfl) rfl
theorem q1333 : (Jvm.Cond.code ({ cls := "FifthCard", name := "arePair", desc := "(II)Z" } : Jvm.MethodName) prog_1_method_63_code (3 : Nat) (Option.some Jvm.ClassFile.FieldType.boolean)) ∈ lw_all := lw_g (lw_at lw_m6 12 rfl) rfl
theorem q1334 : (Jvm.Cond.methodLink "FifthCard" (329 : Nat) ({ cls := "FifthCard", name := "apartOf", desc := "(II)I" } : Jvm.MethodName)) ∈ lw_all := lw_g (lw_at lw_m6 13 rfl) rfl
theorem q1335 : (Jvm.Cond.privateMethod ({ cls := "FifthCard", name := "apartOf", desc := "(II)I" } : Jvm.MethodName)) ∈ lw_tbl := lw_at lw_m6 14 rfl
theorem q1336 : (Jvm.Cond.instanceMethod ({ cls := "FifthCard", name := "apartOf", desc := "(II)I" } : Jvm.MethodName)) ∈ lw_all := lw_g (lw_at lw_m6 15 rfl) rfl
theorem q1337 : (Jvm.Cond.code ({ cls := "FifthCard", name := "apartOf", desc := "(II)I" } : Jvm.MethodName) prog_1_method_62_code (5 : Nat) (Option.some Jvm.ClassFile.FieldType.int)) ∈ lw_all := lw_g (lw_at lw_m6 16 rfl) rfl
theorem q1339 : (Jvm.Cond.instanceMethod ({ cls := "FifthCard", name := "mean", desc := "(IIZ)I" } : Jvm.MethodName)) ∈ lw_all := lw_g (lw_at lw_m6 18 rfl) rfl
theorem q1340 : (Jvm.Cond.selects "FifthCard" ({ cls := "FifthCard", name := "mean", desc := "(IIZ)I" } : Jvm.MethodName) ({ cls := "FifthCard", name := "mean", desc := "(IIZ)I" } : Jvm.MethodName)) ∈ lw_all := lw_g (lw_at lw_m6 19 rfl) rfl
theorem q1341 : (Jvm.Cond.code ({ cls := "FifthCard", name := "mean", desc := "(IIZ)I" } : Jvm.MethodName) prog_1_method_65_code (6 : Nat) (Option.some Jvm.ClassFile.FieldType.int)) ∈ lw_all := lw_g (lw_at lw_m6 20 rfl) rfl
theorem q1342 : (Jvm.Cond.methodLink "FifthCard" (332 : Nat) ({ cls := "FifthCard", name := "common", desc := "(II)I" } : Jvm.MethodName)) ∈ lw_all := lw_g (lw_at lw_m6 21 rfl) rfl
theorem q1343 : (Jvm.Cond.static ({ cls := "FifthCard", name := "common", desc := "(II)I" } : Jvm.MethodName)) ∈ lw_all := lw_g (lw_at lw_m6 22 rfl) rfl
theorem q1344 : (Jvm.Cond.code ({ cls := "FifthCard", name := "common", desc := "(II)I" } : Jvm.MethodName) prog_1_method_6_code (5 : Nat) (Option.some Jvm.ClassFile.FieldType.int)) ∈ lw_all := lw_g (lw_at lw_m6 23 rfl) rfl
theorem q1346 : (Jvm.Cond.instanceMethod ({ cls := "FifthCard", name := "hardest", desc := "()I" } : Jvm.MethodName)) ∈ lw_all := lw_g (lw_at lw_m6 25 rfl) rfl
theorem q1347 : (Jvm.Cond.selects "FifthCard" ({ cls := "FifthCard", name := "hardest", desc := "()I" } : Jvm.MethodName) ({ cls := "FifthCard", name := "hardest", desc := "()I" } : Jvm.MethodName)) ∈ lw_all := lw_g (lw_at lw_m6 26 rfl) rfl
theorem q1348 : (Jvm.Cond.code ({ cls := "FifthCard", name := "hardest", desc := "()I" } : Jvm.MethodName) prog_1_method_67_code (3 : Nat) (Option.some Jvm.ClassFile.FieldType.int)) ∈ lw_all := lw_g (lw_at lw_m6 27 rfl) rfl
theorem q1349 : (Jvm.Cond.methodLink "FifthCard" (340 : Nat) ({ cls := "FifthCard", name := "nearest", desc := "(I)I" } : Jvm.MethodName)) ∈ lw_all := lw_g (lw_at lw_m6 28 rfl) rfl
theorem q1350 : (Jvm.Cond.privateMethod ({ cls := "FifthCard", name := "nearest", desc := "(I)I" } : Jvm.MethodName)) ∈ lw_tbl := lw_at lw_m6 29 rfl
theorem q1351 : (Jvm.Cond.instanceMethod ({ cls := "FifthCard", name := "nearest", desc := "(I)I" } : Jvm.MethodName)) ∈ lw_all := lw_g (lw_at lw_m6 30 rfl) rfl
theorem q1352 : (Jvm.Cond.code ({ cls := "FifthCard", name := "nearest", desc := "(I)I" } : Jvm.MethodName) prog_1_method_66_code (4 : Nat) (Option.some Jvm.ClassFile.FieldType.int)) ∈ lw_all := lw_g (lw_at lw_m6 31 rfl) rfl
theorem q1353 : (Jvm.Cond.methodLink "FifthCard" (335 : Nat) ({ cls := "java/lang/Math", name := "min", desc := "(II)I" } : Jvm.MethodName)) ∈ lw_all := lw_g (lw_at lw_m6 32 rfl) rfl
theorem q1355 : (Jvm.Cond.instanceMethod ({ cls := "FifthCard", name := "shows", desc := "(II)I" } : Jvm.MethodName)) ∈ lw_all := lw_g (lw_at lw_m6 34 rfl) rfl
theorem q1356 : (Jvm.Cond.selects "FifthCard" ({ cls := "FifthCard", name := "shows", desc := "(II)I" } : Jvm.MethodName) ({ cls := "FifthCard", name := "shows", desc := "(II)I" } : Jvm.MethodName)) ∈ lw_all := lw_g (lw_at lw_m6 35 rfl) rfl
theorem q1357 : (Jvm.Cond.code ({ cls := "FifthCard", name := "shows", desc := "(II)I" } : Jvm.MethodName) prog_1_method_68_code (4 : Nat) (Option.some Jvm.ClassFile.FieldType.int)) ∈ lw_all := lw_g (lw_at lw_m6 36 rfl) rfl
theorem q1359 : (Jvm.Cond.instanceMethod ({ cls := "FifthCard", name := "seed", desc := "(I)Z" } : Jvm.MethodName)) ∈ lw_all := lw_g (lw_at lw_m6 38 rfl) rfl
theorem q1360 : (Jvm.Cond.selects "FifthCard" ({ cls := "FifthCard", name := "seed", desc := "(I)Z" } : Jvm.MethodName) ({ cls := "FifthCard", name := "seed", desc := "(I)Z" } : Jvm.MethodName)) ∈ lw_all := lw_g (lw_at lw_m6 39 rfl) rfl
theorem q1361 : (Jvm.Cond.code ({ cls := "FifthCard", name := "seed", desc := "(I)Z" } : Jvm.MethodName) prog_1_method_69_code (2 : Nat) (Option.some Jvm.ClassFile.FieldType.boolean)) ∈ lw_all := lw_g (lw_at lw_m6 40 rfl) rfl
theorem q1362 : (Jvm.Cond.constant "FifthCard" (343 : Nat) (65536 : Int32)) ∈ lw_all := lw_g (lw_at lw_m6 41 rfl) rfl
theorem q1363 : (Jvm.Cond.methodLink "FifthCard" (344 : Nat) ({ cls := "FifthCard", name := "yes", desc := "(I)Z" } : Jvm.MethodName)) ∈ lw_all := lw_g (lw_at lw_m6 42 rfl) rfl
theorem q1364 : (Jvm.Cond.privateMethod ({ cls := "FifthCard", name := "yes", desc := "(I)Z" } : Jvm.MethodName)) ∈ lw_tbl := lw_at lw_m6 43 rfl
theorem q1365 : (Jvm.Cond.instanceMethod ({ cls := "FifthCard", name := "yes", desc := "(I)Z" } : Jvm.MethodName)) ∈ lw_all := lw_g (lw_at lw_m6 44 rfl) rfl
theorem q1366 : (Jvm.Cond.code ({ cls := "FifthCard", name := "yes", desc := "(I)Z" } : Jvm.MethodName) prog_1_method_13_code (2 : Nat) (Option.some Jvm.ClassFile.FieldType.boolean)) ∈ lw_all := lw_g (lw_at lw_m6 45 rfl) rfl
theorem q1368 : (Jvm.Cond.instanceMethod ({ cls := "FifthCard", name := "draw", desc := "()I" } : Jvm.MethodName)) ∈ lw_all := lw_g (lw_at lw_m6 47 rfl) rfl
theorem q1369 : (Jvm.Cond.selects "FifthCard" ({ cls := "FifthCard", name := "draw", desc := "()I" } : Jvm.MethodName) ({ cls := "FifthCard", name := "draw", desc := "()I" } : Jvm.MethodName)) ∈ lw_all := lw_g (lw_at lw_m6 48 rfl) rfl
theorem q1370 : (Jvm.Cond.code ({ cls := "FifthCard", name := "draw", desc := "()I" } : Jvm.MethodName) prog_1_method_70_code (1 : Nat) (Option.some Jvm.ClassFile.FieldType.int)) ∈ lw_all := lw_g (lw_at lw_m6 49 rfl) rfl
theorem q1371 : (Jvm.Cond.constant "FifthCard" (347 : Nat) (65537 : Int32)) ∈ lw_all := lw_g (lw_at lw_m6 50 rfl) rfl
theorem q1373 : (Jvm.Cond.instanceMethod ({ cls := "FifthCard", name := "strike", desc := "()Z" } : Jvm.MethodName)) ∈ lw_all := lw_g (lw_at lw_m6 52 rfl) rfl
theorem q1374 : (Jvm.Cond.selects "FifthCard" ({ cls := "FifthCard", name := "strike", desc := "()Z" } : Jvm.MethodName) ({ cls := "FifthCard", name := "strike", desc := "()Z" } : Jvm.MethodName)) ∈ lw_all := lw_g (lw_at lw_m6 53 rfl) rfl
theorem q1375 : (Jvm.Cond.code ({ cls := "FifthCard", name := "strike", desc := "()Z" } : Jvm.MethodName) prog_1_method_71_code (1 : Nat) (Option.some Jvm.ClassFile.FieldType.boolean)) ∈ lw_all := lw_g (lw_at lw_m6 54 rfl) rfl
theorem q1377 : (Jvm.Cond.instanceMethod ({ cls := "FifthCard", name := "image", desc := "()I" } : Jvm.MethodName)) ∈ lw_all := lw_g (lw_at lw_m6 56 rfl) rfl
theorem q1378 : (Jvm.Cond.selects "FifthCard" ({ cls := "FifthCard", name := "image", desc := "()I" } : Jvm.MethodName) ({ cls := "FifthCard", name := "image", desc := "()I" } : Jvm.MethodName)) ∈ lw_all := lw_g (lw_at lw_m6 57 rfl) rfl
theorem q1379 : (Jvm.Cond.code ({ cls := "FifthCard", name := "image", desc := "()I" } : Jvm.MethodName) prog_1_method_72_code (1 : Nat) (Option.some Jvm.ClassFile.FieldType.int)) ∈ lw_all := lw_g (lw_at lw_m6 58 rfl) rfl
theorem q1380 : (Jvm.Cond.methodLink "FifthCard" (348 : Nat) ({ cls := "FifthCard$Log", name := "become", desc := "(LFifthCard$Log;)V" } : Jvm.MethodName)) ∈ lw_all := lw_g (lw_at lw_m6 59 rfl) rfl
theorem q1388 : (Jvm.Cond.instanceMethod ({ cls := "FifthCard", name := "back", desc := "(I)Z" } : Jvm.MethodName)) ∈ lw_all := lw_g (lw_at lw_m6 67 rfl) rfl
theorem q1389 : (Jvm.Cond.selects "FifthCard" ({ cls := "FifthCard", name := "back", desc := "(I)Z" } : Jvm.MethodName) ({ cls := "FifthCard", name := "back", desc := "(I)Z" } : Jvm.MethodName)) ∈ lw_all := lw_g (lw_at lw_m6 68 rfl) rfl
theorem q1390 : (Jvm.Cond.code ({ cls := "FifthCard", name := "back", desc := "(I)Z" } : Jvm.MethodName) prog_1_method_73_code (2 : Nat) (Option.some Jvm.ClassFile.FieldType.boolean)) ∈ lw_all := lw_g (lw_at lw_m6 69 rfl) rfl
theorem q1392 : (Jvm.Cond.instanceMethod ({ cls := "FifthCard", name := "size", desc := "(I)I" } : Jvm.MethodName)) ∈ lw_all := lw_g (lw_at lw_m6 71 rfl) rfl
theorem q1393 : (Jvm.Cond.selects "FifthCard" ({ cls := "FifthCard", name := "size", desc := "(I)I" } : Jvm.MethodName) ({ cls := "FifthCard", name := "size", desc := "(I)I" } : Jvm.MethodName)) ∈ lw_all := lw_g (lw_at lw_m6 72 rfl) rfl
theorem q1394 : (Jvm.Cond.code ({ cls := "FifthCard", name := "size", desc := "(I)I" } : Jvm.MethodName) prog_1_method_75_code (2 : Nat) (Option.some Jvm.ClassFile.FieldType.int)) ∈ lw_all := lw_g (lw_at lw_m6 73 rfl) rfl
theorem q1396 : (Jvm.Cond.instanceMethod ({ cls := "FifthCard", name := "words", desc := "(I)I" } : Jvm.MethodName)) ∈ lw_all := lw_g (lw_at lw_m6 75 rfl) rfl
theorem q1397 : (Jvm.Cond.selects "FifthCard" ({ cls := "FifthCard", name := "words", desc := "(I)I" } : Jvm.MethodName) ({ cls := "FifthCard", name := "words", desc := "(I)I" } : Jvm.MethodName)) ∈ lw_all := lw_g (lw_at lw_m6 76 rfl) rfl
theorem q1398 : (Jvm.Cond.code ({ cls := "FifthCard", name := "words", desc := "(I)I" } : Jvm.MethodName) prog_1_method_76_code (2 : Nat) (Option.some Jvm.ClassFile.FieldType.int)) ∈ lw_all := lw_g (lw_at lw_m6 77 rfl) rfl
theorem q1399 : (Jvm.Cond.methodLink "FifthCard" (367 : Nat) ({ cls := "FifthCard$Rule", name := "words", desc := "()I" } : Jvm.MethodName)) ∈ lw_all := lw_g (lw_at lw_m6 78 rfl) rfl
theorem q1412 : (Jvm.Cond.instanceMethod ({ cls := "FifthCard", name := "trouble", desc := "()I" } : Jvm.MethodName)) ∈ lw_all := lw_g (lw_at lw_m6 91 rfl) rfl
theorem q1413 : (Jvm.Cond.selects "FifthCard" ({ cls := "FifthCard", name := "trouble", desc := "()I" } : Jvm.MethodName) ({ cls := "FifthCard", name := "trouble", desc := "()I" } : Jvm.MethodName)) ∈ lw_all := lw_g (lw_at lw_m6 92 rfl) rfl
theorem q1414 : (Jvm.Cond.code ({ cls := "FifthCard", name := "trouble", desc := "()I" } : Jvm.MethodName) prog_1_method_77_code (1 : Nat) (Option.some Jvm.ClassFile.FieldType.int)) ∈ lw_all := lw_g (lw_at lw_m6 93 rfl) rfl
theorem q1420 : (Jvm.Cond.instanceMethod ({ cls := "FifthCard", name := "led", desc := "(II)I" } : Jvm.MethodName)) ∈ lw_all := lw_g (lw_at lw_m6 99 rfl) rfl
theorem q1421 : (Jvm.Cond.selects "FifthCard" ({ cls := "FifthCard", name := "led", desc := "(II)I" } : Jvm.MethodName) ({ cls := "FifthCard", name := "led", desc := "(II)I" } : Jvm.MethodName)) ∈ lw_all := lw_g (lw_at lw_m6 100 rfl) rfl
theorem q1422 : (Jvm.Cond.code ({ cls := "FifthCard", name := "led", desc := "(II)I" } : Jvm.MethodName) prog_1_method_74_code (5 : Nat) (Option.some Jvm.ClassFile.FieldType.int)) ∈ lw_all := lw_g (lw_at lw_m6 101 rfl) rfl
theorem q1423 : (Jvm.Cond.classLink "FifthCard" (352 : Nat) "java/util/NoSuchElementException") ∈ lw_all := lw_g (lw_at lw_m6 102 rfl) rfl
theorem q1432 : (Jvm.Cond.methodLink "FifthCard" (354 : Nat) ({ cls := "java/util/NoSuchElementException", name := "<init>", desc := "()V" } : Jvm.MethodName)) ∈ lw_all := lw_g (lw_at lw_m6 111 rfl) rfl
theorem q2225 : (Jvm.Cond.castable "FifthCard" "java/lang/Object") ∈ lw_tbl := lw_at lw_m9 184 rfl
theorem in_X1 : ∀ w ∈ wsX10, w ∈ lw_all := lw_in wsX10 [489, 491, 493, 495, 497, 499, 501, 503, 505, 507, 509, 511, 513, 515, 517, 519] (by decide +kernel) (by decide +kernel)
