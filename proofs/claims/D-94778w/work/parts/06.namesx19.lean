/-! FifthCardModel -/
set_option maxRecDepth 100000
def RX19 : String := "FifthCardModel"
def TX19 : u_T := fun k => match k with
  | 0 => ("FifthCardModel", "thrown", "I", false)
  | 1 => ("FifthCardModel", "trouble", "I", false)
  | 2 => ("FifthCardModel", "where", "I", false)
  | 3 => ("FifthCardModel", "trick", "LFifthCardModel$Trick;", false)
  | 4 => ("FifthCardModel", "read", "LFifthCardModel$Trick;", false)
  | 5 => ("FifthCardModel", "tape", "[B", true)
  | 6 => ("FifthCardModel", "taped", "I", false)
  | 7 => ("FifthCardModel", "size", "I", false)
  | 8 => ("FifthCardModel", "at", "I", false)
  | 9 => ("FifthCardModel", "sort", "I", false)
  | 10 => ("FifthCardModel", "place", "I", false)
  | 11 => ("FifthCardModel", "sign", "I", false)
  | 12 => ("FifthCardModel", "number", "I", false)
  | 13 => ("FifthCardModel", "fault", "I", false)
  | 14 => ("FifthCardModel", "wrongAt", "I", false)
  | 15 => ("FifthCardModel", "word", "J", false)
  | 16 => ("FifthCardModel", "cards", "[B", true)
  | 17 => ("FifthCardModel", "hands", "I", false)
  | 18 => ("FifthCardModel", "pick", "[I", true)
  | 19 => ("FifthCardModel", "shown", "[I", true)
  | 20 => ("FifthCardModel", "sorted", "[I", true)
  | 21 => ("FifthCardModel", "fit", "[I", true)
  | 22 => ("FifthCardModel", "fitMany", "I", false)
  | 23 => ("FifthCardModel", "codes", "[I", true)
  | 24 => ("FifthCardModel", "codeMany", "I", false)
  | 25 => ("FifthCardModel", "laidRow", "[I", true)
  | 26 => ("FifthCardModel", "changed", "[I", true)
  | 27 => ("FifthCardModel", "key", "[I", true)
  | 28 => ("FifthCardModel", "owner", "[I", true)
  | 29 => ("FifthCardModel", "paired", "[I", true)
  | 30 => ("FifthCardModel", "queue", "[I", true)
  | 31 => ("FifthCardModel", "cameFrom", "[I", true)
  | 32 => ("FifthCardModel", "isDone", "[Z", true)
  | 33 => ("FifthCardModel", "tableRow", "[I", true)
  | 34 => ("FifthCardModel", "candidates", "[I", true)
  | 35 => ("FifthCardModel", "isTableKnown", "Z", false)
  | 36 => ("FifthCardModel", "hasTable", "Z", false)
  | 37 => ("FifthCardModel", "eveningHand", "[I", true)
  | 38 => ("FifthCardModel", "eveningRow", "[I", true)
  | 39 => ("FifthCardModel", "keptHand", "[I", true)
  | 40 => ("FifthCardModel", "keptRow", "[I", true)
  | 41 => ("FifthCardModel", "keptMany", "[I", true)
  | 42 => ("FifthCardModel", "keptSeed", "[I", true)
  | 43 => ("FifthCardModel", "evenings", "I", false)
  | 44 => ("FifthCardModel", "images", "I", false)
  | _ => ("FifthCardModel", "seed", "I", false)
def tyX19 : Nat → FieldType := fun k => match k with
  | 0 => .int
  | 1 => .int
  | 2 => .int
  | 3 => .object "FifthCardModel$Trick"
  | 4 => .object "FifthCardModel$Trick"
  | 5 => .array .byte
  | 6 => .int
  | 7 => .int
  | 8 => .int
  | 9 => .int
  | 10 => .int
  | 11 => .int
  | 12 => .int
  | 13 => .int
  | 14 => .int
  | 15 => .long
  | 16 => .array .byte
  | 17 => .int
  | 18 => .array .int
  | 19 => .array .int
  | 20 => .array .int
  | 21 => .array .int
  | 22 => .int
  | 23 => .array .int
  | 24 => .int
  | 25 => .array .int
  | 26 => .array .int
  | 27 => .array .int
  | 28 => .array .int
  | 29 => .array .int
  | 30 => .array .int
  | 31 => .array .int
  | 32 => .array .boolean
  | 33 => .array .int
  | 34 => .array .int
  | 35 => .boolean
  | 36 => .boolean
  | 37 => .array .int
  | 38 => .array .int
  | 39 => .array .int
  | 40 => .array .int
  | 41 => .array .int
  | 42 => .array .int
  | 43 => .int
  | 44 => .int
  | _ => .int
abbrev wsX190 : List Cond := u_ws RX19 TX19 46
set_option maxRecDepth 100000 in
theorem nmX19 : ∀ a, a < 46 → ∀ b, b < 46 → a ≠ b → (TX19 a).2.1 ≠ (TX19 b).2.1 := by decide +kernel
set_option maxRecDepth 100000 in
theorem tyX19_ok : ∀ k, k < 46 → parseFieldDescriptor (TX19 k).2.2.1 = some (tyX19 k) := by decide +kernel
abbrev cX19_init : ByteArray := prog_23_method_1_code
def yX19_init : MethodName := ⟨RX19, "<init>", "()V"⟩
def dkwX19_init_8 : List UInt8 := [188, 10, 181, 0, 80, 42, 6, 188, 10, 181, 0, 83, 177]
abbrev dktX19_init_8 : List UInt8 := dkwX19_init_8 ++ []
def dkwX19_init_7 : List UInt8 := [188, 10, 181, 0, 71, 42, 16, 60, 188, 10, 181, 0, 74, 42, 16, 60, 188, 10, 181, 0, 77, 42, 6]
abbrev dktX19_init_7 : List UInt8 := dkwX19_init_7 ++ dktX19_init_8
def dkwX19_init_6 : List UInt8 := [181, 0, 62, 42, 17, 7, 128, 188, 10, 181, 0, 65, 42, 16, 20, 188, 10, 181, 0, 68, 42, 16, 20]
abbrev dktX19_init_6 : List UInt8 := dkwX19_init_6 ++ dktX19_init_7
def dkwX19_init_5 : List UInt8 := [17, 7, 208, 188, 10, 181, 0, 55, 42, 17, 7, 208, 188, 4, 181, 0, 58, 42, 17, 1, 44, 188, 10]
abbrev dktX19_init_5 : List UInt8 := dkwX19_init_5 ++ dktX19_init_6
def dkwX19_init_4 : List UInt8 := [181, 0, 46, 42, 17, 7, 208, 188, 10, 181, 0, 49, 42, 17, 7, 208, 188, 10, 181, 0, 52, 42]
abbrev dktX19_init_4 : List UInt8 := dkwX19_init_4 ++ dktX19_init_5
def dkwX19_init_3 : List UInt8 := [181, 0, 36, 42, 8, 188, 10, 181, 0, 39, 42, 18, 42, 188, 10, 181, 0, 43, 42, 18, 42, 188, 10]
abbrev dktX19_init_3 : List UInt8 := dkwX19_init_3 ++ dktX19_init_4
def dkwX19_init_2 : List UInt8 := [42, 17, 7, 128, 188, 10, 181, 0, 30, 42, 16, 120, 188, 10, 181, 0, 33, 42, 17, 7, 208, 188, 10]
abbrev dktX19_init_2 : List UInt8 := dkwX19_init_2 ++ dktX19_init_3
def dkwX19_init_1 : List UInt8 := [181, 0, 17, 42, 8, 188, 10, 181, 0, 20, 42, 8, 188, 10, 181, 0, 24, 42, 8, 188, 10, 181, 0, 27]
abbrev dktX19_init_1 : List UInt8 := dkwX19_init_1 ++ dktX19_init_2
def dkwX19_init_0 : List UInt8 := [42, 183, 0, 1, 42, 2, 181, 0, 9, 42, 17, 3, 132, 188, 8, 181, 0, 13, 42, 17, 39, 16, 188, 8]
abbrev dktX19_init_0 : List UInt8 := dkwX19_init_0 ++ dktX19_init_1
theorem dksX19_init_0 : cX19_init.data.toList.drop 0 = dktX19_init_0 := by decide +kernel
theorem dksX19_init_1 : cX19_init.data.toList.drop 24 = dktX19_init_1 := dk_seg dksX19_init_0 24 rfl rfl
theorem dksX19_init_2 : cX19_init.data.toList.drop 48 = dktX19_init_2 := dk_seg dksX19_init_1 24 rfl rfl
theorem dksX19_init_3 : cX19_init.data.toList.drop 71 = dktX19_init_3 := dk_seg dksX19_init_2 23 rfl rfl
theorem dksX19_init_4 : cX19_init.data.toList.drop 94 = dktX19_init_4 := dk_seg dksX19_init_3 23 rfl rfl
theorem dksX19_init_5 : cX19_init.data.toList.drop 116 = dktX19_init_5 := dk_seg dksX19_init_4 22 rfl rfl
theorem dksX19_init_6 : cX19_init.data.toList.drop 139 = dktX19_init_6 := dk_seg dksX19_init_5 23 rfl rfl
theorem dksX19_init_7 : cX19_init.data.toList.drop 162 = dktX19_init_7 := dk_seg dksX19_init_6 23 rfl rfl
theorem dksX19_init_8 : cX19_init.data.toList.drop 185 = dktX19_init_8 := dk_seg dksX19_init_7 23 rfl rfl
theorem dX19_init_0 : decode cX19_init 0 = .ok (.aload_n 0, 1) := dk_42 (dk_at dksX19_init_0 0 rfl rfl)
theorem dX19_init_1 : decode cX19_init 1 = .ok (.invokespecial 1, 3) := dk_183 0 1 (dk_at dksX19_init_0 1 rfl rfl)
theorem dX19_init_4 : decode cX19_init 4 = .ok (.aload_n 0, 1) := dk_42 (dk_at dksX19_init_0 4 rfl rfl)
theorem dX19_init_5 : decode cX19_init 5 = .ok (.iconst (-1), 1) := dk_2 (dk_at dksX19_init_0 5 rfl rfl)
theorem dX19_init_6 : decode cX19_init 6 = .ok (.putfield 9, 3) := dk_181 0 9 (dk_at dksX19_init_0 6 rfl rfl)
theorem dX19_init_9 : decode cX19_init 9 = .ok (.aload_n 0, 1) := dk_42 (dk_at dksX19_init_0 9 rfl rfl)
theorem dX19_init_10 : decode cX19_init 10 = .ok (.sipush 900, 3) := dk_17 3 132 (dk_at dksX19_init_0 10 rfl rfl)
theorem dX19_init_13 : decode cX19_init 13 = .ok (.newarray .byte, 2) := dk_188_8 (dk_at dksX19_init_0 13 rfl rfl)
theorem dX19_init_15 : decode cX19_init 15 = .ok (.putfield 13, 3) := dk_181 0 13 (dk_at dksX19_init_0 15 rfl rfl)
theorem dX19_init_18 : decode cX19_init 18 = .ok (.aload_n 0, 1) := dk_42 (dk_at dksX19_init_0 18 rfl rfl)
theorem dX19_init_19 : decode cX19_init 19 = .ok (.sipush 10000, 3) := dk_17 39 16 (dk_at dksX19_init_0 19 rfl rfl)
theorem dX19_init_22 : decode cX19_init 22 = .ok (.newarray .byte, 2) := dk_188_8 (dk_at dksX19_init_0 22 rfl rfl)
theorem dX19_init_24 : decode cX19_init 24 = .ok (.putfield 17, 3) := dk_181 0 17 (dk_at dksX19_init_1 0 rfl rfl)
theorem dX19_init_27 : decode cX19_init 27 = .ok (.aload_n 0, 1) := dk_42 (dk_at dksX19_init_1 3 rfl rfl)
theorem dX19_init_28 : decode cX19_init 28 = .ok (.iconst 5, 1) := dk_8 (dk_at dksX19_init_1 4 rfl rfl)
theorem dX19_init_29 : decode cX19_init 29 = .ok (.newarray .int, 2) := dk_188_10 (dk_at dksX19_init_1 5 rfl rfl)
theorem dX19_init_31 : decode cX19_init 31 = .ok (.putfield 20, 3) := dk_181 0 20 (dk_at dksX19_init_1 7 rfl rfl)
theorem dX19_init_34 : decode cX19_init 34 = .ok (.aload_n 0, 1) := dk_42 (dk_at dksX19_init_1 10 rfl rfl)
theorem dX19_init_35 : decode cX19_init 35 = .ok (.iconst 5, 1) := dk_8 (dk_at dksX19_init_1 11 rfl rfl)
theorem dX19_init_36 : decode cX19_init 36 = .ok (.newarray .int, 2) := dk_188_10 (dk_at dksX19_init_1 12 rfl rfl)
theorem dX19_init_38 : decode cX19_init 38 = .ok (.putfield 24, 3) := dk_181 0 24 (dk_at dksX19_init_1 14 rfl rfl)
theorem dX19_init_41 : decode cX19_init 41 = .ok (.aload_n 0, 1) := dk_42 (dk_at dksX19_init_1 17 rfl rfl)
theorem dX19_init_42 : decode cX19_init 42 = .ok (.iconst 5, 1) := dk_8 (dk_at dksX19_init_1 18 rfl rfl)
theorem dX19_init_43 : decode cX19_init 43 = .ok (.newarray .int, 2) := dk_188_10 (dk_at dksX19_init_1 19 rfl rfl)
theorem dX19_init_45 : decode cX19_init 45 = .ok (.putfield 27, 3) := dk_181 0 27 (dk_at dksX19_init_1 21 rfl rfl)
theorem dX19_init_48 : decode cX19_init 48 = .ok (.aload_n 0, 1) := dk_42 (dk_at dksX19_init_2 0 rfl rfl)
theorem dX19_init_49 : decode cX19_init 49 = .ok (.sipush 1920, 3) := dk_17 7 128 (dk_at dksX19_init_2 1 rfl rfl)
theorem dX19_init_52 : decode cX19_init 52 = .ok (.newarray .int, 2) := dk_188_10 (dk_at dksX19_init_2 4 rfl rfl)
theorem dX19_init_54 : decode cX19_init 54 = .ok (.putfield 30, 3) := dk_181 0 30 (dk_at dksX19_init_2 6 rfl rfl)
theorem dX19_init_57 : decode cX19_init 57 = .ok (.aload_n 0, 1) := dk_42 (dk_at dksX19_init_2 9 rfl rfl)
theorem dX19_init_58 : decode cX19_init 58 = .ok (.bipush 120, 2) := dk_16 120 (dk_at dksX19_init_2 10 rfl rfl)
theorem dX19_init_60 : decode cX19_init 60 = .ok (.newarray .int, 2) := dk_188_10 (dk_at dksX19_init_2 12 rfl rfl)
theorem dX19_init_62 : decode cX19_init 62 = .ok (.putfield 33, 3) := dk_181 0 33 (dk_at dksX19_init_2 14 rfl rfl)
theorem dX19_init_65 : decode cX19_init 65 = .ok (.aload_n 0, 1) := dk_42 (dk_at dksX19_init_2 17 rfl rfl)
theorem dX19_init_66 : decode cX19_init 66 = .ok (.sipush 2000, 3) := dk_17 7 208 (dk_at dksX19_init_2 18 rfl rfl)
theorem dX19_init_69 : decode cX19_init 69 = .ok (.newarray .int, 2) := dk_188_10 (dk_at dksX19_init_2 21 rfl rfl)
theorem dX19_init_71 : decode cX19_init 71 = .ok (.putfield 36, 3) := dk_181 0 36 (dk_at dksX19_init_3 0 rfl rfl)
theorem dX19_init_74 : decode cX19_init 74 = .ok (.aload_n 0, 1) := dk_42 (dk_at dksX19_init_3 3 rfl rfl)
theorem dX19_init_75 : decode cX19_init 75 = .ok (.iconst 5, 1) := dk_8 (dk_at dksX19_init_3 4 rfl rfl)
theorem dX19_init_76 : decode cX19_init 76 = .ok (.newarray .int, 2) := dk_188_10 (dk_at dksX19_init_3 5 rfl rfl)
theorem dX19_init_78 : decode cX19_init 78 = .ok (.putfield 39, 3) := dk_181 0 39 (dk_at dksX19_init_3 7 rfl rfl)
theorem dX19_init_81 : decode cX19_init 81 = .ok (.aload_n 0, 1) := dk_42 (dk_at dksX19_init_3 10 rfl rfl)
theorem dX19_init_82 : decode cX19_init 82 = .ok (.ldc 42, 2) := dk_18 42 (dk_at dksX19_init_3 11 rfl rfl)
theorem dX19_init_84 : decode cX19_init 84 = .ok (.newarray .int, 2) := dk_188_10 (dk_at dksX19_init_3 13 rfl rfl)
theorem dX19_init_86 : decode cX19_init 86 = .ok (.putfield 43, 3) := dk_181 0 43 (dk_at dksX19_init_3 15 rfl rfl)
theorem dX19_init_89 : decode cX19_init 89 = .ok (.aload_n 0, 1) := dk_42 (dk_at dksX19_init_3 18 rfl rfl)
theorem dX19_init_90 : decode cX19_init 90 = .ok (.ldc 42, 2) := dk_18 42 (dk_at dksX19_init_3 19 rfl rfl)
theorem dX19_init_92 : decode cX19_init 92 = .ok (.newarray .int, 2) := dk_188_10 (dk_at dksX19_init_3 21 rfl rfl)
theorem dX19_init_94 : decode cX19_init 94 = .ok (.putfield 46, 3) := dk_181 0 46 (dk_at dksX19_init_4 0 rfl rfl)
theorem dX19_init_97 : decode cX19_init 97 = .ok (.aload_n 0, 1) := dk_42 (dk_at dksX19_init_4 3 rfl rfl)
theorem dX19_init_98 : decode cX19_init 98 = .ok (.sipush 2000, 3) := dk_17 7 208 (dk_at dksX19_init_4 4 rfl rfl)
theorem dX19_init_101 : decode cX19_init 101 = .ok (.newarray .int, 2) := dk_188_10 (dk_at dksX19_init_4 7 rfl rfl)
theorem dX19_init_103 : decode cX19_init 103 = .ok (.putfield 49, 3) := dk_181 0 49 (dk_at dksX19_init_4 9 rfl rfl)
theorem dX19_init_106 : decode cX19_init 106 = .ok (.aload_n 0, 1) := dk_42 (dk_at dksX19_init_4 12 rfl rfl)
theorem dX19_init_107 : decode cX19_init 107 = .ok (.sipush 2000, 3) := dk_17 7 208 (dk_at dksX19_init_4 13 rfl rfl)
theorem dX19_init_110 : decode cX19_init 110 = .ok (.newarray .int, 2) := dk_188_10 (dk_at dksX19_init_4 16 rfl rfl)
theorem dX19_init_112 : decode cX19_init 112 = .ok (.putfield 52, 3) := dk_181 0 52 (dk_at dksX19_init_4 18 rfl rfl)
theorem dX19_init_115 : decode cX19_init 115 = .ok (.aload_n 0, 1) := dk_42 (dk_at dksX19_init_4 21 rfl rfl)
theorem dX19_init_116 : decode cX19_init 116 = .ok (.sipush 2000, 3) := dk_17 7 208 (dk_at dksX19_init_5 0 rfl rfl)
theorem dX19_init_119 : decode cX19_init 119 = .ok (.newarray .int, 2) := dk_188_10 (dk_at dksX19_init_5 3 rfl rfl)
theorem dX19_init_121 : decode cX19_init 121 = .ok (.putfield 55, 3) := dk_181 0 55 (dk_at dksX19_init_5 5 rfl rfl)
theorem dX19_init_124 : decode cX19_init 124 = .ok (.aload_n 0, 1) := dk_42 (dk_at dksX19_init_5 8 rfl rfl)
theorem dX19_init_125 : decode cX19_init 125 = .ok (.sipush 2000, 3) := dk_17 7 208 (dk_at dksX19_init_5 9 rfl rfl)
theorem dX19_init_128 : decode cX19_init 128 = .ok (.newarray .boolean, 2) := dk_188_4 (dk_at dksX19_init_5 12 rfl rfl)
theorem dX19_init_130 : decode cX19_init 130 = .ok (.putfield 58, 3) := dk_181 0 58 (dk_at dksX19_init_5 14 rfl rfl)
theorem dX19_init_133 : decode cX19_init 133 = .ok (.aload_n 0, 1) := dk_42 (dk_at dksX19_init_5 17 rfl rfl)
theorem dX19_init_134 : decode cX19_init 134 = .ok (.sipush 300, 3) := dk_17 1 44 (dk_at dksX19_init_5 18 rfl rfl)
theorem dX19_init_137 : decode cX19_init 137 = .ok (.newarray .int, 2) := dk_188_10 (dk_at dksX19_init_5 21 rfl rfl)
theorem dX19_init_139 : decode cX19_init 139 = .ok (.putfield 62, 3) := dk_181 0 62 (dk_at dksX19_init_6 0 rfl rfl)
theorem dX19_init_142 : decode cX19_init 142 = .ok (.aload_n 0, 1) := dk_42 (dk_at dksX19_init_6 3 rfl rfl)
theorem dX19_init_143 : decode cX19_init 143 = .ok (.sipush 1920, 3) := dk_17 7 128 (dk_at dksX19_init_6 4 rfl rfl)
theorem dX19_init_146 : decode cX19_init 146 = .ok (.newarray .int, 2) := dk_188_10 (dk_at dksX19_init_6 7 rfl rfl)
theorem dX19_init_148 : decode cX19_init 148 = .ok (.putfield 65, 3) := dk_181 0 65 (dk_at dksX19_init_6 9 rfl rfl)
theorem dX19_init_151 : decode cX19_init 151 = .ok (.aload_n 0, 1) := dk_42 (dk_at dksX19_init_6 12 rfl rfl)
theorem dX19_init_152 : decode cX19_init 152 = .ok (.bipush 20, 2) := dk_16 20 (dk_at dksX19_init_6 13 rfl rfl)
theorem dX19_init_154 : decode cX19_init 154 = .ok (.newarray .int, 2) := dk_188_10 (dk_at dksX19_init_6 15 rfl rfl)
theorem dX19_init_156 : decode cX19_init 156 = .ok (.putfield 68, 3) := dk_181 0 68 (dk_at dksX19_init_6 17 rfl rfl)
theorem dX19_init_159 : decode cX19_init 159 = .ok (.aload_n 0, 1) := dk_42 (dk_at dksX19_init_6 20 rfl rfl)
theorem dX19_init_160 : decode cX19_init 160 = .ok (.bipush 20, 2) := dk_16 20 (dk_at dksX19_init_6 21 rfl rfl)
theorem dX19_init_162 : decode cX19_init 162 = .ok (.newarray .int, 2) := dk_188_10 (dk_at dksX19_init_7 0 rfl rfl)
theorem dX19_init_164 : decode cX19_init 164 = .ok (.putfield 71, 3) := dk_181 0 71 (dk_at dksX19_init_7 2 rfl rfl)
theorem dX19_init_167 : decode cX19_init 167 = .ok (.aload_n 0, 1) := dk_42 (dk_at dksX19_init_7 5 rfl rfl)
theorem dX19_init_168 : decode cX19_init 168 = .ok (.bipush 60, 2) := dk_16 60 (dk_at dksX19_init_7 6 rfl rfl)
theorem dX19_init_170 : decode cX19_init 170 = .ok (.newarray .int, 2) := dk_188_10 (dk_at dksX19_init_7 8 rfl rfl)
theorem dX19_init_172 : decode cX19_init 172 = .ok (.putfield 74, 3) := dk_181 0 74 (dk_at dksX19_init_7 10 rfl rfl)
theorem dX19_init_175 : decode cX19_init 175 = .ok (.aload_n 0, 1) := dk_42 (dk_at dksX19_init_7 13 rfl rfl)
theorem dX19_init_176 : decode cX19_init 176 = .ok (.bipush 60, 2) := dk_16 60 (dk_at dksX19_init_7 14 rfl rfl)
theorem dX19_init_178 : decode cX19_init 178 = .ok (.newarray .int, 2) := dk_188_10 (dk_at dksX19_init_7 16 rfl rfl)
theorem dX19_init_180 : decode cX19_init 180 = .ok (.putfield 77, 3) := dk_181 0 77 (dk_at dksX19_init_7 18 rfl rfl)
theorem dX19_init_183 : decode cX19_init 183 = .ok (.aload_n 0, 1) := dk_42 (dk_at dksX19_init_7 21 rfl rfl)
theorem dX19_init_184 : decode cX19_init 184 = .ok (.iconst 3, 1) := dk_6 (dk_at dksX19_init_7 22 rfl rfl)
theorem dX19_init_185 : decode cX19_init 185 = .ok (.newarray .int, 2) := dk_188_10 (dk_at dksX19_init_8 0 rfl rfl)
theorem dX19_init_187 : decode cX19_init 187 = .ok (.putfield 80, 3) := dk_181 0 80 (dk_at dksX19_init_8 2 rfl rfl)
theorem dX19_init_190 : decode cX19_init 190 = .ok (.aload_n 0, 1) := dk_42 (dk_at dksX19_init_8 5 rfl rfl)
theorem dX19_init_191 : decode cX19_init 191 = .ok (.iconst 3, 1) := dk_6 (dk_at dksX19_init_8 6 rfl rfl)
theorem dX19_init_192 : decode cX19_init 192 = .ok (.newarray .int, 2) := dk_188_10 (dk_at dksX19_init_8 7 rfl rfl)
theorem dX19_init_194 : decode cX19_init 194 = .ok (.putfield 83, 3) := dk_181 0 83 (dk_at dksX19_init_8 9 rfl rfl)
theorem dX19_init_197 : decode cX19_init 197 = .ok (.return_, 1) := dk_177 (dk_at dksX19_init_8 12 rfl rfl)
abbrev cX19_thrown : ByteArray := prog_23_method_2_code
def yX19_thrown : MethodName := ⟨RX19, "thrown", "()I"⟩
theorem dX19_thrown_0 : decode cX19_thrown 0 = .ok (.aload_n 0, 1) := by decide +kernel
theorem dX19_thrown_1 : decode cX19_thrown 1 = .ok (.getfield 86, 3) := by decide +kernel
theorem dX19_thrown_4 : decode cX19_thrown 4 = .ok (.ireturn, 1) := by decide +kernel
abbrev cX19_feed : ByteArray := prog_23_method_34_code
def yX19_feed : MethodName := ⟨RX19, "feed", "(IIIII)I"⟩
def dkwX19_feed_5 : List UInt8 := [180, 1, 66, 172]
abbrev dktX19_feed_5 : List UInt8 := dkwX19_feed_5 ++ []
def dkwX19_feed_4 : List UInt8 := [112, 104, 100, 122, 145, 84, 42, 89, 180, 1, 66, 4, 96, 181, 1, 66, 132, 6, 1, 167, 255, 165, 42]
abbrev dktX19_feed_4 : List UInt8 := dkwX19_feed_4 ++ dktX19_feed_5
def dkwX19_feed_3 : List UInt8 := [167, 0, 5, 21, 5, 54, 7, 42, 180, 0, 13, 42, 180, 1, 66, 21, 7, 16, 24, 16, 8, 21, 6, 7]
abbrev dktX19_feed_3 : List UInt8 := dkwX19_feed_3 ++ dktX19_feed_4
def dkwX19_feed_2 : List UInt8 := [28, 167, 0, 28, 21, 6, 16, 12, 162, 0, 7, 29, 167, 0, 17, 21, 6, 16, 16, 162, 0, 8, 21, 4]
abbrev dktX19_feed_2 : List UInt8 := dkwX19_feed_2 ++ dktX19_feed_3
def dkwX19_feed_1 : List UInt8 := [21, 6, 16, 20, 162, 0, 90, 21, 6, 7, 162, 0, 7, 27, 167, 0, 39, 21, 6, 16, 8, 162, 0, 7]
abbrev dktX19_feed_1 : List UInt8 := dkwX19_feed_1 ++ dktX19_feed_2
def dkwX19_feed_0 : List UInt8 := [42, 3, 181, 0, 86, 42, 180, 1, 66, 16, 20, 96, 17, 3, 132, 164, 0, 5, 2, 172, 3, 54, 6]
abbrev dktX19_feed_0 : List UInt8 := dkwX19_feed_0 ++ dktX19_feed_1
theorem dksX19_feed_0 : cX19_feed.data.toList.drop 0 = dktX19_feed_0 := by decide +kernel
theorem dksX19_feed_1 : cX19_feed.data.toList.drop 23 = dktX19_feed_1 := dk_seg dksX19_feed_0 23 rfl rfl
theorem dksX19_feed_2 : cX19_feed.data.toList.drop 47 = dktX19_feed_2 := dk_seg dksX19_feed_1 24 rfl rfl
theorem dksX19_feed_3 : cX19_feed.data.toList.drop 71 = dktX19_feed_3 := dk_seg dksX19_feed_2 24 rfl rfl
theorem dksX19_feed_4 : cX19_feed.data.toList.drop 95 = dktX19_feed_4 := dk_seg dksX19_feed_3 24 rfl rfl
theorem dksX19_feed_5 : cX19_feed.data.toList.drop 118 = dktX19_feed_5 := dk_seg dksX19_feed_4 23 rfl rfl
theorem dX19_feed_0 : decode cX19_feed 0 = .ok (.aload_n 0, 1) := dk_42 (dk_at dksX19_feed_0 0 rfl rfl)
theorem dX19_feed_1 : decode cX19_feed 1 = .ok (.iconst 0, 1) := dk_3 (dk_at dksX19_feed_0 1 rfl rfl)
theorem dX19_feed_2 : decode cX19_feed 2 = .ok (.putfield 86, 3) := dk_181 0 86 (dk_at dksX19_feed_0 2 rfl rfl)
theorem dX19_feed_5 : decode cX19_feed 5 = .ok (.aload_n 0, 1) := dk_42 (dk_at dksX19_feed_0 5 rfl rfl)
theorem dX19_feed_6 : decode cX19_feed 6 = .ok (.getfield 322, 3) := dk_180 1 66 (dk_at dksX19_feed_0 6 rfl rfl)
theorem dX19_feed_9 : decode cX19_feed 9 = .ok (.bipush 20, 2) := dk_16 20 (dk_at dksX19_feed_0 9 rfl rfl)
theorem dX19_feed_11 : decode cX19_feed 11 = .ok (.iadd, 1) := dk_96 (dk_at dksX19_feed_0 11 rfl rfl)
theorem dX19_feed_12 : decode cX19_feed 12 = .ok (.sipush 900, 3) := dk_17 3 132 (dk_at dksX19_feed_0 12 rfl rfl)
theorem dX19_feed_15 : decode cX19_feed 15 = .ok (.if_icmp .le 5, 3) := dk_164 0 5 (dk_at dksX19_feed_0 15 rfl rfl)
theorem dX19_feed_18 : decode cX19_feed 18 = .ok (.iconst (-1), 1) := dk_2 (dk_at dksX19_feed_0 18 rfl rfl)
theorem dX19_feed_19 : decode cX19_feed 19 = .ok (.ireturn, 1) := dk_172 (dk_at dksX19_feed_0 19 rfl rfl)
theorem dX19_feed_20 : decode cX19_feed 20 = .ok (.iconst 0, 1) := dk_3 (dk_at dksX19_feed_0 20 rfl rfl)
theorem dX19_feed_21 : decode cX19_feed 21 = .ok (.istore 6, 2) := dk_54 6 (dk_at dksX19_feed_0 21 rfl rfl)
theorem dX19_feed_23 : decode cX19_feed 23 = .ok (.iload 6, 2) := dk_21 6 (dk_at dksX19_feed_1 0 rfl rfl)
theorem dX19_feed_25 : decode cX19_feed 25 = .ok (.bipush 20, 2) := dk_16 20 (dk_at dksX19_feed_1 2 rfl rfl)
theorem dX19_feed_27 : decode cX19_feed 27 = .ok (.if_icmp .ge 90, 3) := dk_162 0 90 (dk_at dksX19_feed_1 4 rfl rfl)
theorem dX19_feed_30 : decode cX19_feed 30 = .ok (.iload 6, 2) := dk_21 6 (dk_at dksX19_feed_1 7 rfl rfl)
theorem dX19_feed_32 : decode cX19_feed 32 = .ok (.iconst 4, 1) := dk_7 (dk_at dksX19_feed_1 9 rfl rfl)
theorem dX19_feed_33 : decode cX19_feed 33 = .ok (.if_icmp .ge 7, 3) := dk_162 0 7 (dk_at dksX19_feed_1 10 rfl rfl)
theorem dX19_feed_36 : decode cX19_feed 36 = .ok (.iload_n 1, 1) := dk_27 (dk_at dksX19_feed_1 13 rfl rfl)
theorem dX19_feed_37 : decode cX19_feed 37 = .ok (.goto 39, 3) := dk_167 0 39 (dk_at dksX19_feed_1 14 rfl rfl)
theorem dX19_feed_40 : decode cX19_feed 40 = .ok (.iload 6, 2) := dk_21 6 (dk_at dksX19_feed_1 17 rfl rfl)
theorem dX19_feed_42 : decode cX19_feed 42 = .ok (.bipush 8, 2) := dk_16 8 (dk_at dksX19_feed_1 19 rfl rfl)
theorem dX19_feed_44 : decode cX19_feed 44 = .ok (.if_icmp .ge 7, 3) := dk_162 0 7 (dk_at dksX19_feed_1 21 rfl rfl)
theorem dX19_feed_47 : decode cX19_feed 47 = .ok (.iload_n 2, 1) := dk_28 (dk_at dksX19_feed_2 0 rfl rfl)
theorem dX19_feed_48 : decode cX19_feed 48 = .ok (.goto 28, 3) := dk_167 0 28 (dk_at dksX19_feed_2 1 rfl rfl)
theorem dX19_feed_51 : decode cX19_feed 51 = .ok (.iload 6, 2) := dk_21 6 (dk_at dksX19_feed_2 4 rfl rfl)
theorem dX19_feed_53 : decode cX19_feed 53 = .ok (.bipush 12, 2) := dk_16 12 (dk_at dksX19_feed_2 6 rfl rfl)
theorem dX19_feed_55 : decode cX19_feed 55 = .ok (.if_icmp .ge 7, 3) := dk_162 0 7 (dk_at dksX19_feed_2 8 rfl rfl)
theorem dX19_feed_58 : decode cX19_feed 58 = .ok (.iload_n 3, 1) := dk_29 (dk_at dksX19_feed_2 11 rfl rfl)
theorem dX19_feed_59 : decode cX19_feed 59 = .ok (.goto 17, 3) := dk_167 0 17 (dk_at dksX19_feed_2 12 rfl rfl)
theorem dX19_feed_62 : decode cX19_feed 62 = .ok (.iload 6, 2) := dk_21 6 (dk_at dksX19_feed_2 15 rfl rfl)
theorem dX19_feed_64 : decode cX19_feed 64 = .ok (.bipush 16, 2) := dk_16 16 (dk_at dksX19_feed_2 17 rfl rfl)
theorem dX19_feed_66 : decode cX19_feed 66 = .ok (.if_icmp .ge 8, 3) := dk_162 0 8 (dk_at dksX19_feed_2 19 rfl rfl)
theorem dX19_feed_69 : decode cX19_feed 69 = .ok (.iload 4, 2) := dk_21 4 (dk_at dksX19_feed_2 22 rfl rfl)
theorem dX19_feed_71 : decode cX19_feed 71 = .ok (.goto 5, 3) := dk_167 0 5 (dk_at dksX19_feed_3 0 rfl rfl)
theorem dX19_feed_74 : decode cX19_feed 74 = .ok (.iload 5, 2) := dk_21 5 (dk_at dksX19_feed_3 3 rfl rfl)
theorem dX19_feed_76 : decode cX19_feed 76 = .ok (.istore 7, 2) := dk_54 7 (dk_at dksX19_feed_3 5 rfl rfl)
theorem dX19_feed_78 : decode cX19_feed 78 = .ok (.aload_n 0, 1) := dk_42 (dk_at dksX19_feed_3 7 rfl rfl)
theorem dX19_feed_79 : decode cX19_feed 79 = .ok (.getfield 13, 3) := dk_180 0 13 (dk_at dksX19_feed_3 8 rfl rfl)
theorem dX19_feed_82 : decode cX19_feed 82 = .ok (.aload_n 0, 1) := dk_42 (dk_at dksX19_feed_3 11 rfl rfl)
theorem dX19_feed_83 : decode cX19_feed 83 = .ok (.getfield 322, 3) := dk_180 1 66 (dk_at dksX19_feed_3 12 rfl rfl)
theorem dX19_feed_86 : decode cX19_feed 86 = .ok (.iload 7, 2) := dk_21 7 (dk_at dksX19_feed_3 15 rfl rfl)
theorem dX19_feed_88 : decode cX19_feed 88 = .ok (.bipush 24, 2) := dk_16 24 (dk_at dksX19_feed_3 17 rfl rfl)
theorem dX19_feed_90 : decode cX19_feed 90 = .ok (.bipush 8, 2) := dk_16 8 (dk_at dksX19_feed_3 19 rfl rfl)
theorem dX19_feed_92 : decode cX19_feed 92 = .ok (.iload 6, 2) := dk_21 6 (dk_at dksX19_feed_3 21 rfl rfl)
theorem dX19_feed_94 : decode cX19_feed 94 = .ok (.iconst 4, 1) := dk_7 (dk_at dksX19_feed_3 23 rfl rfl)
theorem dX19_feed_95 : decode cX19_feed 95 = .ok (.irem, 1) := dk_112 (dk_at dksX19_feed_4 0 rfl rfl)
theorem dX19_feed_96 : decode cX19_feed 96 = .ok (.imul, 1) := dk_104 (dk_at dksX19_feed_4 1 rfl rfl)
theorem dX19_feed_97 : decode cX19_feed 97 = .ok (.isub, 1) := dk_100 (dk_at dksX19_feed_4 2 rfl rfl)
theorem dX19_feed_98 : decode cX19_feed 98 = .ok (.ishr, 1) := dk_122 (dk_at dksX19_feed_4 3 rfl rfl)
theorem dX19_feed_99 : decode cX19_feed 99 = .ok (.i2b, 1) := dk_145 (dk_at dksX19_feed_4 4 rfl rfl)
theorem dX19_feed_100 : decode cX19_feed 100 = .ok (.bastore, 1) := dk_84 (dk_at dksX19_feed_4 5 rfl rfl)
theorem dX19_feed_101 : decode cX19_feed 101 = .ok (.aload_n 0, 1) := dk_42 (dk_at dksX19_feed_4 6 rfl rfl)
theorem dX19_feed_102 : decode cX19_feed 102 = .ok (.dup, 1) := dk_89 (dk_at dksX19_feed_4 7 rfl rfl)
theorem dX19_feed_103 : decode cX19_feed 103 = .ok (.getfield 322, 3) := dk_180 1 66 (dk_at dksX19_feed_4 8 rfl rfl)
theorem dX19_feed_106 : decode cX19_feed 106 = .ok (.iconst 1, 1) := dk_4 (dk_at dksX19_feed_4 11 rfl rfl)
theorem dX19_feed_107 : decode cX19_feed 107 = .ok (.iadd, 1) := dk_96 (dk_at dksX19_feed_4 12 rfl rfl)
theorem dX19_feed_108 : decode cX19_feed 108 = .ok (.putfield 322, 3) := dk_181 1 66 (dk_at dksX19_feed_4 13 rfl rfl)
theorem dX19_feed_111 : decode cX19_feed 111 = .ok (.iinc 6 1, 3) := dk_132 6 1 (dk_at dksX19_feed_4 16 rfl rfl)
theorem dX19_feed_114 : decode cX19_feed 114 = .ok (.goto (-91), 3) := dk_167 255 165 (dk_at dksX19_feed_4 19 rfl rfl)
theorem dX19_feed_117 : decode cX19_feed 117 = .ok (.aload_n 0, 1) := dk_42 (dk_at dksX19_feed_4 22 rfl rfl)
theorem dX19_feed_118 : decode cX19_feed 118 = .ok (.getfield 322, 3) := dk_180 1 66 (dk_at dksX19_feed_5 0 rfl rfl)
theorem dX19_feed_121 : decode cX19_feed 121 = .ok (.ireturn, 1) := dk_172 (dk_at dksX19_feed_5 3 rfl rfl)
abbrev cX19_trick : ByteArray := prog_23_method_35_code
def yX19_trick : MethodName := ⟨RX19, "trick", "(I)I"⟩
def dkwX19_trick_9 : List UInt8 := [182, 0, 96, 172]
abbrev dktX19_trick_9 : List UInt8 := dkwX19_trick_9 ++ []
def dkwX19_trick_8 : List UInt8 := [180, 1, 73, 180, 1, 63, 28, 46, 96, 79, 132, 2, 1, 167, 255, 187, 42, 42, 180, 1, 73, 180, 1, 3]
abbrev dktX19_trick_8 : List UInt8 := dkwX19_trick_8 ++ dktX19_trick_9
def dkwX19_trick_7 : List UInt8 := [28, 42, 42, 180, 1, 73, 180, 1, 59, 8, 28, 104, 182, 1, 95, 42, 180, 1, 73, 182, 1, 98, 104, 42]
abbrev dktX19_trick_7 : List UInt8 := dkwX19_trick_7 ++ dktX19_trick_8
def dkwX19_trick_6 : List UInt8 := [42, 180, 0, 68, 28, 42, 42, 180, 1, 73, 180, 1, 52, 8, 28, 104, 182, 1, 91, 79, 42, 180, 0, 71]
abbrev dktX19_trick_6 : List UInt8 := dkwX19_trick_6 ++ dktX19_trick_7
def dkwX19_trick_5 : List UInt8 := [181, 1, 87, 42, 42, 180, 1, 73, 180, 1, 49, 181, 1, 90, 3, 61, 28, 42, 180, 1, 90, 162, 0, 67]
abbrev dktX19_trick_5 : List UInt8 := dkwX19_trick_5 ++ dktX19_trick_6
def dkwX19_trick_4 : List UInt8 := [181, 1, 73, 42, 3, 181, 1, 75, 42, 3, 181, 1, 78, 42, 182, 1, 81, 42, 182, 1, 84, 42, 3]
abbrev dktX19_trick_4 : List UInt8 := dkwX19_trick_4 ++ dktX19_trick_5
def dkwX19_trick_3 : List UInt8 := [158, 0, 18, 42, 7, 181, 0, 89, 42, 42, 180, 0, 150, 181, 0, 9, 2, 172, 42, 42, 180, 0, 190]
abbrev dktX19_trick_3 : List UInt8 := dkwX19_trick_3 ++ dktX19_trick_4
def dkwX19_trick_2 : List UInt8 := [183, 1, 69, 181, 0, 190, 42, 3, 181, 0, 118, 42, 182, 0, 161, 42, 182, 1, 70, 42, 180, 0, 147]
abbrev dktX19_trick_2 : List UInt8 := dkwX19_trick_2 ++ dktX19_trick_3
def dkwX19_trick_1 : List UInt8 := [27, 181, 0, 103, 42, 3, 181, 1, 66, 42, 3, 181, 0, 121, 42, 3, 181, 0, 147, 42, 187, 0, 195, 89]
abbrev dktX19_trick_1 : List UInt8 := dkwX19_trick_1 ++ dktX19_trick_2
def dkwX19_trick_0 : List UInt8 := [42, 3, 181, 0, 86, 27, 155, 0, 11, 27, 42, 180, 1, 66, 164, 0, 9, 42, 5, 182, 0, 92, 172, 42]
abbrev dktX19_trick_0 : List UInt8 := dkwX19_trick_0 ++ dktX19_trick_1
theorem dksX19_trick_0 : cX19_trick.data.toList.drop 0 = dktX19_trick_0 := by decide +kernel
theorem dksX19_trick_1 : cX19_trick.data.toList.drop 24 = dktX19_trick_1 := dk_seg dksX19_trick_0 24 rfl rfl
theorem dksX19_trick_2 : cX19_trick.data.toList.drop 48 = dktX19_trick_2 := dk_seg dksX19_trick_1 24 rfl rfl
theorem dksX19_trick_3 : cX19_trick.data.toList.drop 71 = dktX19_trick_3 := dk_seg dksX19_trick_2 23 rfl rfl
theorem dksX19_trick_4 : cX19_trick.data.toList.drop 94 = dktX19_trick_4 := dk_seg dksX19_trick_3 23 rfl rfl
theorem dksX19_trick_5 : cX19_trick.data.toList.drop 117 = dktX19_trick_5 := dk_seg dksX19_trick_4 23 rfl rfl
theorem dksX19_trick_6 : cX19_trick.data.toList.drop 141 = dktX19_trick_6 := dk_seg dksX19_trick_5 24 rfl rfl
theorem dksX19_trick_7 : cX19_trick.data.toList.drop 165 = dktX19_trick_7 := dk_seg dksX19_trick_6 24 rfl rfl
theorem dksX19_trick_8 : cX19_trick.data.toList.drop 189 = dktX19_trick_8 := dk_seg dksX19_trick_7 24 rfl rfl
theorem dksX19_trick_9 : cX19_trick.data.toList.drop 213 = dktX19_trick_9 := dk_seg dksX19_trick_8 24 rfl rfl
theorem dX19_trick_0 : decode cX19_trick 0 = .ok (.aload_n 0, 1) := dk_42 (dk_at dksX19_trick_0 0 rfl rfl)
theorem dX19_trick_1 : decode cX19_trick 1 = .ok (.iconst 0, 1) := dk_3 (dk_at dksX19_trick_0 1 rfl rfl)
theorem dX19_trick_2 : decode cX19_trick 2 = .ok (.putfield 86, 3) := dk_181 0 86 (dk_at dksX19_trick_0 2 rfl rfl)
theorem dX19_trick_5 : decode cX19_trick 5 = .ok (.iload_n 1, 1) := dk_27 (dk_at dksX19_trick_0 5 rfl rfl)
theorem dX19_trick_6 : decode cX19_trick 6 = .ok (.ifCond .lt 11, 3) := dk_155 0 11 (dk_at dksX19_trick_0 6 rfl rfl)
theorem dX19_trick_9 : decode cX19_trick 9 = .ok (.iload_n 1, 1) := dk_27 (dk_at dksX19_trick_0 9 rfl rfl)
theorem dX19_trick_10 : decode cX19_trick 10 = .ok (.aload_n 0, 1) := dk_42 (dk_at dksX19_trick_0 10 rfl rfl)
theorem dX19_trick_11 : decode cX19_trick 11 = .ok (.getfield 322, 3) := dk_180 1 66 (dk_at dksX19_trick_0 11 rfl rfl)
theorem dX19_trick_14 : decode cX19_trick 14 = .ok (.if_icmp .le 9, 3) := dk_164 0 9 (dk_at dksX19_trick_0 14 rfl rfl)
theorem dX19_trick_17 : decode cX19_trick 17 = .ok (.aload_n 0, 1) := dk_42 (dk_at dksX19_trick_0 17 rfl rfl)
theorem dX19_trick_18 : decode cX19_trick 18 = .ok (.iconst 2, 1) := dk_5 (dk_at dksX19_trick_0 18 rfl rfl)
theorem dX19_trick_19 : decode cX19_trick 19 = .ok (.invokevirtual 92, 3) := dk_182 0 92 (dk_at dksX19_trick_0 19 rfl rfl)
theorem dX19_trick_22 : decode cX19_trick 22 = .ok (.ireturn, 1) := dk_172 (dk_at dksX19_trick_0 22 rfl rfl)
theorem dX19_trick_23 : decode cX19_trick 23 = .ok (.aload_n 0, 1) := dk_42 (dk_at dksX19_trick_0 23 rfl rfl)
theorem dX19_trick_24 : decode cX19_trick 24 = .ok (.iload_n 1, 1) := dk_27 (dk_at dksX19_trick_1 0 rfl rfl)
theorem dX19_trick_25 : decode cX19_trick 25 = .ok (.putfield 103, 3) := dk_181 0 103 (dk_at dksX19_trick_1 1 rfl rfl)
theorem dX19_trick_28 : decode cX19_trick 28 = .ok (.aload_n 0, 1) := dk_42 (dk_at dksX19_trick_1 4 rfl rfl)
theorem dX19_trick_29 : decode cX19_trick 29 = .ok (.iconst 0, 1) := dk_3 (dk_at dksX19_trick_1 5 rfl rfl)
theorem dX19_trick_30 : decode cX19_trick 30 = .ok (.putfield 322, 3) := dk_181 1 66 (dk_at dksX19_trick_1 6 rfl rfl)
theorem dX19_trick_33 : decode cX19_trick 33 = .ok (.aload_n 0, 1) := dk_42 (dk_at dksX19_trick_1 9 rfl rfl)
theorem dX19_trick_34 : decode cX19_trick 34 = .ok (.iconst 0, 1) := dk_3 (dk_at dksX19_trick_1 10 rfl rfl)
theorem dX19_trick_35 : decode cX19_trick 35 = .ok (.putfield 121, 3) := dk_181 0 121 (dk_at dksX19_trick_1 11 rfl rfl)
theorem dX19_trick_38 : decode cX19_trick 38 = .ok (.aload_n 0, 1) := dk_42 (dk_at dksX19_trick_1 14 rfl rfl)
theorem dX19_trick_39 : decode cX19_trick 39 = .ok (.iconst 0, 1) := dk_3 (dk_at dksX19_trick_1 15 rfl rfl)
theorem dX19_trick_40 : decode cX19_trick 40 = .ok (.putfield 147, 3) := dk_181 0 147 (dk_at dksX19_trick_1 16 rfl rfl)
theorem dX19_trick_43 : decode cX19_trick 43 = .ok (.aload_n 0, 1) := dk_42 (dk_at dksX19_trick_1 19 rfl rfl)
theorem dX19_trick_44 : decode cX19_trick 44 = .ok (.new 195, 3) := dk_187 0 195 (dk_at dksX19_trick_1 20 rfl rfl)
theorem dX19_trick_47 : decode cX19_trick 47 = .ok (.dup, 1) := dk_89 (dk_at dksX19_trick_1 23 rfl rfl)
theorem dX19_trick_48 : decode cX19_trick 48 = .ok (.invokespecial 325, 3) := dk_183 1 69 (dk_at dksX19_trick_2 0 rfl rfl)
theorem dX19_trick_51 : decode cX19_trick 51 = .ok (.putfield 190, 3) := dk_181 0 190 (dk_at dksX19_trick_2 3 rfl rfl)
theorem dX19_trick_54 : decode cX19_trick 54 = .ok (.aload_n 0, 1) := dk_42 (dk_at dksX19_trick_2 6 rfl rfl)
theorem dX19_trick_55 : decode cX19_trick 55 = .ok (.iconst 0, 1) := dk_3 (dk_at dksX19_trick_2 7 rfl rfl)
theorem dX19_trick_56 : decode cX19_trick 56 = .ok (.putfield 118, 3) := dk_181 0 118 (dk_at dksX19_trick_2 8 rfl rfl)
theorem dX19_trick_59 : decode cX19_trick 59 = .ok (.aload_n 0, 1) := dk_42 (dk_at dksX19_trick_2 11 rfl rfl)
theorem dX19_trick_60 : decode cX19_trick 60 = .ok (.invokevirtual 161, 3) := dk_182 0 161 (dk_at dksX19_trick_2 12 rfl rfl)
theorem dX19_trick_63 : decode cX19_trick 63 = .ok (.aload_n 0, 1) := dk_42 (dk_at dksX19_trick_2 15 rfl rfl)
theorem dX19_trick_64 : decode cX19_trick 64 = .ok (.invokevirtual 326, 3) := dk_182 1 70 (dk_at dksX19_trick_2 16 rfl rfl)
theorem dX19_trick_67 : decode cX19_trick 67 = .ok (.aload_n 0, 1) := dk_42 (dk_at dksX19_trick_2 19 rfl rfl)
theorem dX19_trick_68 : decode cX19_trick 68 = .ok (.getfield 147, 3) := dk_180 0 147 (dk_at dksX19_trick_2 20 rfl rfl)
theorem dX19_trick_71 : decode cX19_trick 71 = .ok (.ifCond .le 18, 3) := dk_158 0 18 (dk_at dksX19_trick_3 0 rfl rfl)
theorem dX19_trick_74 : decode cX19_trick 74 = .ok (.aload_n 0, 1) := dk_42 (dk_at dksX19_trick_3 3 rfl rfl)
theorem dX19_trick_75 : decode cX19_trick 75 = .ok (.iconst 4, 1) := dk_7 (dk_at dksX19_trick_3 4 rfl rfl)
theorem dX19_trick_76 : decode cX19_trick 76 = .ok (.putfield 89, 3) := dk_181 0 89 (dk_at dksX19_trick_3 5 rfl rfl)
theorem dX19_trick_79 : decode cX19_trick 79 = .ok (.aload_n 0, 1) := dk_42 (dk_at dksX19_trick_3 8 rfl rfl)
theorem dX19_trick_80 : decode cX19_trick 80 = .ok (.aload_n 0, 1) := dk_42 (dk_at dksX19_trick_3 9 rfl rfl)
theorem dX19_trick_81 : decode cX19_trick 81 = .ok (.getfield 150, 3) := dk_180 0 150 (dk_at dksX19_trick_3 10 rfl rfl)
theorem dX19_trick_84 : decode cX19_trick 84 = .ok (.putfield 9, 3) := dk_181 0 9 (dk_at dksX19_trick_3 13 rfl rfl)
theorem dX19_trick_87 : decode cX19_trick 87 = .ok (.iconst (-1), 1) := dk_2 (dk_at dksX19_trick_3 16 rfl rfl)
theorem dX19_trick_88 : decode cX19_trick 88 = .ok (.ireturn, 1) := dk_172 (dk_at dksX19_trick_3 17 rfl rfl)
theorem dX19_trick_89 : decode cX19_trick 89 = .ok (.aload_n 0, 1) := dk_42 (dk_at dksX19_trick_3 18 rfl rfl)
theorem dX19_trick_90 : decode cX19_trick 90 = .ok (.aload_n 0, 1) := dk_42 (dk_at dksX19_trick_3 19 rfl rfl)
theorem dX19_trick_91 : decode cX19_trick 91 = .ok (.getfield 190, 3) := dk_180 0 190 (dk_at dksX19_trick_3 20 rfl rfl)
theorem dX19_trick_94 : decode cX19_trick 94 = .ok (.putfield 329, 3) := dk_181 1 73 (dk_at dksX19_trick_4 0 rfl rfl)
theorem dX19_trick_97 : decode cX19_trick 97 = .ok (.aload_n 0, 1) := dk_42 (dk_at dksX19_trick_4 3 rfl rfl)
theorem dX19_trick_98 : decode cX19_trick 98 = .ok (.iconst 0, 1) := dk_3 (dk_at dksX19_trick_4 4 rfl rfl)
theorem dX19_trick_99 : decode cX19_trick 99 = .ok (.putfield 331, 3) := dk_181 1 75 (dk_at dksX19_trick_4 5 rfl rfl)
theorem dX19_trick_102 : decode cX19_trick 102 = .ok (.aload_n 0, 1) := dk_42 (dk_at dksX19_trick_4 8 rfl rfl)
theorem dX19_trick_103 : decode cX19_trick 103 = .ok (.iconst 0, 1) := dk_3 (dk_at dksX19_trick_4 9 rfl rfl)
theorem dX19_trick_104 : decode cX19_trick 104 = .ok (.putfield 334, 3) := dk_181 1 78 (dk_at dksX19_trick_4 10 rfl rfl)
theorem dX19_trick_107 : decode cX19_trick 107 = .ok (.aload_n 0, 1) := dk_42 (dk_at dksX19_trick_4 13 rfl rfl)
theorem dX19_trick_108 : decode cX19_trick 108 = .ok (.invokevirtual 337, 3) := dk_182 1 81 (dk_at dksX19_trick_4 14 rfl rfl)
theorem dX19_trick_111 : decode cX19_trick 111 = .ok (.aload_n 0, 1) := dk_42 (dk_at dksX19_trick_4 17 rfl rfl)
theorem dX19_trick_112 : decode cX19_trick 112 = .ok (.invokevirtual 340, 3) := dk_182 1 84 (dk_at dksX19_trick_4 18 rfl rfl)
theorem dX19_trick_115 : decode cX19_trick 115 = .ok (.aload_n 0, 1) := dk_42 (dk_at dksX19_trick_4 21 rfl rfl)
theorem dX19_trick_116 : decode cX19_trick 116 = .ok (.iconst 0, 1) := dk_3 (dk_at dksX19_trick_4 22 rfl rfl)
theorem dX19_trick_117 : decode cX19_trick 117 = .ok (.putfield 343, 3) := dk_181 1 87 (dk_at dksX19_trick_5 0 rfl rfl)
theorem dX19_trick_120 : decode cX19_trick 120 = .ok (.aload_n 0, 1) := dk_42 (dk_at dksX19_trick_5 3 rfl rfl)
theorem dX19_trick_121 : decode cX19_trick 121 = .ok (.aload_n 0, 1) := dk_42 (dk_at dksX19_trick_5 4 rfl rfl)
theorem dX19_trick_122 : decode cX19_trick 122 = .ok (.getfield 329, 3) := dk_180 1 73 (dk_at dksX19_trick_5 5 rfl rfl)
theorem dX19_trick_125 : decode cX19_trick 125 = .ok (.getfield 305, 3) := dk_180 1 49 (dk_at dksX19_trick_5 8 rfl rfl)
theorem dX19_trick_128 : decode cX19_trick 128 = .ok (.putfield 346, 3) := dk_181 1 90 (dk_at dksX19_trick_5 11 rfl rfl)
theorem dX19_trick_131 : decode cX19_trick 131 = .ok (.iconst 0, 1) := dk_3 (dk_at dksX19_trick_5 14 rfl rfl)
theorem dX19_trick_132 : decode cX19_trick 132 = .ok (.istore_n 2, 1) := dk_61 (dk_at dksX19_trick_5 15 rfl rfl)
theorem dX19_trick_133 : decode cX19_trick 133 = .ok (.iload_n 2, 1) := dk_28 (dk_at dksX19_trick_5 16 rfl rfl)
theorem dX19_trick_134 : decode cX19_trick 134 = .ok (.aload_n 0, 1) := dk_42 (dk_at dksX19_trick_5 17 rfl rfl)
theorem dX19_trick_135 : decode cX19_trick 135 = .ok (.getfield 346, 3) := dk_180 1 90 (dk_at dksX19_trick_5 18 rfl rfl)
theorem dX19_trick_138 : decode cX19_trick 138 = .ok (.if_icmp .ge 67, 3) := dk_162 0 67 (dk_at dksX19_trick_5 21 rfl rfl)
theorem dX19_trick_141 : decode cX19_trick 141 = .ok (.aload_n 0, 1) := dk_42 (dk_at dksX19_trick_6 0 rfl rfl)
theorem dX19_trick_142 : decode cX19_trick 142 = .ok (.getfield 68, 3) := dk_180 0 68 (dk_at dksX19_trick_6 1 rfl rfl)
theorem dX19_trick_145 : decode cX19_trick 145 = .ok (.iload_n 2, 1) := dk_28 (dk_at dksX19_trick_6 4 rfl rfl)
theorem dX19_trick_146 : decode cX19_trick 146 = .ok (.aload_n 0, 1) := dk_42 (dk_at dksX19_trick_6 5 rfl rfl)
theorem dX19_trick_147 : decode cX19_trick 147 = .ok (.aload_n 0, 1) := dk_42 (dk_at dksX19_trick_6 6 rfl rfl)
theorem dX19_trick_148 : decode cX19_trick 148 = .ok (.getfield 329, 3) := dk_180 1 73 (dk_at dksX19_trick_6 7 rfl rfl)
theorem dX19_trick_151 : decode cX19_trick 151 = .ok (.getfield 308, 3) := dk_180 1 52 (dk_at dksX19_trick_6 10 rfl rfl)
theorem dX19_trick_154 : decode cX19_trick 154 = .ok (.iconst 5, 1) := dk_8 (dk_at dksX19_trick_6 13 rfl rfl)
theorem dX19_trick_155 : decode cX19_trick 155 = .ok (.iload_n 2, 1) := dk_28 (dk_at dksX19_trick_6 14 rfl rfl)
theorem dX19_trick_156 : decode cX19_trick 156 = .ok (.imul, 1) := dk_104 (dk_at dksX19_trick_6 15 rfl rfl)
theorem dX19_trick_157 : decode cX19_trick 157 = .ok (.invokevirtual 347, 3) := dk_182 1 91 (dk_at dksX19_trick_6 16 rfl rfl)
theorem dX19_trick_160 : decode cX19_trick 160 = .ok (.iastore, 1) := dk_79 (dk_at dksX19_trick_6 19 rfl rfl)
theorem dX19_trick_161 : decode cX19_trick 161 = .ok (.aload_n 0, 1) := dk_42 (dk_at dksX19_trick_6 20 rfl rfl)
theorem dX19_trick_162 : decode cX19_trick 162 = .ok (.getfield 71, 3) := dk_180 0 71 (dk_at dksX19_trick_6 21 rfl rfl)
theorem dX19_trick_165 : decode cX19_trick 165 = .ok (.iload_n 2, 1) := dk_28 (dk_at dksX19_trick_7 0 rfl rfl)
theorem dX19_trick_166 : decode cX19_trick 166 = .ok (.aload_n 0, 1) := dk_42 (dk_at dksX19_trick_7 1 rfl rfl)
theorem dX19_trick_167 : decode cX19_trick 167 = .ok (.aload_n 0, 1) := dk_42 (dk_at dksX19_trick_7 2 rfl rfl)
theorem dX19_trick_168 : decode cX19_trick 168 = .ok (.getfield 329, 3) := dk_180 1 73 (dk_at dksX19_trick_7 3 rfl rfl)
theorem dX19_trick_171 : decode cX19_trick 171 = .ok (.getfield 315, 3) := dk_180 1 59 (dk_at dksX19_trick_7 6 rfl rfl)
theorem dX19_trick_174 : decode cX19_trick 174 = .ok (.iconst 5, 1) := dk_8 (dk_at dksX19_trick_7 9 rfl rfl)
theorem dX19_trick_175 : decode cX19_trick 175 = .ok (.iload_n 2, 1) := dk_28 (dk_at dksX19_trick_7 10 rfl rfl)
theorem dX19_trick_176 : decode cX19_trick 176 = .ok (.imul, 1) := dk_104 (dk_at dksX19_trick_7 11 rfl rfl)
theorem dX19_trick_177 : decode cX19_trick 177 = .ok (.invokevirtual 351, 3) := dk_182 1 95 (dk_at dksX19_trick_7 12 rfl rfl)
theorem dX19_trick_180 : decode cX19_trick 180 = .ok (.aload_n 0, 1) := dk_42 (dk_at dksX19_trick_7 15 rfl rfl)
theorem dX19_trick_181 : decode cX19_trick 181 = .ok (.getfield 329, 3) := dk_180 1 73 (dk_at dksX19_trick_7 16 rfl rfl)
theorem dX19_trick_184 : decode cX19_trick 184 = .ok (.invokevirtual 354, 3) := dk_182 1 98 (dk_at dksX19_trick_7 19 rfl rfl)
theorem dX19_trick_187 : decode cX19_trick 187 = .ok (.imul, 1) := dk_104 (dk_at dksX19_trick_7 22 rfl rfl)
theorem dX19_trick_188 : decode cX19_trick 188 = .ok (.aload_n 0, 1) := dk_42 (dk_at dksX19_trick_7 23 rfl rfl)
theorem dX19_trick_189 : decode cX19_trick 189 = .ok (.getfield 329, 3) := dk_180 1 73 (dk_at dksX19_trick_8 0 rfl rfl)
theorem dX19_trick_192 : decode cX19_trick 192 = .ok (.getfield 319, 3) := dk_180 1 63 (dk_at dksX19_trick_8 3 rfl rfl)
theorem dX19_trick_195 : decode cX19_trick 195 = .ok (.iload_n 2, 1) := dk_28 (dk_at dksX19_trick_8 6 rfl rfl)
theorem dX19_trick_196 : decode cX19_trick 196 = .ok (.iaload, 1) := dk_46 (dk_at dksX19_trick_8 7 rfl rfl)
theorem dX19_trick_197 : decode cX19_trick 197 = .ok (.iadd, 1) := dk_96 (dk_at dksX19_trick_8 8 rfl rfl)
theorem dX19_trick_198 : decode cX19_trick 198 = .ok (.iastore, 1) := dk_79 (dk_at dksX19_trick_8 9 rfl rfl)
theorem dX19_trick_199 : decode cX19_trick 199 = .ok (.iinc 2 1, 3) := dk_132 2 1 (dk_at dksX19_trick_8 10 rfl rfl)
theorem dX19_trick_202 : decode cX19_trick 202 = .ok (.goto (-69), 3) := dk_167 255 187 (dk_at dksX19_trick_8 13 rfl rfl)
theorem dX19_trick_205 : decode cX19_trick 205 = .ok (.aload_n 0, 1) := dk_42 (dk_at dksX19_trick_8 16 rfl rfl)
theorem dX19_trick_206 : decode cX19_trick 206 = .ok (.aload_n 0, 1) := dk_42 (dk_at dksX19_trick_8 17 rfl rfl)
theorem dX19_trick_207 : decode cX19_trick 207 = .ok (.getfield 329, 3) := dk_180 1 73 (dk_at dksX19_trick_8 18 rfl rfl)
theorem dX19_trick_210 : decode cX19_trick 210 = .ok (.getfield 259, 3) := dk_180 1 3 (dk_at dksX19_trick_8 21 rfl rfl)
theorem dX19_trick_213 : decode cX19_trick 213 = .ok (.invokevirtual 96, 3) := dk_182 0 96 (dk_at dksX19_trick_9 0 rfl rfl)
theorem dX19_trick_216 : decode cX19_trick 216 = .ok (.ireturn, 1) := dk_172 (dk_at dksX19_trick_9 3 rfl rfl)
abbrev cX19_refused : ByteArray := prog_23_method_3_code
def yX19_refused : MethodName := ⟨RX19, "refused", "(I)I"⟩
def dkwX19_refused_0 : List UInt8 := [42, 27, 181, 0, 89, 42, 2, 181, 0, 9, 2, 172]
abbrev dktX19_refused_0 : List UInt8 := dkwX19_refused_0 ++ []
theorem dksX19_refused_0 : cX19_refused.data.toList.drop 0 = dktX19_refused_0 := by decide +kernel
theorem dX19_refused_0 : decode cX19_refused 0 = .ok (.aload_n 0, 1) := dk_42 (dk_at dksX19_refused_0 0 rfl rfl)
theorem dX19_refused_1 : decode cX19_refused 1 = .ok (.iload_n 1, 1) := dk_27 (dk_at dksX19_refused_0 1 rfl rfl)
theorem dX19_refused_2 : decode cX19_refused 2 = .ok (.putfield 89, 3) := dk_181 0 89 (dk_at dksX19_refused_0 2 rfl rfl)
theorem dX19_refused_5 : decode cX19_refused 5 = .ok (.aload_n 0, 1) := dk_42 (dk_at dksX19_refused_0 5 rfl rfl)
theorem dX19_refused_6 : decode cX19_refused 6 = .ok (.iconst (-1), 1) := dk_2 (dk_at dksX19_refused_0 6 rfl rfl)
theorem dX19_refused_7 : decode cX19_refused 7 = .ok (.putfield 9, 3) := dk_181 0 9 (dk_at dksX19_refused_0 7 rfl rfl)
theorem dX19_refused_10 : decode cX19_refused 10 = .ok (.iconst (-1), 1) := dk_2 (dk_at dksX19_refused_0 10 rfl rfl)
theorem dX19_refused_11 : decode cX19_refused 11 = .ok (.ireturn, 1) := dk_172 (dk_at dksX19_refused_0 11 rfl rfl)
abbrev cX19_goesOn : ByteArray := prog_23_method_15_code
def yX19_goesOn : MethodName := ⟨RX19, "goesOn", "()V"⟩
def dkwX19_goesOn_12 : List UInt8 := [181, 0, 121, 177]
abbrev dktX19_goesOn_12 : List UInt8 := dkwX19_goesOn_12 ++ []
def dkwX19_goesOn_11 : List UInt8 := [16, 44, 160, 0, 23, 42, 7, 181, 0, 118, 42, 27, 181, 0, 130, 42, 89, 180, 0, 121, 4, 96]
abbrev dktX19_goesOn_11 : List UInt8 := dkwX19_goesOn_11 ++ dktX19_goesOn_12
def dkwX19_goesOn_10 : List UInt8 := [167, 255, 201, 28, 6, 163, 0, 43, 42, 6, 181, 0, 118, 167, 0, 35, 27, 16, 59, 159, 0, 9, 27]
abbrev dktX19_goesOn_10 : List UInt8 := dkwX19_goesOn_10 ++ dktX19_goesOn_11
def dkwX19_goesOn_9 : List UInt8 := [182, 0, 124, 96, 16, 48, 100, 181, 0, 144, 132, 2, 1, 42, 89, 180, 0, 121, 4, 96, 181, 0, 121]
abbrev dktX19_goesOn_9 : List UInt8 := dkwX19_goesOn_9 ++ dktX19_goesOn_10
def dkwX19_goesOn_8 : List UInt8 := [184, 0, 141, 153, 0, 47, 28, 6, 162, 0, 26, 42, 16, 10, 42, 180, 0, 144, 104, 42, 42, 180, 0, 121]
abbrev dktX19_goesOn_8 : List UInt8 := dkwX19_goesOn_8 ++ dktX19_goesOn_9
def dkwX19_goesOn_7 : List UInt8 := [167, 0, 118, 27, 184, 0, 141, 153, 0, 79, 42, 3, 181, 0, 144, 42, 42, 180, 0, 121, 182, 0, 124]
abbrev dktX19_goesOn_7 : List UInt8 := dkwX19_goesOn_7 ++ dktX19_goesOn_8
def dkwX19_goesOn_6 : List UInt8 := [180, 0, 121, 4, 96, 181, 0, 121, 167, 255, 196, 28, 16, 8, 163, 0, 126, 42, 5, 181, 0, 118]
abbrev dktX19_goesOn_6 : List UInt8 := dkwX19_goesOn_6 ++ dktX19_goesOn_7
def dkwX19_goesOn_5 : List UInt8 := [42, 42, 180, 0, 121, 182, 0, 124, 16, 97, 100, 4, 96, 133, 97, 181, 0, 137, 132, 2, 1, 42, 89]
abbrev dktX19_goesOn_5 : List UInt8 := dkwX19_goesOn_5 ++ dktX19_goesOn_6
def dkwX19_goesOn_4 : List UInt8 := [182, 0, 124, 184, 0, 133, 153, 0, 52, 28, 16, 8, 162, 0, 30, 42, 20, 0, 112, 42, 180, 0, 137, 105]
abbrev dktX19_goesOn_4 : List UInt8 := dkwX19_goesOn_4 ++ dktX19_goesOn_5
def dkwX19_goesOn_3 : List UInt8 := [181, 0, 118, 167, 0, 207, 27, 184, 0, 133, 153, 0, 85, 42, 9, 181, 0, 137, 42, 42, 180, 0, 121]
abbrev dktX19_goesOn_3 : List UInt8 := dkwX19_goesOn_3 ++ dktX19_goesOn_4
def dkwX19_goesOn_2 : List UInt8 := [42, 3, 181, 0, 130, 42, 42, 180, 0, 121, 182, 0, 124, 60, 3, 61, 27, 2, 160, 0, 11, 42, 4]
abbrev dktX19_goesOn_2 : List UInt8 := dkwX19_goesOn_2 ++ dktX19_goesOn_3
def dkwX19_goesOn_1 : List UInt8 := [180, 0, 121, 4, 96, 181, 0, 121, 167, 255, 233, 42, 42, 180, 0, 121, 181, 0, 127, 42, 3, 181, 0, 118]
abbrev dktX19_goesOn_1 : List UInt8 := dkwX19_goesOn_1 ++ dktX19_goesOn_2
def dkwX19_goesOn_0 : List UInt8 := [42, 180, 0, 118, 8, 160, 0, 4, 177, 42, 42, 180, 0, 121, 182, 0, 124, 16, 32, 160, 0, 16, 42, 89]
abbrev dktX19_goesOn_0 : List UInt8 := dkwX19_goesOn_0 ++ dktX19_goesOn_1
theorem dksX19_goesOn_0 : cX19_goesOn.data.toList.drop 0 = dktX19_goesOn_0 := by decide +kernel
theorem dksX19_goesOn_1 : cX19_goesOn.data.toList.drop 24 = dktX19_goesOn_1 := dk_seg dksX19_goesOn_0 24 rfl rfl
theorem dksX19_goesOn_2 : cX19_goesOn.data.toList.drop 48 = dktX19_goesOn_2 := dk_seg dksX19_goesOn_1 24 rfl rfl
theorem dksX19_goesOn_3 : cX19_goesOn.data.toList.drop 71 = dktX19_goesOn_3 := dk_seg dksX19_goesOn_2 23 rfl rfl
theorem dksX19_goesOn_4 : cX19_goesOn.data.toList.drop 94 = dktX19_goesOn_4 := dk_seg dksX19_goesOn_3 23 rfl rfl
theorem dksX19_goesOn_5 : cX19_goesOn.data.toList.drop 118 = dktX19_goesOn_5 := dk_seg dksX19_goesOn_4 24 rfl rfl
theorem dksX19_goesOn_6 : cX19_goesOn.data.toList.drop 141 = dktX19_goesOn_6 := dk_seg dksX19_goesOn_5 23 rfl rfl
theorem dksX19_goesOn_7 : cX19_goesOn.data.toList.drop 163 = dktX19_goesOn_7 := dk_seg dksX19_goesOn_6 22 rfl rfl
theorem dksX19_goesOn_8 : cX19_goesOn.data.toList.drop 186 = dktX19_goesOn_8 := dk_seg dksX19_goesOn_7 23 rfl rfl
theorem dksX19_goesOn_9 : cX19_goesOn.data.toList.drop 210 = dktX19_goesOn_9 := dk_seg dksX19_goesOn_8 24 rfl rfl
theorem dksX19_goesOn_10 : cX19_goesOn.data.toList.drop 233 = dktX19_goesOn_10 := dk_seg dksX19_goesOn_9 23 rfl rfl
theorem dksX19_goesOn_11 : cX19_goesOn.data.toList.drop 256 = dktX19_goesOn_11 := dk_seg dksX19_goesOn_10 23 rfl rfl
theorem dksX19_goesOn_12 : cX19_goesOn.data.toList.drop 278 = dktX19_goesOn_12 := dk_seg dksX19_goesOn_11 22 rfl rfl
theorem dX19_goesOn_0 : decode cX19_goesOn 0 = .ok (.aload_n 0, 1) := dk_42 (dk_at dksX19_goesOn_0 0 rfl rfl)
theorem dX19_goesOn_1 : decode cX19_goesOn 1 = .ok (.getfield 118, 3) := dk_180 0 118 (dk_at dksX19_goesOn_0 1 rfl rfl)
theorem dX19_goesOn_4 : decode cX19_goesOn 4 = .ok (.iconst 5, 1) := dk_8 (dk_at dksX19_goesOn_0 4 rfl rfl)
theorem dX19_goesOn_5 : decode cX19_goesOn 5 = .ok (.if_icmp .ne 4, 3) := dk_160 0 4 (dk_at dksX19_goesOn_0 5 rfl rfl)
theorem dX19_goesOn_8 : decode cX19_goesOn 8 = .ok (.return_, 1) := dk_177 (dk_at dksX19_goesOn_0 8 rfl rfl)
theorem dX19_goesOn_9 : decode cX19_goesOn 9 = .ok (.aload_n 0, 1) := dk_42 (dk_at dksX19_goesOn_0 9 rfl rfl)
theorem dX19_goesOn_10 : decode cX19_goesOn 10 = .ok (.aload_n 0, 1) := dk_42 (dk_at dksX19_goesOn_0 10 rfl rfl)
theorem dX19_goesOn_11 : decode cX19_goesOn 11 = .ok (.getfield 121, 3) := dk_180 0 121 (dk_at dksX19_goesOn_0 11 rfl rfl)
theorem dX19_goesOn_14 : decode cX19_goesOn 14 = .ok (.invokevirtual 124, 3) := dk_182 0 124 (dk_at dksX19_goesOn_0 14 rfl rfl)
theorem dX19_goesOn_17 : decode cX19_goesOn 17 = .ok (.bipush 32, 2) := dk_16 32 (dk_at dksX19_goesOn_0 17 rfl rfl)
theorem dX19_goesOn_19 : decode cX19_goesOn 19 = .ok (.if_icmp .ne 16, 3) := dk_160 0 16 (dk_at dksX19_goesOn_0 19 rfl rfl)
theorem dX19_goesOn_22 : decode cX19_goesOn 22 = .ok (.aload_n 0, 1) := dk_42 (dk_at dksX19_goesOn_0 22 rfl rfl)
theorem dX19_goesOn_23 : decode cX19_goesOn 23 = .ok (.dup, 1) := dk_89 (dk_at dksX19_goesOn_0 23 rfl rfl)
theorem dX19_goesOn_24 : decode cX19_goesOn 24 = .ok (.getfield 121, 3) := dk_180 0 121 (dk_at dksX19_goesOn_1 0 rfl rfl)
theorem dX19_goesOn_27 : decode cX19_goesOn 27 = .ok (.iconst 1, 1) := dk_4 (dk_at dksX19_goesOn_1 3 rfl rfl)
theorem dX19_goesOn_28 : decode cX19_goesOn 28 = .ok (.iadd, 1) := dk_96 (dk_at dksX19_goesOn_1 4 rfl rfl)
theorem dX19_goesOn_29 : decode cX19_goesOn 29 = .ok (.putfield 121, 3) := dk_181 0 121 (dk_at dksX19_goesOn_1 5 rfl rfl)
theorem dX19_goesOn_32 : decode cX19_goesOn 32 = .ok (.goto (-23), 3) := dk_167 255 233 (dk_at dksX19_goesOn_1 8 rfl rfl)
theorem dX19_goesOn_35 : decode cX19_goesOn 35 = .ok (.aload_n 0, 1) := dk_42 (dk_at dksX19_goesOn_1 11 rfl rfl)
theorem dX19_goesOn_36 : decode cX19_goesOn 36 = .ok (.aload_n 0, 1) := dk_42 (dk_at dksX19_goesOn_1 12 rfl rfl)
theorem dX19_goesOn_37 : decode cX19_goesOn 37 = .ok (.getfield 121, 3) := dk_180 0 121 (dk_at dksX19_goesOn_1 13 rfl rfl)
theorem dX19_goesOn_40 : decode cX19_goesOn 40 = .ok (.putfield 127, 3) := dk_181 0 127 (dk_at dksX19_goesOn_1 16 rfl rfl)
theorem dX19_goesOn_43 : decode cX19_goesOn 43 = .ok (.aload_n 0, 1) := dk_42 (dk_at dksX19_goesOn_1 19 rfl rfl)
theorem dX19_goesOn_44 : decode cX19_goesOn 44 = .ok (.iconst 0, 1) := dk_3 (dk_at dksX19_goesOn_1 20 rfl rfl)
theorem dX19_goesOn_45 : decode cX19_goesOn 45 = .ok (.putfield 118, 3) := dk_181 0 118 (dk_at dksX19_goesOn_1 21 rfl rfl)
theorem dX19_goesOn_48 : decode cX19_goesOn 48 = .ok (.aload_n 0, 1) := dk_42 (dk_at dksX19_goesOn_2 0 rfl rfl)
theorem dX19_goesOn_49 : decode cX19_goesOn 49 = .ok (.iconst 0, 1) := dk_3 (dk_at dksX19_goesOn_2 1 rfl rfl)
theorem dX19_goesOn_50 : decode cX19_goesOn 50 = .ok (.putfield 130, 3) := dk_181 0 130 (dk_at dksX19_goesOn_2 2 rfl rfl)
theorem dX19_goesOn_53 : decode cX19_goesOn 53 = .ok (.aload_n 0, 1) := dk_42 (dk_at dksX19_goesOn_2 5 rfl rfl)
theorem dX19_goesOn_54 : decode cX19_goesOn 54 = .ok (.aload_n 0, 1) := dk_42 (dk_at dksX19_goesOn_2 6 rfl rfl)
theorem dX19_goesOn_55 : decode cX19_goesOn 55 = .ok (.getfield 121, 3) := dk_180 0 121 (dk_at dksX19_goesOn_2 7 rfl rfl)
theorem dX19_goesOn_58 : decode cX19_goesOn 58 = .ok (.invokevirtual 124, 3) := dk_182 0 124 (dk_at dksX19_goesOn_2 10 rfl rfl)
theorem dX19_goesOn_61 : decode cX19_goesOn 61 = .ok (.istore_n 1, 1) := dk_60 (dk_at dksX19_goesOn_2 13 rfl rfl)
theorem dX19_goesOn_62 : decode cX19_goesOn 62 = .ok (.iconst 0, 1) := dk_3 (dk_at dksX19_goesOn_2 14 rfl rfl)
theorem dX19_goesOn_63 : decode cX19_goesOn 63 = .ok (.istore_n 2, 1) := dk_61 (dk_at dksX19_goesOn_2 15 rfl rfl)
theorem dX19_goesOn_64 : decode cX19_goesOn 64 = .ok (.iload_n 1, 1) := dk_27 (dk_at dksX19_goesOn_2 16 rfl rfl)
theorem dX19_goesOn_65 : decode cX19_goesOn 65 = .ok (.iconst (-1), 1) := dk_2 (dk_at dksX19_goesOn_2 17 rfl rfl)
theorem dX19_goesOn_66 : decode cX19_goesOn 66 = .ok (.if_icmp .ne 11, 3) := dk_160 0 11 (dk_at dksX19_goesOn_2 18 rfl rfl)
theorem dX19_goesOn_69 : decode cX19_goesOn 69 = .ok (.aload_n 0, 1) := dk_42 (dk_at dksX19_goesOn_2 21 rfl rfl)
theorem dX19_goesOn_70 : decode cX19_goesOn 70 = .ok (.iconst 1, 1) := dk_4 (dk_at dksX19_goesOn_2 22 rfl rfl)
theorem dX19_goesOn_71 : decode cX19_goesOn 71 = .ok (.putfield 118, 3) := dk_181 0 118 (dk_at dksX19_goesOn_3 0 rfl rfl)
theorem dX19_goesOn_74 : decode cX19_goesOn 74 = .ok (.goto 207, 3) := dk_167 0 207 (dk_at dksX19_goesOn_3 3 rfl rfl)
theorem dX19_goesOn_77 : decode cX19_goesOn 77 = .ok (.iload_n 1, 1) := dk_27 (dk_at dksX19_goesOn_3 6 rfl rfl)
theorem dX19_goesOn_78 : decode cX19_goesOn 78 = .ok (.invokestatic 133, 3) := dk_184 0 133 (dk_at dksX19_goesOn_3 7 rfl rfl)
theorem dX19_goesOn_81 : decode cX19_goesOn 81 = .ok (.ifCond .eq 85, 3) := dk_153 0 85 (dk_at dksX19_goesOn_3 10 rfl rfl)
theorem dX19_goesOn_84 : decode cX19_goesOn 84 = .ok (.aload_n 0, 1) := dk_42 (dk_at dksX19_goesOn_3 13 rfl rfl)
theorem dX19_goesOn_85 : decode cX19_goesOn 85 = .ok (.lconst 0, 1) := dk_9 (dk_at dksX19_goesOn_3 14 rfl rfl)
theorem dX19_goesOn_86 : decode cX19_goesOn 86 = .ok (.putfield 137, 3) := dk_181 0 137 (dk_at dksX19_goesOn_3 15 rfl rfl)
theorem dX19_goesOn_89 : decode cX19_goesOn 89 = .ok (.aload_n 0, 1) := dk_42 (dk_at dksX19_goesOn_3 18 rfl rfl)
theorem dX19_goesOn_90 : decode cX19_goesOn 90 = .ok (.aload_n 0, 1) := dk_42 (dk_at dksX19_goesOn_3 19 rfl rfl)
theorem dX19_goesOn_91 : decode cX19_goesOn 91 = .ok (.getfield 121, 3) := dk_180 0 121 (dk_at dksX19_goesOn_3 20 rfl rfl)
theorem dX19_goesOn_94 : decode cX19_goesOn 94 = .ok (.invokevirtual 124, 3) := dk_182 0 124 (dk_at dksX19_goesOn_4 0 rfl rfl)
theorem dX19_goesOn_97 : decode cX19_goesOn 97 = .ok (.invokestatic 133, 3) := dk_184 0 133 (dk_at dksX19_goesOn_4 3 rfl rfl)
theorem dX19_goesOn_100 : decode cX19_goesOn 100 = .ok (.ifCond .eq 52, 3) := dk_153 0 52 (dk_at dksX19_goesOn_4 6 rfl rfl)
theorem dX19_goesOn_103 : decode cX19_goesOn 103 = .ok (.iload_n 2, 1) := dk_28 (dk_at dksX19_goesOn_4 9 rfl rfl)
theorem dX19_goesOn_104 : decode cX19_goesOn 104 = .ok (.bipush 8, 2) := dk_16 8 (dk_at dksX19_goesOn_4 10 rfl rfl)
theorem dX19_goesOn_106 : decode cX19_goesOn 106 = .ok (.if_icmp .ge 30, 3) := dk_162 0 30 (dk_at dksX19_goesOn_4 12 rfl rfl)
theorem dX19_goesOn_109 : decode cX19_goesOn 109 = .ok (.aload_n 0, 1) := dk_42 (dk_at dksX19_goesOn_4 15 rfl rfl)
theorem dX19_goesOn_110 : decode cX19_goesOn 110 = .ok (.ldc2_w 112, 3) := dk_20 0 112 (dk_at dksX19_goesOn_4 16 rfl rfl)
theorem dX19_goesOn_113 : decode cX19_goesOn 113 = .ok (.aload_n 0, 1) := dk_42 (dk_at dksX19_goesOn_4 19 rfl rfl)
theorem dX19_goesOn_114 : decode cX19_goesOn 114 = .ok (.getfield 137, 3) := dk_180 0 137 (dk_at dksX19_goesOn_4 20 rfl rfl)
theorem dX19_goesOn_117 : decode cX19_goesOn 117 = .ok (.lmul, 1) := dk_105 (dk_at dksX19_goesOn_4 23 rfl rfl)
theorem dX19_goesOn_118 : decode cX19_goesOn 118 = .ok (.aload_n 0, 1) := dk_42 (dk_at dksX19_goesOn_5 0 rfl rfl)
theorem dX19_goesOn_119 : decode cX19_goesOn 119 = .ok (.aload_n 0, 1) := dk_42 (dk_at dksX19_goesOn_5 1 rfl rfl)
theorem dX19_goesOn_120 : decode cX19_goesOn 120 = .ok (.getfield 121, 3) := dk_180 0 121 (dk_at dksX19_goesOn_5 2 rfl rfl)
theorem dX19_goesOn_123 : decode cX19_goesOn 123 = .ok (.invokevirtual 124, 3) := dk_182 0 124 (dk_at dksX19_goesOn_5 5 rfl rfl)
theorem dX19_goesOn_126 : decode cX19_goesOn 126 = .ok (.bipush 97, 2) := dk_16 97 (dk_at dksX19_goesOn_5 8 rfl rfl)
theorem dX19_goesOn_128 : decode cX19_goesOn 128 = .ok (.isub, 1) := dk_100 (dk_at dksX19_goesOn_5 10 rfl rfl)
theorem dX19_goesOn_129 : decode cX19_goesOn 129 = .ok (.iconst 1, 1) := dk_4 (dk_at dksX19_goesOn_5 11 rfl rfl)
theorem dX19_goesOn_130 : decode cX19_goesOn 130 = .ok (.iadd, 1) := dk_96 (dk_at dksX19_goesOn_5 12 rfl rfl)
theorem dX19_goesOn_131 : decode cX19_goesOn 131 = .ok (.i2l, 1) := dk_133 (dk_at dksX19_goesOn_5 13 rfl rfl)
theorem dX19_goesOn_132 : decode cX19_goesOn 132 = .ok (.ladd, 1) := dk_97 (dk_at dksX19_goesOn_5 14 rfl rfl)
theorem dX19_goesOn_133 : decode cX19_goesOn 133 = .ok (.putfield 137, 3) := dk_181 0 137 (dk_at dksX19_goesOn_5 15 rfl rfl)
theorem dX19_goesOn_136 : decode cX19_goesOn 136 = .ok (.iinc 2 1, 3) := dk_132 2 1 (dk_at dksX19_goesOn_5 18 rfl rfl)
theorem dX19_goesOn_139 : decode cX19_goesOn 139 = .ok (.aload_n 0, 1) := dk_42 (dk_at dksX19_goesOn_5 21 rfl rfl)
theorem dX19_goesOn_140 : decode cX19_goesOn 140 = .ok (.dup, 1) := dk_89 (dk_at dksX19_goesOn_5 22 rfl rfl)
theorem dX19_goesOn_141 : decode cX19_goesOn 141 = .ok (.getfield 121, 3) := dk_180 0 121 (dk_at dksX19_goesOn_6 0 rfl rfl)
theorem dX19_goesOn_144 : decode cX19_goesOn 144 = .ok (.iconst 1, 1) := dk_4 (dk_at dksX19_goesOn_6 3 rfl rfl)
theorem dX19_goesOn_145 : decode cX19_goesOn 145 = .ok (.iadd, 1) := dk_96 (dk_at dksX19_goesOn_6 4 rfl rfl)
theorem dX19_goesOn_146 : decode cX19_goesOn 146 = .ok (.putfield 121, 3) := dk_181 0 121 (dk_at dksX19_goesOn_6 5 rfl rfl)
theorem dX19_goesOn_149 : decode cX19_goesOn 149 = .ok (.goto (-60), 3) := dk_167 255 196 (dk_at dksX19_goesOn_6 8 rfl rfl)
theorem dX19_goesOn_152 : decode cX19_goesOn 152 = .ok (.iload_n 2, 1) := dk_28 (dk_at dksX19_goesOn_6 11 rfl rfl)
theorem dX19_goesOn_153 : decode cX19_goesOn 153 = .ok (.bipush 8, 2) := dk_16 8 (dk_at dksX19_goesOn_6 12 rfl rfl)
theorem dX19_goesOn_155 : decode cX19_goesOn 155 = .ok (.if_icmp .gt 126, 3) := dk_163 0 126 (dk_at dksX19_goesOn_6 14 rfl rfl)
theorem dX19_goesOn_158 : decode cX19_goesOn 158 = .ok (.aload_n 0, 1) := dk_42 (dk_at dksX19_goesOn_6 17 rfl rfl)
theorem dX19_goesOn_159 : decode cX19_goesOn 159 = .ok (.iconst 2, 1) := dk_5 (dk_at dksX19_goesOn_6 18 rfl rfl)
theorem dX19_goesOn_160 : decode cX19_goesOn 160 = .ok (.putfield 118, 3) := dk_181 0 118 (dk_at dksX19_goesOn_6 19 rfl rfl)
theorem dX19_goesOn_163 : decode cX19_goesOn 163 = .ok (.goto 118, 3) := dk_167 0 118 (dk_at dksX19_goesOn_7 0 rfl rfl)
theorem dX19_goesOn_166 : decode cX19_goesOn 166 = .ok (.iload_n 1, 1) := dk_27 (dk_at dksX19_goesOn_7 3 rfl rfl)
theorem dX19_goesOn_167 : decode cX19_goesOn 167 = .ok (.invokestatic 141, 3) := dk_184 0 141 (dk_at dksX19_goesOn_7 4 rfl rfl)
theorem dX19_goesOn_170 : decode cX19_goesOn 170 = .ok (.ifCond .eq 79, 3) := dk_153 0 79 (dk_at dksX19_goesOn_7 7 rfl rfl)
theorem dX19_goesOn_173 : decode cX19_goesOn 173 = .ok (.aload_n 0, 1) := dk_42 (dk_at dksX19_goesOn_7 10 rfl rfl)
theorem dX19_goesOn_174 : decode cX19_goesOn 174 = .ok (.iconst 0, 1) := dk_3 (dk_at dksX19_goesOn_7 11 rfl rfl)
theorem dX19_goesOn_175 : decode cX19_goesOn 175 = .ok (.putfield 144, 3) := dk_181 0 144 (dk_at dksX19_goesOn_7 12 rfl rfl)
theorem dX19_goesOn_178 : decode cX19_goesOn 178 = .ok (.aload_n 0, 1) := dk_42 (dk_at dksX19_goesOn_7 15 rfl rfl)
theorem dX19_goesOn_179 : decode cX19_goesOn 179 = .ok (.aload_n 0, 1) := dk_42 (dk_at dksX19_goesOn_7 16 rfl rfl)
theorem dX19_goesOn_180 : decode cX19_goesOn 180 = .ok (.getfield 121, 3) := dk_180 0 121 (dk_at dksX19_goesOn_7 17 rfl rfl)
theorem dX19_goesOn_183 : decode cX19_goesOn 183 = .ok (.invokevirtual 124, 3) := dk_182 0 124 (dk_at dksX19_goesOn_7 20 rfl rfl)
theorem dX19_goesOn_186 : decode cX19_goesOn 186 = .ok (.invokestatic 141, 3) := dk_184 0 141 (dk_at dksX19_goesOn_8 0 rfl rfl)
theorem dX19_goesOn_189 : decode cX19_goesOn 189 = .ok (.ifCond .eq 47, 3) := dk_153 0 47 (dk_at dksX19_goesOn_8 3 rfl rfl)
theorem dX19_goesOn_192 : decode cX19_goesOn 192 = .ok (.iload_n 2, 1) := dk_28 (dk_at dksX19_goesOn_8 6 rfl rfl)
theorem dX19_goesOn_193 : decode cX19_goesOn 193 = .ok (.iconst 3, 1) := dk_6 (dk_at dksX19_goesOn_8 7 rfl rfl)
theorem dX19_goesOn_194 : decode cX19_goesOn 194 = .ok (.if_icmp .ge 26, 3) := dk_162 0 26 (dk_at dksX19_goesOn_8 8 rfl rfl)
theorem dX19_goesOn_197 : decode cX19_goesOn 197 = .ok (.aload_n 0, 1) := dk_42 (dk_at dksX19_goesOn_8 11 rfl rfl)
theorem dX19_goesOn_198 : decode cX19_goesOn 198 = .ok (.bipush 10, 2) := dk_16 10 (dk_at dksX19_goesOn_8 12 rfl rfl)
theorem dX19_goesOn_200 : decode cX19_goesOn 200 = .ok (.aload_n 0, 1) := dk_42 (dk_at dksX19_goesOn_8 14 rfl rfl)
theorem dX19_goesOn_201 : decode cX19_goesOn 201 = .ok (.getfield 144, 3) := dk_180 0 144 (dk_at dksX19_goesOn_8 15 rfl rfl)
theorem dX19_goesOn_204 : decode cX19_goesOn 204 = .ok (.imul, 1) := dk_104 (dk_at dksX19_goesOn_8 18 rfl rfl)
theorem dX19_goesOn_205 : decode cX19_goesOn 205 = .ok (.aload_n 0, 1) := dk_42 (dk_at dksX19_goesOn_8 19 rfl rfl)
theorem dX19_goesOn_206 : decode cX19_goesOn 206 = .ok (.aload_n 0, 1) := dk_42 (dk_at dksX19_goesOn_8 20 rfl rfl)
theorem dX19_goesOn_207 : decode cX19_goesOn 207 = .ok (.getfield 121, 3) := dk_180 0 121 (dk_at dksX19_goesOn_8 21 rfl rfl)
theorem dX19_goesOn_210 : decode cX19_goesOn 210 = .ok (.invokevirtual 124, 3) := dk_182 0 124 (dk_at dksX19_goesOn_9 0 rfl rfl)
theorem dX19_goesOn_213 : decode cX19_goesOn 213 = .ok (.iadd, 1) := dk_96 (dk_at dksX19_goesOn_9 3 rfl rfl)
theorem dX19_goesOn_214 : decode cX19_goesOn 214 = .ok (.bipush 48, 2) := dk_16 48 (dk_at dksX19_goesOn_9 4 rfl rfl)
theorem dX19_goesOn_216 : decode cX19_goesOn 216 = .ok (.isub, 1) := dk_100 (dk_at dksX19_goesOn_9 6 rfl rfl)
theorem dX19_goesOn_217 : decode cX19_goesOn 217 = .ok (.putfield 144, 3) := dk_181 0 144 (dk_at dksX19_goesOn_9 7 rfl rfl)
theorem dX19_goesOn_220 : decode cX19_goesOn 220 = .ok (.iinc 2 1, 3) := dk_132 2 1 (dk_at dksX19_goesOn_9 10 rfl rfl)
theorem dX19_goesOn_223 : decode cX19_goesOn 223 = .ok (.aload_n 0, 1) := dk_42 (dk_at dksX19_goesOn_9 13 rfl rfl)
theorem dX19_goesOn_224 : decode cX19_goesOn 224 = .ok (.dup, 1) := dk_89 (dk_at dksX19_goesOn_9 14 rfl rfl)
theorem dX19_goesOn_225 : decode cX19_goesOn 225 = .ok (.getfield 121, 3) := dk_180 0 121 (dk_at dksX19_goesOn_9 15 rfl rfl)
theorem dX19_goesOn_228 : decode cX19_goesOn 228 = .ok (.iconst 1, 1) := dk_4 (dk_at dksX19_goesOn_9 18 rfl rfl)
theorem dX19_goesOn_229 : decode cX19_goesOn 229 = .ok (.iadd, 1) := dk_96 (dk_at dksX19_goesOn_9 19 rfl rfl)
theorem dX19_goesOn_230 : decode cX19_goesOn 230 = .ok (.putfield 121, 3) := dk_181 0 121 (dk_at dksX19_goesOn_9 20 rfl rfl)
theorem dX19_goesOn_233 : decode cX19_goesOn 233 = .ok (.goto (-55), 3) := dk_167 255 201 (dk_at dksX19_goesOn_10 0 rfl rfl)
theorem dX19_goesOn_236 : decode cX19_goesOn 236 = .ok (.iload_n 2, 1) := dk_28 (dk_at dksX19_goesOn_10 3 rfl rfl)
theorem dX19_goesOn_237 : decode cX19_goesOn 237 = .ok (.iconst 3, 1) := dk_6 (dk_at dksX19_goesOn_10 4 rfl rfl)
theorem dX19_goesOn_238 : decode cX19_goesOn 238 = .ok (.if_icmp .gt 43, 3) := dk_163 0 43 (dk_at dksX19_goesOn_10 5 rfl rfl)
theorem dX19_goesOn_241 : decode cX19_goesOn 241 = .ok (.aload_n 0, 1) := dk_42 (dk_at dksX19_goesOn_10 8 rfl rfl)
theorem dX19_goesOn_242 : decode cX19_goesOn 242 = .ok (.iconst 3, 1) := dk_6 (dk_at dksX19_goesOn_10 9 rfl rfl)
theorem dX19_goesOn_243 : decode cX19_goesOn 243 = .ok (.putfield 118, 3) := dk_181 0 118 (dk_at dksX19_goesOn_10 10 rfl rfl)
theorem dX19_goesOn_246 : decode cX19_goesOn 246 = .ok (.goto 35, 3) := dk_167 0 35 (dk_at dksX19_goesOn_10 13 rfl rfl)
theorem dX19_goesOn_249 : decode cX19_goesOn 249 = .ok (.iload_n 1, 1) := dk_27 (dk_at dksX19_goesOn_10 16 rfl rfl)
theorem dX19_goesOn_250 : decode cX19_goesOn 250 = .ok (.bipush 59, 2) := dk_16 59 (dk_at dksX19_goesOn_10 17 rfl rfl)
theorem dX19_goesOn_252 : decode cX19_goesOn 252 = .ok (.if_icmp .eq 9, 3) := dk_159 0 9 (dk_at dksX19_goesOn_10 19 rfl rfl)
theorem dX19_goesOn_255 : decode cX19_goesOn 255 = .ok (.iload_n 1, 1) := dk_27 (dk_at dksX19_goesOn_10 22 rfl rfl)
theorem dX19_goesOn_256 : decode cX19_goesOn 256 = .ok (.bipush 44, 2) := dk_16 44 (dk_at dksX19_goesOn_11 0 rfl rfl)
theorem dX19_goesOn_258 : decode cX19_goesOn 258 = .ok (.if_icmp .ne 23, 3) := dk_160 0 23 (dk_at dksX19_goesOn_11 2 rfl rfl)
theorem dX19_goesOn_261 : decode cX19_goesOn 261 = .ok (.aload_n 0, 1) := dk_42 (dk_at dksX19_goesOn_11 5 rfl rfl)
theorem dX19_goesOn_262 : decode cX19_goesOn 262 = .ok (.iconst 4, 1) := dk_7 (dk_at dksX19_goesOn_11 6 rfl rfl)
theorem dX19_goesOn_263 : decode cX19_goesOn 263 = .ok (.putfield 118, 3) := dk_181 0 118 (dk_at dksX19_goesOn_11 7 rfl rfl)
theorem dX19_goesOn_266 : decode cX19_goesOn 266 = .ok (.aload_n 0, 1) := dk_42 (dk_at dksX19_goesOn_11 10 rfl rfl)
theorem dX19_goesOn_267 : decode cX19_goesOn 267 = .ok (.iload_n 1, 1) := dk_27 (dk_at dksX19_goesOn_11 11 rfl rfl)
theorem dX19_goesOn_268 : decode cX19_goesOn 268 = .ok (.putfield 130, 3) := dk_181 0 130 (dk_at dksX19_goesOn_11 12 rfl rfl)
theorem dX19_goesOn_271 : decode cX19_goesOn 271 = .ok (.aload_n 0, 1) := dk_42 (dk_at dksX19_goesOn_11 15 rfl rfl)
theorem dX19_goesOn_272 : decode cX19_goesOn 272 = .ok (.dup, 1) := dk_89 (dk_at dksX19_goesOn_11 16 rfl rfl)
theorem dX19_goesOn_273 : decode cX19_goesOn 273 = .ok (.getfield 121, 3) := dk_180 0 121 (dk_at dksX19_goesOn_11 17 rfl rfl)
theorem dX19_goesOn_276 : decode cX19_goesOn 276 = .ok (.iconst 1, 1) := dk_4 (dk_at dksX19_goesOn_11 20 rfl rfl)
theorem dX19_goesOn_277 : decode cX19_goesOn 277 = .ok (.iadd, 1) := dk_96 (dk_at dksX19_goesOn_11 21 rfl rfl)
theorem dX19_goesOn_278 : decode cX19_goesOn 278 = .ok (.putfield 121, 3) := dk_181 0 121 (dk_at dksX19_goesOn_12 0 rfl rfl)
theorem dX19_goesOn_281 : decode cX19_goesOn 281 = .ok (.return_, 1) := dk_177 (dk_at dksX19_goesOn_12 3 rfl rfl)
abbrev cX19_byteAt : ByteArray := prog_23_method_11_code
def yX19_byteAt : MethodName := ⟨RX19, "byteAt", "(I)I"⟩
def dkwX19_byteAt_0 : List UInt8 := [27, 42, 180, 0, 103, 162, 0, 16, 42, 180, 0, 13, 27, 51, 17, 0, 255, 126, 167, 0, 4, 2, 172]
abbrev dktX19_byteAt_0 : List UInt8 := dkwX19_byteAt_0 ++ []
theorem dksX19_byteAt_0 : cX19_byteAt.data.toList.drop 0 = dktX19_byteAt_0 := by decide +kernel
theorem dX19_byteAt_0 : decode cX19_byteAt 0 = .ok (.iload_n 1, 1) := dk_27 (dk_at dksX19_byteAt_0 0 rfl rfl)
theorem dX19_byteAt_1 : decode cX19_byteAt 1 = .ok (.aload_n 0, 1) := dk_42 (dk_at dksX19_byteAt_0 1 rfl rfl)
theorem dX19_byteAt_2 : decode cX19_byteAt 2 = .ok (.getfield 103, 3) := dk_180 0 103 (dk_at dksX19_byteAt_0 2 rfl rfl)
theorem dX19_byteAt_5 : decode cX19_byteAt 5 = .ok (.if_icmp .ge 16, 3) := dk_162 0 16 (dk_at dksX19_byteAt_0 5 rfl rfl)
theorem dX19_byteAt_8 : decode cX19_byteAt 8 = .ok (.aload_n 0, 1) := dk_42 (dk_at dksX19_byteAt_0 8 rfl rfl)
theorem dX19_byteAt_9 : decode cX19_byteAt 9 = .ok (.getfield 13, 3) := dk_180 0 13 (dk_at dksX19_byteAt_0 9 rfl rfl)
theorem dX19_byteAt_12 : decode cX19_byteAt 12 = .ok (.iload_n 1, 1) := dk_27 (dk_at dksX19_byteAt_0 12 rfl rfl)
theorem dX19_byteAt_13 : decode cX19_byteAt 13 = .ok (.baload, 1) := dk_51 (dk_at dksX19_byteAt_0 13 rfl rfl)
theorem dX19_byteAt_14 : decode cX19_byteAt 14 = .ok (.sipush 255, 3) := dk_17 0 255 (dk_at dksX19_byteAt_0 14 rfl rfl)
theorem dX19_byteAt_17 : decode cX19_byteAt 17 = .ok (.iand, 1) := dk_126 (dk_at dksX19_byteAt_0 17 rfl rfl)
theorem dX19_byteAt_18 : decode cX19_byteAt 18 = .ok (.goto 4, 3) := dk_167 0 4 (dk_at dksX19_byteAt_0 18 rfl rfl)
theorem dX19_byteAt_21 : decode cX19_byteAt 21 = .ok (.iconst (-1), 1) := dk_2 (dk_at dksX19_byteAt_0 21 rfl rfl)
theorem dX19_byteAt_22 : decode cX19_byteAt 22 = .ok (.ireturn, 1) := dk_172 (dk_at dksX19_byteAt_0 22 rfl rfl)
abbrev cX19_isLetter : ByteArray := prog_23_method_12_code
def yX19_isLetter : MethodName := ⟨RX19, "isLetter", "(I)Z"⟩
def dkwX19_isLetter_0 : List UInt8 := [26, 16, 97, 161, 0, 13, 26, 16, 122, 163, 0, 7, 4, 167, 0, 4, 3, 172]
abbrev dktX19_isLetter_0 : List UInt8 := dkwX19_isLetter_0 ++ []
theorem dksX19_isLetter_0 : cX19_isLetter.data.toList.drop 0 = dktX19_isLetter_0 := by decide +kernel
theorem dX19_isLetter_0 : decode cX19_isLetter 0 = .ok (.iload_n 0, 1) := dk_26 (dk_at dksX19_isLetter_0 0 rfl rfl)
theorem dX19_isLetter_1 : decode cX19_isLetter 1 = .ok (.bipush 97, 2) := dk_16 97 (dk_at dksX19_isLetter_0 1 rfl rfl)
theorem dX19_isLetter_3 : decode cX19_isLetter 3 = .ok (.if_icmp .lt 13, 3) := dk_161 0 13 (dk_at dksX19_isLetter_0 3 rfl rfl)
theorem dX19_isLetter_6 : decode cX19_isLetter 6 = .ok (.iload_n 0, 1) := dk_26 (dk_at dksX19_isLetter_0 6 rfl rfl)
theorem dX19_isLetter_7 : decode cX19_isLetter 7 = .ok (.bipush 122, 2) := dk_16 122 (dk_at dksX19_isLetter_0 7 rfl rfl)
theorem dX19_isLetter_9 : decode cX19_isLetter 9 = .ok (.if_icmp .gt 7, 3) := dk_163 0 7 (dk_at dksX19_isLetter_0 9 rfl rfl)
theorem dX19_isLetter_12 : decode cX19_isLetter 12 = .ok (.iconst 1, 1) := dk_4 (dk_at dksX19_isLetter_0 12 rfl rfl)
theorem dX19_isLetter_13 : decode cX19_isLetter 13 = .ok (.goto 4, 3) := dk_167 0 4 (dk_at dksX19_isLetter_0 13 rfl rfl)
theorem dX19_isLetter_16 : decode cX19_isLetter 16 = .ok (.iconst 0, 1) := dk_3 (dk_at dksX19_isLetter_0 16 rfl rfl)
theorem dX19_isLetter_17 : decode cX19_isLetter 17 = .ok (.ireturn, 1) := dk_172 (dk_at dksX19_isLetter_0 17 rfl rfl)
abbrev cX19_isDigit : ByteArray := prog_23_method_13_code
def yX19_isDigit : MethodName := ⟨RX19, "isDigit", "(I)Z"⟩
def dkwX19_isDigit_0 : List UInt8 := [26, 16, 48, 161, 0, 13, 26, 16, 57, 163, 0, 7, 4, 167, 0, 4, 3, 172]
abbrev dktX19_isDigit_0 : List UInt8 := dkwX19_isDigit_0 ++ []
theorem dksX19_isDigit_0 : cX19_isDigit.data.toList.drop 0 = dktX19_isDigit_0 := by decide +kernel
theorem dX19_isDigit_0 : decode cX19_isDigit 0 = .ok (.iload_n 0, 1) := dk_26 (dk_at dksX19_isDigit_0 0 rfl rfl)
theorem dX19_isDigit_1 : decode cX19_isDigit 1 = .ok (.bipush 48, 2) := dk_16 48 (dk_at dksX19_isDigit_0 1 rfl rfl)
theorem dX19_isDigit_3 : decode cX19_isDigit 3 = .ok (.if_icmp .lt 13, 3) := dk_161 0 13 (dk_at dksX19_isDigit_0 3 rfl rfl)
theorem dX19_isDigit_6 : decode cX19_isDigit 6 = .ok (.iload_n 0, 1) := dk_26 (dk_at dksX19_isDigit_0 6 rfl rfl)
theorem dX19_isDigit_7 : decode cX19_isDigit 7 = .ok (.bipush 57, 2) := dk_16 57 (dk_at dksX19_isDigit_0 7 rfl rfl)
theorem dX19_isDigit_9 : decode cX19_isDigit 9 = .ok (.if_icmp .gt 7, 3) := dk_163 0 7 (dk_at dksX19_isDigit_0 9 rfl rfl)
theorem dX19_isDigit_12 : decode cX19_isDigit 12 = .ok (.iconst 1, 1) := dk_4 (dk_at dksX19_isDigit_0 12 rfl rfl)
theorem dX19_isDigit_13 : decode cX19_isDigit 13 = .ok (.goto 4, 3) := dk_167 0 4 (dk_at dksX19_isDigit_0 13 rfl rfl)
theorem dX19_isDigit_16 : decode cX19_isDigit 16 = .ok (.iconst 0, 1) := dk_3 (dk_at dksX19_isDigit_0 16 rfl rfl)
theorem dX19_isDigit_17 : decode cX19_isDigit 17 = .ok (.ireturn, 1) := dk_172 (dk_at dksX19_isDigit_0 17 rfl rfl)
abbrev cX19_readAll : ByteArray := prog_23_method_26_code
def yX19_readAll : MethodName := ⟨RX19, "readAll", "()V"⟩
def dkwX19_readAll_1 : List UInt8 := [4, 159, 0, 8, 42, 4, 182, 0, 164, 177]
abbrev dktX19_readAll_1 : List UInt8 := dkwX19_readAll_1 ++ []
def dkwX19_readAll_0 : List UInt8 := [4, 60, 27, 153, 0, 17, 42, 182, 0, 198, 42, 16, 59, 182, 0, 201, 60, 167, 255, 241, 42, 180, 0, 118]
abbrev dktX19_readAll_0 : List UInt8 := dkwX19_readAll_0 ++ dktX19_readAll_1
theorem dksX19_readAll_0 : cX19_readAll.data.toList.drop 0 = dktX19_readAll_0 := by decide +kernel
theorem dksX19_readAll_1 : cX19_readAll.data.toList.drop 24 = dktX19_readAll_1 := dk_seg dksX19_readAll_0 24 rfl rfl
theorem dX19_readAll_0 : decode cX19_readAll 0 = .ok (.iconst 1, 1) := dk_4 (dk_at dksX19_readAll_0 0 rfl rfl)
theorem dX19_readAll_1 : decode cX19_readAll 1 = .ok (.istore_n 1, 1) := dk_60 (dk_at dksX19_readAll_0 1 rfl rfl)
theorem dX19_readAll_2 : decode cX19_readAll 2 = .ok (.iload_n 1, 1) := dk_27 (dk_at dksX19_readAll_0 2 rfl rfl)
theorem dX19_readAll_3 : decode cX19_readAll 3 = .ok (.ifCond .eq 17, 3) := dk_153 0 17 (dk_at dksX19_readAll_0 3 rfl rfl)
theorem dX19_readAll_6 : decode cX19_readAll 6 = .ok (.aload_n 0, 1) := dk_42 (dk_at dksX19_readAll_0 6 rfl rfl)
theorem dX19_readAll_7 : decode cX19_readAll 7 = .ok (.invokevirtual 198, 3) := dk_182 0 198 (dk_at dksX19_readAll_0 7 rfl rfl)
theorem dX19_readAll_10 : decode cX19_readAll 10 = .ok (.aload_n 0, 1) := dk_42 (dk_at dksX19_readAll_0 10 rfl rfl)
theorem dX19_readAll_11 : decode cX19_readAll 11 = .ok (.bipush 59, 2) := dk_16 59 (dk_at dksX19_readAll_0 11 rfl rfl)
theorem dX19_readAll_13 : decode cX19_readAll 13 = .ok (.invokevirtual 201, 3) := dk_182 0 201 (dk_at dksX19_readAll_0 13 rfl rfl)
theorem dX19_readAll_16 : decode cX19_readAll 16 = .ok (.istore_n 1, 1) := dk_60 (dk_at dksX19_readAll_0 16 rfl rfl)
theorem dX19_readAll_17 : decode cX19_readAll 17 = .ok (.goto (-15), 3) := dk_167 255 241 (dk_at dksX19_readAll_0 17 rfl rfl)
theorem dX19_readAll_20 : decode cX19_readAll 20 = .ok (.aload_n 0, 1) := dk_42 (dk_at dksX19_readAll_0 20 rfl rfl)
theorem dX19_readAll_21 : decode cX19_readAll 21 = .ok (.getfield 118, 3) := dk_180 0 118 (dk_at dksX19_readAll_0 21 rfl rfl)
theorem dX19_readAll_24 : decode cX19_readAll 24 = .ok (.iconst 1, 1) := dk_4 (dk_at dksX19_readAll_1 0 rfl rfl)
theorem dX19_readAll_25 : decode cX19_readAll 25 = .ok (.if_icmp .eq 8, 3) := dk_159 0 8 (dk_at dksX19_readAll_1 1 rfl rfl)
theorem dX19_readAll_28 : decode cX19_readAll 28 = .ok (.aload_n 0, 1) := dk_42 (dk_at dksX19_readAll_1 4 rfl rfl)
theorem dX19_readAll_29 : decode cX19_readAll 29 = .ok (.iconst 1, 1) := dk_4 (dk_at dksX19_readAll_1 5 rfl rfl)
theorem dX19_readAll_30 : decode cX19_readAll 30 = .ok (.invokevirtual 164, 3) := dk_182 0 164 (dk_at dksX19_readAll_1 6 rfl rfl)
theorem dX19_readAll_33 : decode cX19_readAll 33 = .ok (.return_, 1) := dk_177 (dk_at dksX19_readAll_1 9 rfl rfl)
abbrev cX19_readLine : ByteArray := prog_23_method_27_code
def yX19_readLine : MethodName := ⟨RX19, "readLine", "()V"⟩
def dkwX19_readLine_2 : List UInt8 := [167, 0, 8, 42, 4, 182, 0, 164, 177]
abbrev dktX19_readLine_2 : List UInt8 := dkwX19_readLine_2 ++ []
def dkwX19_readLine_1 : List UInt8 := [153, 0, 10, 42, 182, 0, 207, 167, 0, 24, 42, 18, 184, 182, 0, 157, 153, 0, 10, 42, 182, 0, 210]
abbrev dktX19_readLine_1 : List UInt8 := dkwX19_readLine_1 ++ dktX19_readLine_2
def dkwX19_readLine_0 : List UInt8 := [42, 18, 180, 182, 0, 157, 153, 0, 10, 42, 182, 0, 204, 167, 0, 40, 42, 18, 182, 182, 0, 157]
abbrev dktX19_readLine_0 : List UInt8 := dkwX19_readLine_0 ++ dktX19_readLine_1
theorem dksX19_readLine_0 : cX19_readLine.data.toList.drop 0 = dktX19_readLine_0 := by decide +kernel
theorem dksX19_readLine_1 : cX19_readLine.data.toList.drop 22 = dktX19_readLine_1 := dk_seg dksX19_readLine_0 22 rfl rfl
theorem dksX19_readLine_2 : cX19_readLine.data.toList.drop 45 = dktX19_readLine_2 := dk_seg dksX19_readLine_1 23 rfl rfl
theorem dX19_readLine_0 : decode cX19_readLine 0 = .ok (.aload_n 0, 1) := dk_42 (dk_at dksX19_readLine_0 0 rfl rfl)
theorem dX19_readLine_1 : decode cX19_readLine 1 = .ok (.ldc 180, 2) := dk_18 180 (dk_at dksX19_readLine_0 1 rfl rfl)
theorem dX19_readLine_3 : decode cX19_readLine 3 = .ok (.invokevirtual 157, 3) := dk_182 0 157 (dk_at dksX19_readLine_0 3 rfl rfl)
theorem dX19_readLine_6 : decode cX19_readLine 6 = .ok (.ifCond .eq 10, 3) := dk_153 0 10 (dk_at dksX19_readLine_0 6 rfl rfl)
theorem dX19_readLine_9 : decode cX19_readLine 9 = .ok (.aload_n 0, 1) := dk_42 (dk_at dksX19_readLine_0 9 rfl rfl)
theorem dX19_readLine_10 : decode cX19_readLine 10 = .ok (.invokevirtual 204, 3) := dk_182 0 204 (dk_at dksX19_readLine_0 10 rfl rfl)
theorem dX19_readLine_13 : decode cX19_readLine 13 = .ok (.goto 40, 3) := dk_167 0 40 (dk_at dksX19_readLine_0 13 rfl rfl)
theorem dX19_readLine_16 : decode cX19_readLine 16 = .ok (.aload_n 0, 1) := dk_42 (dk_at dksX19_readLine_0 16 rfl rfl)
theorem dX19_readLine_17 : decode cX19_readLine 17 = .ok (.ldc 182, 2) := dk_18 182 (dk_at dksX19_readLine_0 17 rfl rfl)
theorem dX19_readLine_19 : decode cX19_readLine 19 = .ok (.invokevirtual 157, 3) := dk_182 0 157 (dk_at dksX19_readLine_0 19 rfl rfl)
theorem dX19_readLine_22 : decode cX19_readLine 22 = .ok (.ifCond .eq 10, 3) := dk_153 0 10 (dk_at dksX19_readLine_1 0 rfl rfl)
theorem dX19_readLine_25 : decode cX19_readLine 25 = .ok (.aload_n 0, 1) := dk_42 (dk_at dksX19_readLine_1 3 rfl rfl)
theorem dX19_readLine_26 : decode cX19_readLine 26 = .ok (.invokevirtual 207, 3) := dk_182 0 207 (dk_at dksX19_readLine_1 4 rfl rfl)
theorem dX19_readLine_29 : decode cX19_readLine 29 = .ok (.goto 24, 3) := dk_167 0 24 (dk_at dksX19_readLine_1 7 rfl rfl)
theorem dX19_readLine_32 : decode cX19_readLine 32 = .ok (.aload_n 0, 1) := dk_42 (dk_at dksX19_readLine_1 10 rfl rfl)
theorem dX19_readLine_33 : decode cX19_readLine 33 = .ok (.ldc 184, 2) := dk_18 184 (dk_at dksX19_readLine_1 11 rfl rfl)
theorem dX19_readLine_35 : decode cX19_readLine 35 = .ok (.invokevirtual 157, 3) := dk_182 0 157 (dk_at dksX19_readLine_1 13 rfl rfl)
theorem dX19_readLine_38 : decode cX19_readLine 38 = .ok (.ifCond .eq 10, 3) := dk_153 0 10 (dk_at dksX19_readLine_1 16 rfl rfl)
theorem dX19_readLine_41 : decode cX19_readLine 41 = .ok (.aload_n 0, 1) := dk_42 (dk_at dksX19_readLine_1 19 rfl rfl)
theorem dX19_readLine_42 : decode cX19_readLine 42 = .ok (.invokevirtual 210, 3) := dk_182 0 210 (dk_at dksX19_readLine_1 20 rfl rfl)
theorem dX19_readLine_45 : decode cX19_readLine 45 = .ok (.goto 8, 3) := dk_167 0 8 (dk_at dksX19_readLine_2 0 rfl rfl)
theorem dX19_readLine_48 : decode cX19_readLine 48 = .ok (.aload_n 0, 1) := dk_42 (dk_at dksX19_readLine_2 3 rfl rfl)
theorem dX19_readLine_49 : decode cX19_readLine 49 = .ok (.iconst 1, 1) := dk_4 (dk_at dksX19_readLine_2 4 rfl rfl)
theorem dX19_readLine_50 : decode cX19_readLine 50 = .ok (.invokevirtual 164, 3) := dk_182 0 164 (dk_at dksX19_readLine_2 5 rfl rfl)
theorem dX19_readLine_53 : decode cX19_readLine 53 = .ok (.return_, 1) := dk_177 (dk_at dksX19_readLine_2 8 rfl rfl)
abbrev cX19_isWord : ByteArray := prog_23_method_17_code
def yX19_isWord : MethodName := ⟨RX19, "isWord", "(Ljava/lang/String;)Z"⟩
def dkwX19_isWord_1 : List UInt8 := [3, 172]
abbrev dktX19_isWord_1 : List UInt8 := dkwX19_isWord_1 ++ []
def dkwX19_isWord_0 : List UInt8 := [42, 180, 0, 118, 5, 160, 0, 19, 42, 180, 0, 137, 43, 184, 0, 153, 148, 154, 0, 7, 4, 167, 0, 4]
abbrev dktX19_isWord_0 : List UInt8 := dkwX19_isWord_0 ++ dktX19_isWord_1
theorem dksX19_isWord_0 : cX19_isWord.data.toList.drop 0 = dktX19_isWord_0 := by decide +kernel
theorem dksX19_isWord_1 : cX19_isWord.data.toList.drop 24 = dktX19_isWord_1 := dk_seg dksX19_isWord_0 24 rfl rfl
theorem dX19_isWord_0 : decode cX19_isWord 0 = .ok (.aload_n 0, 1) := dk_42 (dk_at dksX19_isWord_0 0 rfl rfl)
theorem dX19_isWord_1 : decode cX19_isWord 1 = .ok (.getfield 118, 3) := dk_180 0 118 (dk_at dksX19_isWord_0 1 rfl rfl)
theorem dX19_isWord_4 : decode cX19_isWord 4 = .ok (.iconst 2, 1) := dk_5 (dk_at dksX19_isWord_0 4 rfl rfl)
theorem dX19_isWord_5 : decode cX19_isWord 5 = .ok (.if_icmp .ne 19, 3) := dk_160 0 19 (dk_at dksX19_isWord_0 5 rfl rfl)
theorem dX19_isWord_8 : decode cX19_isWord 8 = .ok (.aload_n 0, 1) := dk_42 (dk_at dksX19_isWord_0 8 rfl rfl)
theorem dX19_isWord_9 : decode cX19_isWord 9 = .ok (.getfield 137, 3) := dk_180 0 137 (dk_at dksX19_isWord_0 9 rfl rfl)
theorem dX19_isWord_12 : decode cX19_isWord 12 = .ok (.aload_n 1, 1) := dk_43 (dk_at dksX19_isWord_0 12 rfl rfl)
theorem dX19_isWord_13 : decode cX19_isWord 13 = .ok (.invokestatic 153, 3) := dk_184 0 153 (dk_at dksX19_isWord_0 13 rfl rfl)
theorem dX19_isWord_16 : decode cX19_isWord 16 = .ok (.lcmp, 1) := dk_148 (dk_at dksX19_isWord_0 16 rfl rfl)
theorem dX19_isWord_17 : decode cX19_isWord 17 = .ok (.ifCond .ne 7, 3) := dk_154 0 7 (dk_at dksX19_isWord_0 17 rfl rfl)
theorem dX19_isWord_20 : decode cX19_isWord 20 = .ok (.iconst 1, 1) := dk_4 (dk_at dksX19_isWord_0 20 rfl rfl)
theorem dX19_isWord_21 : decode cX19_isWord 21 = .ok (.goto 4, 3) := dk_167 0 4 (dk_at dksX19_isWord_0 21 rfl rfl)
theorem dX19_isWord_24 : decode cX19_isWord 24 = .ok (.iconst 0, 1) := dk_3 (dk_at dksX19_isWord_1 0 rfl rfl)
theorem dX19_isWord_25 : decode cX19_isWord 25 = .ok (.ireturn, 1) := dk_172 (dk_at dksX19_isWord_1 1 rfl rfl)
abbrev cX19_wordOf : ByteArray := prog_23_method_14_code
def yX19_wordOf : MethodName := ⟨RX19, "wordOf", "(Ljava/lang/String;)J"⟩
def dkwX19_wordOf_1 : List UInt8 := [100, 4, 96, 133, 97, 64, 132, 3, 1, 167, 255, 227, 31, 173]
abbrev dktX19_wordOf_1 : List UInt8 := dkwX19_wordOf_1 ++ []
def dkwX19_wordOf_0 : List UInt8 := [9, 64, 3, 62, 29, 42, 182, 0, 106, 162, 0, 27, 20, 0, 112, 31, 105, 42, 29, 182, 0, 114, 16, 97]
abbrev dktX19_wordOf_0 : List UInt8 := dkwX19_wordOf_0 ++ dktX19_wordOf_1
theorem dksX19_wordOf_0 : cX19_wordOf.data.toList.drop 0 = dktX19_wordOf_0 := by decide +kernel
theorem dksX19_wordOf_1 : cX19_wordOf.data.toList.drop 24 = dktX19_wordOf_1 := dk_seg dksX19_wordOf_0 24 rfl rfl
theorem dX19_wordOf_0 : decode cX19_wordOf 0 = .ok (.lconst 0, 1) := dk_9 (dk_at dksX19_wordOf_0 0 rfl rfl)
theorem dX19_wordOf_1 : decode cX19_wordOf 1 = .ok (.lstore_n 1, 1) := dk_64 (dk_at dksX19_wordOf_0 1 rfl rfl)
theorem dX19_wordOf_2 : decode cX19_wordOf 2 = .ok (.iconst 0, 1) := dk_3 (dk_at dksX19_wordOf_0 2 rfl rfl)
theorem dX19_wordOf_3 : decode cX19_wordOf 3 = .ok (.istore_n 3, 1) := dk_62 (dk_at dksX19_wordOf_0 3 rfl rfl)
theorem dX19_wordOf_4 : decode cX19_wordOf 4 = .ok (.iload_n 3, 1) := dk_29 (dk_at dksX19_wordOf_0 4 rfl rfl)
theorem dX19_wordOf_5 : decode cX19_wordOf 5 = .ok (.aload_n 0, 1) := dk_42 (dk_at dksX19_wordOf_0 5 rfl rfl)
theorem dX19_wordOf_6 : decode cX19_wordOf 6 = .ok (.invokevirtual 106, 3) := dk_182 0 106 (dk_at dksX19_wordOf_0 6 rfl rfl)
theorem dX19_wordOf_9 : decode cX19_wordOf 9 = .ok (.if_icmp .ge 27, 3) := dk_162 0 27 (dk_at dksX19_wordOf_0 9 rfl rfl)
theorem dX19_wordOf_12 : decode cX19_wordOf 12 = .ok (.ldc2_w 112, 3) := dk_20 0 112 (dk_at dksX19_wordOf_0 12 rfl rfl)
theorem dX19_wordOf_15 : decode cX19_wordOf 15 = .ok (.lload_n 1, 1) := dk_31 (dk_at dksX19_wordOf_0 15 rfl rfl)
theorem dX19_wordOf_16 : decode cX19_wordOf 16 = .ok (.lmul, 1) := dk_105 (dk_at dksX19_wordOf_0 16 rfl rfl)
theorem dX19_wordOf_17 : decode cX19_wordOf 17 = .ok (.aload_n 0, 1) := dk_42 (dk_at dksX19_wordOf_0 17 rfl rfl)
theorem dX19_wordOf_18 : decode cX19_wordOf 18 = .ok (.iload_n 3, 1) := dk_29 (dk_at dksX19_wordOf_0 18 rfl rfl)
theorem dX19_wordOf_19 : decode cX19_wordOf 19 = .ok (.invokevirtual 114, 3) := dk_182 0 114 (dk_at dksX19_wordOf_0 19 rfl rfl)
theorem dX19_wordOf_22 : decode cX19_wordOf 22 = .ok (.bipush 97, 2) := dk_16 97 (dk_at dksX19_wordOf_0 22 rfl rfl)
theorem dX19_wordOf_24 : decode cX19_wordOf 24 = .ok (.isub, 1) := dk_100 (dk_at dksX19_wordOf_1 0 rfl rfl)
theorem dX19_wordOf_25 : decode cX19_wordOf 25 = .ok (.iconst 1, 1) := dk_4 (dk_at dksX19_wordOf_1 1 rfl rfl)
theorem dX19_wordOf_26 : decode cX19_wordOf 26 = .ok (.iadd, 1) := dk_96 (dk_at dksX19_wordOf_1 2 rfl rfl)
theorem dX19_wordOf_27 : decode cX19_wordOf 27 = .ok (.i2l, 1) := dk_133 (dk_at dksX19_wordOf_1 3 rfl rfl)
theorem dX19_wordOf_28 : decode cX19_wordOf 28 = .ok (.ladd, 1) := dk_97 (dk_at dksX19_wordOf_1 4 rfl rfl)
theorem dX19_wordOf_29 : decode cX19_wordOf 29 = .ok (.lstore_n 1, 1) := dk_64 (dk_at dksX19_wordOf_1 5 rfl rfl)
theorem dX19_wordOf_30 : decode cX19_wordOf 30 = .ok (.iinc 3 1, 3) := dk_132 3 1 (dk_at dksX19_wordOf_1 6 rfl rfl)
theorem dX19_wordOf_33 : decode cX19_wordOf 33 = .ok (.goto (-29), 3) := dk_167 255 227 (dk_at dksX19_wordOf_1 9 rfl rfl)
theorem dX19_wordOf_36 : decode cX19_wordOf 36 = .ok (.lload_n 1, 1) := dk_31 (dk_at dksX19_wordOf_1 12 rfl rfl)
theorem dX19_wordOf_37 : decode cX19_wordOf 37 = .ok (.lreturn, 1) := dk_173 (dk_at dksX19_wordOf_1 13 rfl rfl)
abbrev cX19_readTrick : ByteArray := prog_23_method_28_code
def yX19_readTrick : MethodName := ⟨RX19, "readTrick", "()V"⟩
def dkwX19_readTrick_11 : List UInt8 := [29, 21, 4, 100, 181, 1, 1, 177]
abbrev dktX19_readTrick_11 : List UInt8 := dkwX19_readTrick_11 ++ []
def dkwX19_readTrick_10 : List UInt8 := [181, 0, 194, 42, 180, 0, 190, 28, 181, 0, 253, 42, 180, 0, 190, 21, 4, 181, 0, 255, 42, 180, 0, 190]
abbrev dktX19_readTrick_10 : List UInt8 := dkwX19_readTrick_10 ++ dktX19_readTrick_11
def dkwX19_readTrick_9 : List UInt8 := [42, 18, 248, 182, 0, 242, 181, 0, 250, 42, 180, 0, 118, 8, 160, 0, 4, 177, 42, 180, 0, 190, 27]
abbrev dktX19_readTrick_9 : List UInt8 := dkwX19_readTrick_9 ++ dktX19_readTrick_10
def dkwX19_readTrick_8 : List UInt8 := [154, 0, 16, 42, 18, 240, 182, 0, 242, 153, 0, 7, 4, 167, 0, 4, 3, 181, 0, 245, 42, 180, 0, 190]
abbrev dktX19_readTrick_8 : List UInt8 := dkwX19_readTrick_8 ++ dktX19_readTrick_9
def dkwX19_readTrick_7 : List UInt8 := [158, 0, 9, 42, 16, 7, 182, 0, 164, 42, 182, 0, 161, 42, 180, 0, 190, 42, 180, 0, 190, 180, 0, 228]
abbrev dktX19_readTrick_7 : List UInt8 := dkwX19_readTrick_7 ++ dktX19_readTrick_8
def dkwX19_readTrick_6 : List UInt8 := [181, 0, 232, 42, 180, 0, 118, 8, 159, 0, 24, 42, 180, 0, 190, 27, 182, 0, 234, 20, 0, 238, 148]
abbrev dktX19_readTrick_6 : List UInt8 := dkwX19_readTrick_6 ++ dktX19_readTrick_7
def dkwX19_readTrick_5 : List UInt8 := [4, 182, 0, 164, 42, 180, 0, 190, 42, 18, 226, 182, 0, 157, 181, 0, 228, 42, 180, 0, 190, 29]
abbrev dktX19_readTrick_5 : List UInt8 := dkwX19_readTrick_5 ++ dktX19_readTrick_6
def dkwX19_readTrick_4 : List UInt8 := [182, 0, 214, 54, 4, 42, 18, 224, 182, 0, 157, 154, 0, 17, 42, 18, 226, 182, 0, 157, 154, 0, 8, 42]
abbrev dktX19_readTrick_4 : List UInt8 := dkwX19_readTrick_4 ++ dktX19_readTrick_5
def dkwX19_readTrick_3 : List UInt8 := [167, 0, 4, 8, 182, 0, 214, 62, 42, 18, 222, 4, 29, 5, 164, 0, 7, 5, 167, 0, 4, 4]
abbrev dktX19_readTrick_3 : List UInt8 := dkwX19_readTrick_3 ++ dktX19_readTrick_4
def dkwX19_readTrick_2 : List UInt8 := [153, 0, 8, 42, 7, 182, 0, 164, 42, 182, 0, 161, 42, 18, 220, 5, 27, 8, 162, 0, 7, 27]
abbrev dktX19_readTrick_2 : List UInt8 := dkwX19_readTrick_2 ++ dktX19_readTrick_3
def dkwX19_readTrick_1 : List UInt8 := [16, 12, 182, 0, 214, 60, 42, 18, 218, 182, 0, 172, 42, 4, 7, 182, 0, 176, 61, 27, 28, 112]
abbrev dktX19_readTrick_1 : List UInt8 := dkwX19_readTrick_1 ++ dktX19_readTrick_2
def dkwX19_readTrick_0 : List UInt8 := [42, 180, 0, 190, 180, 0, 194, 158, 0, 8, 42, 6, 182, 0, 164, 42, 182, 0, 161, 42, 18, 213, 7]
abbrev dktX19_readTrick_0 : List UInt8 := dkwX19_readTrick_0 ++ dktX19_readTrick_1
theorem dksX19_readTrick_0 : cX19_readTrick.data.toList.drop 0 = dktX19_readTrick_0 := by decide +kernel
theorem dksX19_readTrick_1 : cX19_readTrick.data.toList.drop 23 = dktX19_readTrick_1 := dk_seg dksX19_readTrick_0 23 rfl rfl
theorem dksX19_readTrick_2 : cX19_readTrick.data.toList.drop 45 = dktX19_readTrick_2 := dk_seg dksX19_readTrick_1 22 rfl rfl
theorem dksX19_readTrick_3 : cX19_readTrick.data.toList.drop 67 = dktX19_readTrick_3 := dk_seg dksX19_readTrick_2 22 rfl rfl
theorem dksX19_readTrick_4 : cX19_readTrick.data.toList.drop 89 = dktX19_readTrick_4 := dk_seg dksX19_readTrick_3 22 rfl rfl
theorem dksX19_readTrick_5 : cX19_readTrick.data.toList.drop 113 = dktX19_readTrick_5 := dk_seg dksX19_readTrick_4 24 rfl rfl
theorem dksX19_readTrick_6 : cX19_readTrick.data.toList.drop 135 = dktX19_readTrick_6 := dk_seg dksX19_readTrick_5 22 rfl rfl
theorem dksX19_readTrick_7 : cX19_readTrick.data.toList.drop 158 = dktX19_readTrick_7 := dk_seg dksX19_readTrick_6 23 rfl rfl
theorem dksX19_readTrick_8 : cX19_readTrick.data.toList.drop 182 = dktX19_readTrick_8 := dk_seg dksX19_readTrick_7 24 rfl rfl
theorem dksX19_readTrick_9 : cX19_readTrick.data.toList.drop 206 = dktX19_readTrick_9 := dk_seg dksX19_readTrick_8 24 rfl rfl
theorem dksX19_readTrick_10 : cX19_readTrick.data.toList.drop 229 = dktX19_readTrick_10 := dk_seg dksX19_readTrick_9 23 rfl rfl
theorem dksX19_readTrick_11 : cX19_readTrick.data.toList.drop 253 = dktX19_readTrick_11 := dk_seg dksX19_readTrick_10 24 rfl rfl
theorem dX19_readTrick_0 : decode cX19_readTrick 0 = .ok (.aload_n 0, 1) := dk_42 (dk_at dksX19_readTrick_0 0 rfl rfl)
theorem dX19_readTrick_1 : decode cX19_readTrick 1 = .ok (.getfield 190, 3) := dk_180 0 190 (dk_at dksX19_readTrick_0 1 rfl rfl)
theorem dX19_readTrick_4 : decode cX19_readTrick 4 = .ok (.getfield 194, 3) := dk_180 0 194 (dk_at dksX19_readTrick_0 4 rfl rfl)
theorem dX19_readTrick_7 : decode cX19_readTrick 7 = .ok (.ifCond .le 8, 3) := dk_158 0 8 (dk_at dksX19_readTrick_0 7 rfl rfl)
theorem dX19_readTrick_10 : decode cX19_readTrick 10 = .ok (.aload_n 0, 1) := dk_42 (dk_at dksX19_readTrick_0 10 rfl rfl)
theorem dX19_readTrick_11 : decode cX19_readTrick 11 = .ok (.iconst 3, 1) := dk_6 (dk_at dksX19_readTrick_0 11 rfl rfl)
theorem dX19_readTrick_12 : decode cX19_readTrick 12 = .ok (.invokevirtual 164, 3) := dk_182 0 164 (dk_at dksX19_readTrick_0 12 rfl rfl)
theorem dX19_readTrick_15 : decode cX19_readTrick 15 = .ok (.aload_n 0, 1) := dk_42 (dk_at dksX19_readTrick_0 15 rfl rfl)
theorem dX19_readTrick_16 : decode cX19_readTrick 16 = .ok (.invokevirtual 161, 3) := dk_182 0 161 (dk_at dksX19_readTrick_0 16 rfl rfl)
theorem dX19_readTrick_19 : decode cX19_readTrick 19 = .ok (.aload_n 0, 1) := dk_42 (dk_at dksX19_readTrick_0 19 rfl rfl)
theorem dX19_readTrick_20 : decode cX19_readTrick 20 = .ok (.ldc 213, 2) := dk_18 213 (dk_at dksX19_readTrick_0 20 rfl rfl)
theorem dX19_readTrick_22 : decode cX19_readTrick 22 = .ok (.iconst 4, 1) := dk_7 (dk_at dksX19_readTrick_0 22 rfl rfl)
theorem dX19_readTrick_23 : decode cX19_readTrick 23 = .ok (.bipush 12, 2) := dk_16 12 (dk_at dksX19_readTrick_1 0 rfl rfl)
theorem dX19_readTrick_25 : decode cX19_readTrick 25 = .ok (.invokevirtual 214, 3) := dk_182 0 214 (dk_at dksX19_readTrick_1 2 rfl rfl)
theorem dX19_readTrick_28 : decode cX19_readTrick 28 = .ok (.istore_n 1, 1) := dk_60 (dk_at dksX19_readTrick_1 5 rfl rfl)
theorem dX19_readTrick_29 : decode cX19_readTrick 29 = .ok (.aload_n 0, 1) := dk_42 (dk_at dksX19_readTrick_1 6 rfl rfl)
theorem dX19_readTrick_30 : decode cX19_readTrick 30 = .ok (.ldc 218, 2) := dk_18 218 (dk_at dksX19_readTrick_1 7 rfl rfl)
theorem dX19_readTrick_32 : decode cX19_readTrick 32 = .ok (.invokevirtual 172, 3) := dk_182 0 172 (dk_at dksX19_readTrick_1 9 rfl rfl)
theorem dX19_readTrick_35 : decode cX19_readTrick 35 = .ok (.aload_n 0, 1) := dk_42 (dk_at dksX19_readTrick_1 12 rfl rfl)
theorem dX19_readTrick_36 : decode cX19_readTrick 36 = .ok (.iconst 1, 1) := dk_4 (dk_at dksX19_readTrick_1 13 rfl rfl)
theorem dX19_readTrick_37 : decode cX19_readTrick 37 = .ok (.iconst 4, 1) := dk_7 (dk_at dksX19_readTrick_1 14 rfl rfl)
theorem dX19_readTrick_38 : decode cX19_readTrick 38 = .ok (.invokevirtual 176, 3) := dk_182 0 176 (dk_at dksX19_readTrick_1 15 rfl rfl)
theorem dX19_readTrick_41 : decode cX19_readTrick 41 = .ok (.istore_n 2, 1) := dk_61 (dk_at dksX19_readTrick_1 18 rfl rfl)
theorem dX19_readTrick_42 : decode cX19_readTrick 42 = .ok (.iload_n 1, 1) := dk_27 (dk_at dksX19_readTrick_1 19 rfl rfl)
theorem dX19_readTrick_43 : decode cX19_readTrick 43 = .ok (.iload_n 2, 1) := dk_28 (dk_at dksX19_readTrick_1 20 rfl rfl)
theorem dX19_readTrick_44 : decode cX19_readTrick 44 = .ok (.irem, 1) := dk_112 (dk_at dksX19_readTrick_1 21 rfl rfl)
theorem dX19_readTrick_45 : decode cX19_readTrick 45 = .ok (.ifCond .eq 8, 3) := dk_153 0 8 (dk_at dksX19_readTrick_2 0 rfl rfl)
theorem dX19_readTrick_48 : decode cX19_readTrick 48 = .ok (.aload_n 0, 1) := dk_42 (dk_at dksX19_readTrick_2 3 rfl rfl)
theorem dX19_readTrick_49 : decode cX19_readTrick 49 = .ok (.iconst 4, 1) := dk_7 (dk_at dksX19_readTrick_2 4 rfl rfl)
theorem dX19_readTrick_50 : decode cX19_readTrick 50 = .ok (.invokevirtual 164, 3) := dk_182 0 164 (dk_at dksX19_readTrick_2 5 rfl rfl)
theorem dX19_readTrick_53 : decode cX19_readTrick 53 = .ok (.aload_n 0, 1) := dk_42 (dk_at dksX19_readTrick_2 8 rfl rfl)
theorem dX19_readTrick_54 : decode cX19_readTrick 54 = .ok (.invokevirtual 161, 3) := dk_182 0 161 (dk_at dksX19_readTrick_2 9 rfl rfl)
theorem dX19_readTrick_57 : decode cX19_readTrick 57 = .ok (.aload_n 0, 1) := dk_42 (dk_at dksX19_readTrick_2 12 rfl rfl)
theorem dX19_readTrick_58 : decode cX19_readTrick 58 = .ok (.ldc 220, 2) := dk_18 220 (dk_at dksX19_readTrick_2 13 rfl rfl)
theorem dX19_readTrick_60 : decode cX19_readTrick 60 = .ok (.iconst 2, 1) := dk_5 (dk_at dksX19_readTrick_2 15 rfl rfl)
theorem dX19_readTrick_61 : decode cX19_readTrick 61 = .ok (.iload_n 1, 1) := dk_27 (dk_at dksX19_readTrick_2 16 rfl rfl)
theorem dX19_readTrick_62 : decode cX19_readTrick 62 = .ok (.iconst 5, 1) := dk_8 (dk_at dksX19_readTrick_2 17 rfl rfl)
theorem dX19_readTrick_63 : decode cX19_readTrick 63 = .ok (.if_icmp .ge 7, 3) := dk_162 0 7 (dk_at dksX19_readTrick_2 18 rfl rfl)
theorem dX19_readTrick_66 : decode cX19_readTrick 66 = .ok (.iload_n 1, 1) := dk_27 (dk_at dksX19_readTrick_2 21 rfl rfl)
theorem dX19_readTrick_67 : decode cX19_readTrick 67 = .ok (.goto 4, 3) := dk_167 0 4 (dk_at dksX19_readTrick_3 0 rfl rfl)
theorem dX19_readTrick_70 : decode cX19_readTrick 70 = .ok (.iconst 5, 1) := dk_8 (dk_at dksX19_readTrick_3 3 rfl rfl)
theorem dX19_readTrick_71 : decode cX19_readTrick 71 = .ok (.invokevirtual 214, 3) := dk_182 0 214 (dk_at dksX19_readTrick_3 4 rfl rfl)
theorem dX19_readTrick_74 : decode cX19_readTrick 74 = .ok (.istore_n 3, 1) := dk_62 (dk_at dksX19_readTrick_3 7 rfl rfl)
theorem dX19_readTrick_75 : decode cX19_readTrick 75 = .ok (.aload_n 0, 1) := dk_42 (dk_at dksX19_readTrick_3 8 rfl rfl)
theorem dX19_readTrick_76 : decode cX19_readTrick 76 = .ok (.ldc 222, 2) := dk_18 222 (dk_at dksX19_readTrick_3 9 rfl rfl)
theorem dX19_readTrick_78 : decode cX19_readTrick 78 = .ok (.iconst 1, 1) := dk_4 (dk_at dksX19_readTrick_3 11 rfl rfl)
theorem dX19_readTrick_79 : decode cX19_readTrick 79 = .ok (.iload_n 3, 1) := dk_29 (dk_at dksX19_readTrick_3 12 rfl rfl)
theorem dX19_readTrick_80 : decode cX19_readTrick 80 = .ok (.iconst 2, 1) := dk_5 (dk_at dksX19_readTrick_3 13 rfl rfl)
theorem dX19_readTrick_81 : decode cX19_readTrick 81 = .ok (.if_icmp .le 7, 3) := dk_164 0 7 (dk_at dksX19_readTrick_3 14 rfl rfl)
theorem dX19_readTrick_84 : decode cX19_readTrick 84 = .ok (.iconst 2, 1) := dk_5 (dk_at dksX19_readTrick_3 17 rfl rfl)
theorem dX19_readTrick_85 : decode cX19_readTrick 85 = .ok (.goto 4, 3) := dk_167 0 4 (dk_at dksX19_readTrick_3 18 rfl rfl)
theorem dX19_readTrick_88 : decode cX19_readTrick 88 = .ok (.iconst 1, 1) := dk_4 (dk_at dksX19_readTrick_3 21 rfl rfl)
theorem dX19_readTrick_89 : decode cX19_readTrick 89 = .ok (.invokevirtual 214, 3) := dk_182 0 214 (dk_at dksX19_readTrick_4 0 rfl rfl)
theorem dX19_readTrick_92 : decode cX19_readTrick 92 = .ok (.istore 4, 2) := dk_54 4 (dk_at dksX19_readTrick_4 3 rfl rfl)
theorem dX19_readTrick_94 : decode cX19_readTrick 94 = .ok (.aload_n 0, 1) := dk_42 (dk_at dksX19_readTrick_4 5 rfl rfl)
theorem dX19_readTrick_95 : decode cX19_readTrick 95 = .ok (.ldc 224, 2) := dk_18 224 (dk_at dksX19_readTrick_4 6 rfl rfl)
theorem dX19_readTrick_97 : decode cX19_readTrick 97 = .ok (.invokevirtual 157, 3) := dk_182 0 157 (dk_at dksX19_readTrick_4 8 rfl rfl)
theorem dX19_readTrick_100 : decode cX19_readTrick 100 = .ok (.ifCond .ne 17, 3) := dk_154 0 17 (dk_at dksX19_readTrick_4 11 rfl rfl)
theorem dX19_readTrick_103 : decode cX19_readTrick 103 = .ok (.aload_n 0, 1) := dk_42 (dk_at dksX19_readTrick_4 14 rfl rfl)
theorem dX19_readTrick_104 : decode cX19_readTrick 104 = .ok (.ldc 226, 2) := dk_18 226 (dk_at dksX19_readTrick_4 15 rfl rfl)
theorem dX19_readTrick_106 : decode cX19_readTrick 106 = .ok (.invokevirtual 157, 3) := dk_182 0 157 (dk_at dksX19_readTrick_4 17 rfl rfl)
theorem dX19_readTrick_109 : decode cX19_readTrick 109 = .ok (.ifCond .ne 8, 3) := dk_154 0 8 (dk_at dksX19_readTrick_4 20 rfl rfl)
theorem dX19_readTrick_112 : decode cX19_readTrick 112 = .ok (.aload_n 0, 1) := dk_42 (dk_at dksX19_readTrick_4 23 rfl rfl)
theorem dX19_readTrick_113 : decode cX19_readTrick 113 = .ok (.iconst 1, 1) := dk_4 (dk_at dksX19_readTrick_5 0 rfl rfl)
theorem dX19_readTrick_114 : decode cX19_readTrick 114 = .ok (.invokevirtual 164, 3) := dk_182 0 164 (dk_at dksX19_readTrick_5 1 rfl rfl)
theorem dX19_readTrick_117 : decode cX19_readTrick 117 = .ok (.aload_n 0, 1) := dk_42 (dk_at dksX19_readTrick_5 4 rfl rfl)
theorem dX19_readTrick_118 : decode cX19_readTrick 118 = .ok (.getfield 190, 3) := dk_180 0 190 (dk_at dksX19_readTrick_5 5 rfl rfl)
theorem dX19_readTrick_121 : decode cX19_readTrick 121 = .ok (.aload_n 0, 1) := dk_42 (dk_at dksX19_readTrick_5 8 rfl rfl)
theorem dX19_readTrick_122 : decode cX19_readTrick 122 = .ok (.ldc 226, 2) := dk_18 226 (dk_at dksX19_readTrick_5 9 rfl rfl)
theorem dX19_readTrick_124 : decode cX19_readTrick 124 = .ok (.invokevirtual 157, 3) := dk_182 0 157 (dk_at dksX19_readTrick_5 11 rfl rfl)
theorem dX19_readTrick_127 : decode cX19_readTrick 127 = .ok (.putfield 228, 3) := dk_181 0 228 (dk_at dksX19_readTrick_5 14 rfl rfl)
theorem dX19_readTrick_130 : decode cX19_readTrick 130 = .ok (.aload_n 0, 1) := dk_42 (dk_at dksX19_readTrick_5 17 rfl rfl)
theorem dX19_readTrick_131 : decode cX19_readTrick 131 = .ok (.getfield 190, 3) := dk_180 0 190 (dk_at dksX19_readTrick_5 18 rfl rfl)
theorem dX19_readTrick_134 : decode cX19_readTrick 134 = .ok (.iload_n 3, 1) := dk_29 (dk_at dksX19_readTrick_5 21 rfl rfl)
theorem dX19_readTrick_135 : decode cX19_readTrick 135 = .ok (.putfield 232, 3) := dk_181 0 232 (dk_at dksX19_readTrick_6 0 rfl rfl)
theorem dX19_readTrick_138 : decode cX19_readTrick 138 = .ok (.aload_n 0, 1) := dk_42 (dk_at dksX19_readTrick_6 3 rfl rfl)
theorem dX19_readTrick_139 : decode cX19_readTrick 139 = .ok (.getfield 118, 3) := dk_180 0 118 (dk_at dksX19_readTrick_6 4 rfl rfl)
theorem dX19_readTrick_142 : decode cX19_readTrick 142 = .ok (.iconst 5, 1) := dk_8 (dk_at dksX19_readTrick_6 7 rfl rfl)
theorem dX19_readTrick_143 : decode cX19_readTrick 143 = .ok (.if_icmp .eq 24, 3) := dk_159 0 24 (dk_at dksX19_readTrick_6 8 rfl rfl)
theorem dX19_readTrick_146 : decode cX19_readTrick 146 = .ok (.aload_n 0, 1) := dk_42 (dk_at dksX19_readTrick_6 11 rfl rfl)
theorem dX19_readTrick_147 : decode cX19_readTrick 147 = .ok (.getfield 190, 3) := dk_180 0 190 (dk_at dksX19_readTrick_6 12 rfl rfl)
theorem dX19_readTrick_150 : decode cX19_readTrick 150 = .ok (.iload_n 1, 1) := dk_27 (dk_at dksX19_readTrick_6 15 rfl rfl)
theorem dX19_readTrick_151 : decode cX19_readTrick 151 = .ok (.invokevirtual 234, 3) := dk_182 0 234 (dk_at dksX19_readTrick_6 16 rfl rfl)
theorem dX19_readTrick_154 : decode cX19_readTrick 154 = .ok (.ldc2_w 238, 3) := dk_20 0 238 (dk_at dksX19_readTrick_6 19 rfl rfl)
theorem dX19_readTrick_157 : decode cX19_readTrick 157 = .ok (.lcmp, 1) := dk_148 (dk_at dksX19_readTrick_6 22 rfl rfl)
theorem dX19_readTrick_158 : decode cX19_readTrick 158 = .ok (.ifCond .le 9, 3) := dk_158 0 9 (dk_at dksX19_readTrick_7 0 rfl rfl)
theorem dX19_readTrick_161 : decode cX19_readTrick 161 = .ok (.aload_n 0, 1) := dk_42 (dk_at dksX19_readTrick_7 3 rfl rfl)
theorem dX19_readTrick_162 : decode cX19_readTrick 162 = .ok (.bipush 7, 2) := dk_16 7 (dk_at dksX19_readTrick_7 4 rfl rfl)
theorem dX19_readTrick_164 : decode cX19_readTrick 164 = .ok (.invokevirtual 164, 3) := dk_182 0 164 (dk_at dksX19_readTrick_7 6 rfl rfl)
theorem dX19_readTrick_167 : decode cX19_readTrick 167 = .ok (.aload_n 0, 1) := dk_42 (dk_at dksX19_readTrick_7 9 rfl rfl)
theorem dX19_readTrick_168 : decode cX19_readTrick 168 = .ok (.invokevirtual 161, 3) := dk_182 0 161 (dk_at dksX19_readTrick_7 10 rfl rfl)
theorem dX19_readTrick_171 : decode cX19_readTrick 171 = .ok (.aload_n 0, 1) := dk_42 (dk_at dksX19_readTrick_7 13 rfl rfl)
theorem dX19_readTrick_172 : decode cX19_readTrick 172 = .ok (.getfield 190, 3) := dk_180 0 190 (dk_at dksX19_readTrick_7 14 rfl rfl)
theorem dX19_readTrick_175 : decode cX19_readTrick 175 = .ok (.aload_n 0, 1) := dk_42 (dk_at dksX19_readTrick_7 17 rfl rfl)
theorem dX19_readTrick_176 : decode cX19_readTrick 176 = .ok (.getfield 190, 3) := dk_180 0 190 (dk_at dksX19_readTrick_7 18 rfl rfl)
theorem dX19_readTrick_179 : decode cX19_readTrick 179 = .ok (.getfield 228, 3) := dk_180 0 228 (dk_at dksX19_readTrick_7 21 rfl rfl)
theorem dX19_readTrick_182 : decode cX19_readTrick 182 = .ok (.ifCond .ne 16, 3) := dk_154 0 16 (dk_at dksX19_readTrick_8 0 rfl rfl)
theorem dX19_readTrick_185 : decode cX19_readTrick 185 = .ok (.aload_n 0, 1) := dk_42 (dk_at dksX19_readTrick_8 3 rfl rfl)
theorem dX19_readTrick_186 : decode cX19_readTrick 186 = .ok (.ldc 240, 2) := dk_18 240 (dk_at dksX19_readTrick_8 4 rfl rfl)
theorem dX19_readTrick_188 : decode cX19_readTrick 188 = .ok (.invokevirtual 242, 3) := dk_182 0 242 (dk_at dksX19_readTrick_8 6 rfl rfl)
theorem dX19_readTrick_191 : decode cX19_readTrick 191 = .ok (.ifCond .eq 7, 3) := dk_153 0 7 (dk_at dksX19_readTrick_8 9 rfl rfl)
theorem dX19_readTrick_194 : decode cX19_readTrick 194 = .ok (.iconst 1, 1) := dk_4 (dk_at dksX19_readTrick_8 12 rfl rfl)
theorem dX19_readTrick_195 : decode cX19_readTrick 195 = .ok (.goto 4, 3) := dk_167 0 4 (dk_at dksX19_readTrick_8 13 rfl rfl)
theorem dX19_readTrick_198 : decode cX19_readTrick 198 = .ok (.iconst 0, 1) := dk_3 (dk_at dksX19_readTrick_8 16 rfl rfl)
theorem dX19_readTrick_199 : decode cX19_readTrick 199 = .ok (.putfield 245, 3) := dk_181 0 245 (dk_at dksX19_readTrick_8 17 rfl rfl)
theorem dX19_readTrick_202 : decode cX19_readTrick 202 = .ok (.aload_n 0, 1) := dk_42 (dk_at dksX19_readTrick_8 20 rfl rfl)
theorem dX19_readTrick_203 : decode cX19_readTrick 203 = .ok (.getfield 190, 3) := dk_180 0 190 (dk_at dksX19_readTrick_8 21 rfl rfl)
theorem dX19_readTrick_206 : decode cX19_readTrick 206 = .ok (.aload_n 0, 1) := dk_42 (dk_at dksX19_readTrick_9 0 rfl rfl)
theorem dX19_readTrick_207 : decode cX19_readTrick 207 = .ok (.ldc 248, 2) := dk_18 248 (dk_at dksX19_readTrick_9 1 rfl rfl)
theorem dX19_readTrick_209 : decode cX19_readTrick 209 = .ok (.invokevirtual 242, 3) := dk_182 0 242 (dk_at dksX19_readTrick_9 3 rfl rfl)
theorem dX19_readTrick_212 : decode cX19_readTrick 212 = .ok (.putfield 250, 3) := dk_181 0 250 (dk_at dksX19_readTrick_9 6 rfl rfl)
theorem dX19_readTrick_215 : decode cX19_readTrick 215 = .ok (.aload_n 0, 1) := dk_42 (dk_at dksX19_readTrick_9 9 rfl rfl)
theorem dX19_readTrick_216 : decode cX19_readTrick 216 = .ok (.getfield 118, 3) := dk_180 0 118 (dk_at dksX19_readTrick_9 10 rfl rfl)
theorem dX19_readTrick_219 : decode cX19_readTrick 219 = .ok (.iconst 5, 1) := dk_8 (dk_at dksX19_readTrick_9 13 rfl rfl)
theorem dX19_readTrick_220 : decode cX19_readTrick 220 = .ok (.if_icmp .ne 4, 3) := dk_160 0 4 (dk_at dksX19_readTrick_9 14 rfl rfl)
theorem dX19_readTrick_223 : decode cX19_readTrick 223 = .ok (.return_, 1) := dk_177 (dk_at dksX19_readTrick_9 17 rfl rfl)
theorem dX19_readTrick_224 : decode cX19_readTrick 224 = .ok (.aload_n 0, 1) := dk_42 (dk_at dksX19_readTrick_9 18 rfl rfl)
theorem dX19_readTrick_225 : decode cX19_readTrick 225 = .ok (.getfield 190, 3) := dk_180 0 190 (dk_at dksX19_readTrick_9 19 rfl rfl)
theorem dX19_readTrick_228 : decode cX19_readTrick 228 = .ok (.iload_n 1, 1) := dk_27 (dk_at dksX19_readTrick_9 22 rfl rfl)
theorem dX19_readTrick_229 : decode cX19_readTrick 229 = .ok (.putfield 194, 3) := dk_181 0 194 (dk_at dksX19_readTrick_10 0 rfl rfl)
theorem dX19_readTrick_232 : decode cX19_readTrick 232 = .ok (.aload_n 0, 1) := dk_42 (dk_at dksX19_readTrick_10 3 rfl rfl)
theorem dX19_readTrick_233 : decode cX19_readTrick 233 = .ok (.getfield 190, 3) := dk_180 0 190 (dk_at dksX19_readTrick_10 4 rfl rfl)
theorem dX19_readTrick_236 : decode cX19_readTrick 236 = .ok (.iload_n 2, 1) := dk_28 (dk_at dksX19_readTrick_10 7 rfl rfl)
theorem dX19_readTrick_237 : decode cX19_readTrick 237 = .ok (.putfield 253, 3) := dk_181 0 253 (dk_at dksX19_readTrick_10 8 rfl rfl)
theorem dX19_readTrick_240 : decode cX19_readTrick 240 = .ok (.aload_n 0, 1) := dk_42 (dk_at dksX19_readTrick_10 11 rfl rfl)
theorem dX19_readTrick_241 : decode cX19_readTrick 241 = .ok (.getfield 190, 3) := dk_180 0 190 (dk_at dksX19_readTrick_10 12 rfl rfl)
theorem dX19_readTrick_244 : decode cX19_readTrick 244 = .ok (.iload 4, 2) := dk_21 4 (dk_at dksX19_readTrick_10 15 rfl rfl)
theorem dX19_readTrick_246 : decode cX19_readTrick 246 = .ok (.putfield 255, 3) := dk_181 0 255 (dk_at dksX19_readTrick_10 17 rfl rfl)
theorem dX19_readTrick_249 : decode cX19_readTrick 249 = .ok (.aload_n 0, 1) := dk_42 (dk_at dksX19_readTrick_10 20 rfl rfl)
theorem dX19_readTrick_250 : decode cX19_readTrick 250 = .ok (.getfield 190, 3) := dk_180 0 190 (dk_at dksX19_readTrick_10 21 rfl rfl)
theorem dX19_readTrick_253 : decode cX19_readTrick 253 = .ok (.iload_n 3, 1) := dk_29 (dk_at dksX19_readTrick_11 0 rfl rfl)
theorem dX19_readTrick_254 : decode cX19_readTrick 254 = .ok (.iload 4, 2) := dk_21 4 (dk_at dksX19_readTrick_11 1 rfl rfl)
theorem dX19_readTrick_256 : decode cX19_readTrick 256 = .ok (.isub, 1) := dk_100 (dk_at dksX19_readTrick_11 3 rfl rfl)
theorem dX19_readTrick_257 : decode cX19_readTrick 257 = .ok (.putfield 257, 3) := dk_181 1 1 (dk_at dksX19_readTrick_11 4 rfl rfl)
theorem dX19_readTrick_260 : decode cX19_readTrick 260 = .ok (.return_, 1) := dk_177 (dk_at dksX19_readTrick_11 7 rfl rfl)
abbrev cX19_flaw : ByteArray := prog_23_method_16_code
def yX19_flaw : MethodName := ⟨RX19, "flaw", "(I)V"⟩
def dkwX19_flaw_1 : List UInt8 := [181, 0, 118, 177]
abbrev dktX19_flaw_1 : List UInt8 := dkwX19_flaw_1 ++ []
def dkwX19_flaw_0 : List UInt8 := [42, 180, 0, 118, 8, 160, 0, 4, 177, 42, 27, 181, 0, 147, 42, 42, 180, 0, 127, 181, 0, 150, 42, 8]
abbrev dktX19_flaw_0 : List UInt8 := dkwX19_flaw_0 ++ dktX19_flaw_1
theorem dksX19_flaw_0 : cX19_flaw.data.toList.drop 0 = dktX19_flaw_0 := by decide +kernel
theorem dksX19_flaw_1 : cX19_flaw.data.toList.drop 24 = dktX19_flaw_1 := dk_seg dksX19_flaw_0 24 rfl rfl
theorem dX19_flaw_0 : decode cX19_flaw 0 = .ok (.aload_n 0, 1) := dk_42 (dk_at dksX19_flaw_0 0 rfl rfl)
theorem dX19_flaw_1 : decode cX19_flaw 1 = .ok (.getfield 118, 3) := dk_180 0 118 (dk_at dksX19_flaw_0 1 rfl rfl)
theorem dX19_flaw_4 : decode cX19_flaw 4 = .ok (.iconst 5, 1) := dk_8 (dk_at dksX19_flaw_0 4 rfl rfl)
theorem dX19_flaw_5 : decode cX19_flaw 5 = .ok (.if_icmp .ne 4, 3) := dk_160 0 4 (dk_at dksX19_flaw_0 5 rfl rfl)
theorem dX19_flaw_8 : decode cX19_flaw 8 = .ok (.return_, 1) := dk_177 (dk_at dksX19_flaw_0 8 rfl rfl)
theorem dX19_flaw_9 : decode cX19_flaw 9 = .ok (.aload_n 0, 1) := dk_42 (dk_at dksX19_flaw_0 9 rfl rfl)
theorem dX19_flaw_10 : decode cX19_flaw 10 = .ok (.iload_n 1, 1) := dk_27 (dk_at dksX19_flaw_0 10 rfl rfl)
theorem dX19_flaw_11 : decode cX19_flaw 11 = .ok (.putfield 147, 3) := dk_181 0 147 (dk_at dksX19_flaw_0 11 rfl rfl)
theorem dX19_flaw_14 : decode cX19_flaw 14 = .ok (.aload_n 0, 1) := dk_42 (dk_at dksX19_flaw_0 14 rfl rfl)
theorem dX19_flaw_15 : decode cX19_flaw 15 = .ok (.aload_n 0, 1) := dk_42 (dk_at dksX19_flaw_0 15 rfl rfl)
theorem dX19_flaw_16 : decode cX19_flaw 16 = .ok (.getfield 127, 3) := dk_180 0 127 (dk_at dksX19_flaw_0 16 rfl rfl)
theorem dX19_flaw_19 : decode cX19_flaw 19 = .ok (.putfield 150, 3) := dk_181 0 150 (dk_at dksX19_flaw_0 19 rfl rfl)
theorem dX19_flaw_22 : decode cX19_flaw 22 = .ok (.aload_n 0, 1) := dk_42 (dk_at dksX19_flaw_0 22 rfl rfl)
theorem dX19_flaw_23 : decode cX19_flaw 23 = .ok (.iconst 5, 1) := dk_8 (dk_at dksX19_flaw_0 23 rfl rfl)
theorem dX19_flaw_24 : decode cX19_flaw 24 = .ok (.putfield 118, 3) := dk_181 0 118 (dk_at dksX19_flaw_1 0 rfl rfl)
theorem dX19_flaw_27 : decode cX19_flaw 27 = .ok (.return_, 1) := dk_177 (dk_at dksX19_flaw_1 3 rfl rfl)
abbrev cX19_readPart : ByteArray := prog_23_method_23_code
def yX19_readPart : MethodName := ⟨RX19, "readPart", "(Ljava/lang/String;II)I"⟩
def dkwX19_readPart_0 : List UInt8 := [42, 43, 182, 0, 172, 42, 28, 29, 182, 0, 176, 54, 4, 42, 182, 0, 161, 21, 4, 172]
abbrev dktX19_readPart_0 : List UInt8 := dkwX19_readPart_0 ++ []
theorem dksX19_readPart_0 : cX19_readPart.data.toList.drop 0 = dktX19_readPart_0 := by decide +kernel
theorem dX19_readPart_0 : decode cX19_readPart 0 = .ok (.aload_n 0, 1) := dk_42 (dk_at dksX19_readPart_0 0 rfl rfl)
theorem dX19_readPart_1 : decode cX19_readPart 1 = .ok (.aload_n 1, 1) := dk_43 (dk_at dksX19_readPart_0 1 rfl rfl)
theorem dX19_readPart_2 : decode cX19_readPart 2 = .ok (.invokevirtual 172, 3) := dk_182 0 172 (dk_at dksX19_readPart_0 2 rfl rfl)
theorem dX19_readPart_5 : decode cX19_readPart 5 = .ok (.aload_n 0, 1) := dk_42 (dk_at dksX19_readPart_0 5 rfl rfl)
theorem dX19_readPart_6 : decode cX19_readPart 6 = .ok (.iload_n 2, 1) := dk_28 (dk_at dksX19_readPart_0 6 rfl rfl)
theorem dX19_readPart_7 : decode cX19_readPart 7 = .ok (.iload_n 3, 1) := dk_29 (dk_at dksX19_readPart_0 7 rfl rfl)
theorem dX19_readPart_8 : decode cX19_readPart 8 = .ok (.invokevirtual 176, 3) := dk_182 0 176 (dk_at dksX19_readPart_0 8 rfl rfl)
theorem dX19_readPart_11 : decode cX19_readPart 11 = .ok (.istore 4, 2) := dk_54 4 (dk_at dksX19_readPart_0 11 rfl rfl)
theorem dX19_readPart_13 : decode cX19_readPart 13 = .ok (.aload_n 0, 1) := dk_42 (dk_at dksX19_readPart_0 13 rfl rfl)
theorem dX19_readPart_14 : decode cX19_readPart 14 = .ok (.invokevirtual 161, 3) := dk_182 0 161 (dk_at dksX19_readPart_0 14 rfl rfl)
theorem dX19_readPart_17 : decode cX19_readPart 17 = .ok (.iload 4, 2) := dk_21 4 (dk_at dksX19_readPart_0 17 rfl rfl)
theorem dX19_readPart_19 : decode cX19_readPart 19 = .ok (.ireturn, 1) := dk_172 (dk_at dksX19_readPart_0 19 rfl rfl)
abbrev cX19_needs : ByteArray := prog_23_method_20_code
def yX19_needs : MethodName := ⟨RX19, "needs", "(Ljava/lang/String;)V"⟩
def dkwX19_needs_0 : List UInt8 := [42, 43, 182, 0, 157, 154, 0, 8, 42, 4, 182, 0, 164, 42, 182, 0, 161, 177]
abbrev dktX19_needs_0 : List UInt8 := dkwX19_needs_0 ++ []
theorem dksX19_needs_0 : cX19_needs.data.toList.drop 0 = dktX19_needs_0 := by decide +kernel
theorem dX19_needs_0 : decode cX19_needs 0 = .ok (.aload_n 0, 1) := dk_42 (dk_at dksX19_needs_0 0 rfl rfl)
theorem dX19_needs_1 : decode cX19_needs 1 = .ok (.aload_n 1, 1) := dk_43 (dk_at dksX19_needs_0 1 rfl rfl)
theorem dX19_needs_2 : decode cX19_needs 2 = .ok (.invokevirtual 157, 3) := dk_182 0 157 (dk_at dksX19_needs_0 2 rfl rfl)
theorem dX19_needs_5 : decode cX19_needs 5 = .ok (.ifCond .ne 8, 3) := dk_154 0 8 (dk_at dksX19_needs_0 5 rfl rfl)
theorem dX19_needs_8 : decode cX19_needs 8 = .ok (.aload_n 0, 1) := dk_42 (dk_at dksX19_needs_0 8 rfl rfl)
theorem dX19_needs_9 : decode cX19_needs 9 = .ok (.iconst 1, 1) := dk_4 (dk_at dksX19_needs_0 9 rfl rfl)
theorem dX19_needs_10 : decode cX19_needs 10 = .ok (.invokevirtual 164, 3) := dk_182 0 164 (dk_at dksX19_needs_0 10 rfl rfl)
theorem dX19_needs_13 : decode cX19_needs 13 = .ok (.aload_n 0, 1) := dk_42 (dk_at dksX19_needs_0 13 rfl rfl)
theorem dX19_needs_14 : decode cX19_needs 14 = .ok (.invokevirtual 161, 3) := dk_182 0 161 (dk_at dksX19_needs_0 14 rfl rfl)
theorem dX19_needs_17 : decode cX19_needs 17 = .ok (.return_, 1) := dk_177 (dk_at dksX19_needs_0 17 rfl rfl)
abbrev cX19_bounded : ByteArray := prog_23_method_22_code
def yX19_bounded : MethodName := ⟨RX19, "bounded", "(II)I"⟩
def dkwX19_bounded_2 : List UInt8 := [180, 0, 144, 172]
abbrev dktX19_bounded_2 : List UInt8 := dkwX19_bounded_2 ++ []
def dkwX19_bounded_1 : List UInt8 := [184, 0, 168, 154, 0, 8, 42, 7, 182, 0, 164, 42, 180, 0, 118, 8, 160, 0, 7, 27, 167, 0, 7, 42]
abbrev dktX19_bounded_1 : List UInt8 := dkwX19_bounded_1 ++ dktX19_bounded_2
def dkwX19_bounded_0 : List UInt8 := [42, 180, 0, 118, 6, 159, 0, 11, 42, 4, 182, 0, 164, 167, 0, 20, 42, 180, 0, 144, 27, 28]
abbrev dktX19_bounded_0 : List UInt8 := dkwX19_bounded_0 ++ dktX19_bounded_1
theorem dksX19_bounded_0 : cX19_bounded.data.toList.drop 0 = dktX19_bounded_0 := by decide +kernel
theorem dksX19_bounded_1 : cX19_bounded.data.toList.drop 22 = dktX19_bounded_1 := dk_seg dksX19_bounded_0 22 rfl rfl
theorem dksX19_bounded_2 : cX19_bounded.data.toList.drop 46 = dktX19_bounded_2 := dk_seg dksX19_bounded_1 24 rfl rfl
theorem dX19_bounded_0 : decode cX19_bounded 0 = .ok (.aload_n 0, 1) := dk_42 (dk_at dksX19_bounded_0 0 rfl rfl)
theorem dX19_bounded_1 : decode cX19_bounded 1 = .ok (.getfield 118, 3) := dk_180 0 118 (dk_at dksX19_bounded_0 1 rfl rfl)
theorem dX19_bounded_4 : decode cX19_bounded 4 = .ok (.iconst 3, 1) := dk_6 (dk_at dksX19_bounded_0 4 rfl rfl)
theorem dX19_bounded_5 : decode cX19_bounded 5 = .ok (.if_icmp .eq 11, 3) := dk_159 0 11 (dk_at dksX19_bounded_0 5 rfl rfl)
theorem dX19_bounded_8 : decode cX19_bounded 8 = .ok (.aload_n 0, 1) := dk_42 (dk_at dksX19_bounded_0 8 rfl rfl)
theorem dX19_bounded_9 : decode cX19_bounded 9 = .ok (.iconst 1, 1) := dk_4 (dk_at dksX19_bounded_0 9 rfl rfl)
theorem dX19_bounded_10 : decode cX19_bounded 10 = .ok (.invokevirtual 164, 3) := dk_182 0 164 (dk_at dksX19_bounded_0 10 rfl rfl)
theorem dX19_bounded_13 : decode cX19_bounded 13 = .ok (.goto 20, 3) := dk_167 0 20 (dk_at dksX19_bounded_0 13 rfl rfl)
theorem dX19_bounded_16 : decode cX19_bounded 16 = .ok (.aload_n 0, 1) := dk_42 (dk_at dksX19_bounded_0 16 rfl rfl)
theorem dX19_bounded_17 : decode cX19_bounded 17 = .ok (.getfield 144, 3) := dk_180 0 144 (dk_at dksX19_bounded_0 17 rfl rfl)
theorem dX19_bounded_20 : decode cX19_bounded 20 = .ok (.iload_n 1, 1) := dk_27 (dk_at dksX19_bounded_0 20 rfl rfl)
theorem dX19_bounded_21 : decode cX19_bounded 21 = .ok (.iload_n 2, 1) := dk_28 (dk_at dksX19_bounded_0 21 rfl rfl)
theorem dX19_bounded_22 : decode cX19_bounded 22 = .ok (.invokestatic 168, 3) := dk_184 0 168 (dk_at dksX19_bounded_1 0 rfl rfl)
theorem dX19_bounded_25 : decode cX19_bounded 25 = .ok (.ifCond .ne 8, 3) := dk_154 0 8 (dk_at dksX19_bounded_1 3 rfl rfl)
theorem dX19_bounded_28 : decode cX19_bounded 28 = .ok (.aload_n 0, 1) := dk_42 (dk_at dksX19_bounded_1 6 rfl rfl)
theorem dX19_bounded_29 : decode cX19_bounded 29 = .ok (.iconst 4, 1) := dk_7 (dk_at dksX19_bounded_1 7 rfl rfl)
theorem dX19_bounded_30 : decode cX19_bounded 30 = .ok (.invokevirtual 164, 3) := dk_182 0 164 (dk_at dksX19_bounded_1 8 rfl rfl)
theorem dX19_bounded_33 : decode cX19_bounded 33 = .ok (.aload_n 0, 1) := dk_42 (dk_at dksX19_bounded_1 11 rfl rfl)
theorem dX19_bounded_34 : decode cX19_bounded 34 = .ok (.getfield 118, 3) := dk_180 0 118 (dk_at dksX19_bounded_1 12 rfl rfl)
theorem dX19_bounded_37 : decode cX19_bounded 37 = .ok (.iconst 5, 1) := dk_8 (dk_at dksX19_bounded_1 15 rfl rfl)
theorem dX19_bounded_38 : decode cX19_bounded 38 = .ok (.if_icmp .ne 7, 3) := dk_160 0 7 (dk_at dksX19_bounded_1 16 rfl rfl)
theorem dX19_bounded_41 : decode cX19_bounded 41 = .ok (.iload_n 1, 1) := dk_27 (dk_at dksX19_bounded_1 19 rfl rfl)
theorem dX19_bounded_42 : decode cX19_bounded 42 = .ok (.goto 7, 3) := dk_167 0 7 (dk_at dksX19_bounded_1 20 rfl rfl)
theorem dX19_bounded_45 : decode cX19_bounded 45 = .ok (.aload_n 0, 1) := dk_42 (dk_at dksX19_bounded_1 23 rfl rfl)
theorem dX19_bounded_46 : decode cX19_bounded 46 = .ok (.getfield 144, 3) := dk_180 0 144 (dk_at dksX19_bounded_2 0 rfl rfl)
theorem dX19_bounded_49 : decode cX19_bounded 49 = .ok (.ireturn, 1) := dk_172 (dk_at dksX19_bounded_2 3 rfl rfl)
abbrev cX19_in : ByteArray := prog_23_method_7_code
def yX19_in : MethodName := ⟨RX19, "in", "(III)Z"⟩
def dkwX19_in_0 : List UInt8 := [26, 27, 161, 0, 12, 26, 28, 163, 0, 7, 4, 167, 0, 4, 3, 172]
abbrev dktX19_in_0 : List UInt8 := dkwX19_in_0 ++ []
theorem dksX19_in_0 : cX19_in.data.toList.drop 0 = dktX19_in_0 := by decide +kernel
theorem dX19_in_0 : decode cX19_in 0 = .ok (.iload_n 0, 1) := dk_26 (dk_at dksX19_in_0 0 rfl rfl)
theorem dX19_in_1 : decode cX19_in 1 = .ok (.iload_n 1, 1) := dk_27 (dk_at dksX19_in_0 1 rfl rfl)
theorem dX19_in_2 : decode cX19_in 2 = .ok (.if_icmp .lt 12, 3) := dk_161 0 12 (dk_at dksX19_in_0 2 rfl rfl)
theorem dX19_in_5 : decode cX19_in 5 = .ok (.iload_n 0, 1) := dk_26 (dk_at dksX19_in_0 5 rfl rfl)
theorem dX19_in_6 : decode cX19_in 6 = .ok (.iload_n 2, 1) := dk_28 (dk_at dksX19_in_0 6 rfl rfl)
theorem dX19_in_7 : decode cX19_in 7 = .ok (.if_icmp .gt 7, 3) := dk_163 0 7 (dk_at dksX19_in_0 7 rfl rfl)
theorem dX19_in_10 : decode cX19_in 10 = .ok (.iconst 1, 1) := dk_4 (dk_at dksX19_in_0 10 rfl rfl)
theorem dX19_in_11 : decode cX19_in 11 = .ok (.goto 4, 3) := dk_167 0 4 (dk_at dksX19_in_0 11 rfl rfl)
theorem dX19_in_14 : decode cX19_in 14 = .ok (.iconst 0, 1) := dk_3 (dk_at dksX19_in_0 14 rfl rfl)
theorem dX19_in_15 : decode cX19_in 15 = .ok (.ireturn, 1) := dk_172 (dk_at dksX19_in_0 15 rfl rfl)
abbrev cX19_rowsOf : ByteArray := prog_23_method_9_code
def yX19_rowsOf : MethodName := ⟨RX19, "rowsOf", "(II)J"⟩
def dkwX19_rowsOf_1 : List UInt8 := [167, 255, 239, 32, 173]
abbrev dktX19_rowsOf_1 : List UInt8 := dkwX19_rowsOf_1 ++ []
def dkwX19_rowsOf_0 : List UInt8 := [10, 65, 3, 54, 4, 21, 4, 27, 162, 0, 17, 32, 26, 21, 4, 100, 133, 105, 65, 132, 4, 1]
abbrev dktX19_rowsOf_0 : List UInt8 := dkwX19_rowsOf_0 ++ dktX19_rowsOf_1
theorem dksX19_rowsOf_0 : cX19_rowsOf.data.toList.drop 0 = dktX19_rowsOf_0 := by decide +kernel
theorem dksX19_rowsOf_1 : cX19_rowsOf.data.toList.drop 22 = dktX19_rowsOf_1 := dk_seg dksX19_rowsOf_0 22 rfl rfl
theorem dX19_rowsOf_0 : decode cX19_rowsOf 0 = .ok (.lconst 1, 1) := dk_10 (dk_at dksX19_rowsOf_0 0 rfl rfl)
theorem dX19_rowsOf_1 : decode cX19_rowsOf 1 = .ok (.lstore_n 2, 1) := dk_65 (dk_at dksX19_rowsOf_0 1 rfl rfl)
theorem dX19_rowsOf_2 : decode cX19_rowsOf 2 = .ok (.iconst 0, 1) := dk_3 (dk_at dksX19_rowsOf_0 2 rfl rfl)
theorem dX19_rowsOf_3 : decode cX19_rowsOf 3 = .ok (.istore 4, 2) := dk_54 4 (dk_at dksX19_rowsOf_0 3 rfl rfl)
theorem dX19_rowsOf_5 : decode cX19_rowsOf 5 = .ok (.iload 4, 2) := dk_21 4 (dk_at dksX19_rowsOf_0 5 rfl rfl)
theorem dX19_rowsOf_7 : decode cX19_rowsOf 7 = .ok (.iload_n 1, 1) := dk_27 (dk_at dksX19_rowsOf_0 7 rfl rfl)
theorem dX19_rowsOf_8 : decode cX19_rowsOf 8 = .ok (.if_icmp .ge 17, 3) := dk_162 0 17 (dk_at dksX19_rowsOf_0 8 rfl rfl)
theorem dX19_rowsOf_11 : decode cX19_rowsOf 11 = .ok (.lload_n 2, 1) := dk_32 (dk_at dksX19_rowsOf_0 11 rfl rfl)
theorem dX19_rowsOf_12 : decode cX19_rowsOf 12 = .ok (.iload_n 0, 1) := dk_26 (dk_at dksX19_rowsOf_0 12 rfl rfl)
theorem dX19_rowsOf_13 : decode cX19_rowsOf 13 = .ok (.iload 4, 2) := dk_21 4 (dk_at dksX19_rowsOf_0 13 rfl rfl)
theorem dX19_rowsOf_15 : decode cX19_rowsOf 15 = .ok (.isub, 1) := dk_100 (dk_at dksX19_rowsOf_0 15 rfl rfl)
theorem dX19_rowsOf_16 : decode cX19_rowsOf 16 = .ok (.i2l, 1) := dk_133 (dk_at dksX19_rowsOf_0 16 rfl rfl)
theorem dX19_rowsOf_17 : decode cX19_rowsOf 17 = .ok (.lmul, 1) := dk_105 (dk_at dksX19_rowsOf_0 17 rfl rfl)
theorem dX19_rowsOf_18 : decode cX19_rowsOf 18 = .ok (.lstore_n 2, 1) := dk_65 (dk_at dksX19_rowsOf_0 18 rfl rfl)
theorem dX19_rowsOf_19 : decode cX19_rowsOf 19 = .ok (.iinc 4 1, 3) := dk_132 4 1 (dk_at dksX19_rowsOf_0 19 rfl rfl)
theorem dX19_rowsOf_22 : decode cX19_rowsOf 22 = .ok (.goto (-17), 3) := dk_167 255 239 (dk_at dksX19_rowsOf_1 0 rfl rfl)
theorem dX19_rowsOf_25 : decode cX19_rowsOf 25 = .ok (.lload_n 2, 1) := dk_32 (dk_at dksX19_rowsOf_1 3 rfl rfl)
theorem dX19_rowsOf_26 : decode cX19_rowsOf 26 = .ok (.lreturn, 1) := dk_173 (dk_at dksX19_rowsOf_1 4 rfl rfl)
abbrev cX19_setsOf : ByteArray := prog_23_method_10_code
def yX19_setsOf : MethodName := ⟨RX19, "setsOf", "(II)J"⟩
def dkwX19_setsOf_0 : List UInt8 := [26, 27, 184, 0, 99, 27, 27, 184, 0, 99, 109, 173]
abbrev dktX19_setsOf_0 : List UInt8 := dkwX19_setsOf_0 ++ []
theorem dksX19_setsOf_0 : cX19_setsOf.data.toList.drop 0 = dktX19_setsOf_0 := by decide +kernel
theorem dX19_setsOf_0 : decode cX19_setsOf 0 = .ok (.iload_n 0, 1) := dk_26 (dk_at dksX19_setsOf_0 0 rfl rfl)
theorem dX19_setsOf_1 : decode cX19_setsOf 1 = .ok (.iload_n 1, 1) := dk_27 (dk_at dksX19_setsOf_0 1 rfl rfl)
theorem dX19_setsOf_2 : decode cX19_setsOf 2 = .ok (.invokestatic 99, 3) := dk_184 0 99 (dk_at dksX19_setsOf_0 2 rfl rfl)
theorem dX19_setsOf_5 : decode cX19_setsOf 5 = .ok (.iload_n 1, 1) := dk_27 (dk_at dksX19_setsOf_0 5 rfl rfl)
theorem dX19_setsOf_6 : decode cX19_setsOf 6 = .ok (.iload_n 1, 1) := dk_27 (dk_at dksX19_setsOf_0 6 rfl rfl)
theorem dX19_setsOf_7 : decode cX19_setsOf 7 = .ok (.invokestatic 99, 3) := dk_184 0 99 (dk_at dksX19_setsOf_0 7 rfl rfl)
theorem dX19_setsOf_10 : decode cX19_setsOf 10 = .ok (.ldiv, 1) := dk_109 (dk_at dksX19_setsOf_0 10 rfl rfl)
theorem dX19_setsOf_11 : decode cX19_setsOf 11 = .ok (.lreturn, 1) := dk_173 (dk_at dksX19_setsOf_0 11 rfl rfl)
abbrev cX19_eatsWord : ByteArray := prog_23_method_18_code
def yX19_eatsWord : MethodName := ⟨RX19, "eatsWord", "(Ljava/lang/String;)Z"⟩
def dkwX19_eatsWord_0 : List UInt8 := [42, 43, 182, 0, 157, 61, 28, 153, 0, 7, 42, 182, 0, 161, 28, 172]
abbrev dktX19_eatsWord_0 : List UInt8 := dkwX19_eatsWord_0 ++ []
theorem dksX19_eatsWord_0 : cX19_eatsWord.data.toList.drop 0 = dktX19_eatsWord_0 := by decide +kernel
theorem dX19_eatsWord_0 : decode cX19_eatsWord 0 = .ok (.aload_n 0, 1) := dk_42 (dk_at dksX19_eatsWord_0 0 rfl rfl)
theorem dX19_eatsWord_1 : decode cX19_eatsWord 1 = .ok (.aload_n 1, 1) := dk_43 (dk_at dksX19_eatsWord_0 1 rfl rfl)
theorem dX19_eatsWord_2 : decode cX19_eatsWord 2 = .ok (.invokevirtual 157, 3) := dk_182 0 157 (dk_at dksX19_eatsWord_0 2 rfl rfl)
theorem dX19_eatsWord_5 : decode cX19_eatsWord 5 = .ok (.istore_n 2, 1) := dk_61 (dk_at dksX19_eatsWord_0 5 rfl rfl)
theorem dX19_eatsWord_6 : decode cX19_eatsWord 6 = .ok (.iload_n 2, 1) := dk_28 (dk_at dksX19_eatsWord_0 6 rfl rfl)
theorem dX19_eatsWord_7 : decode cX19_eatsWord 7 = .ok (.ifCond .eq 7, 3) := dk_153 0 7 (dk_at dksX19_eatsWord_0 7 rfl rfl)
theorem dX19_eatsWord_10 : decode cX19_eatsWord 10 = .ok (.aload_n 0, 1) := dk_42 (dk_at dksX19_eatsWord_0 10 rfl rfl)
theorem dX19_eatsWord_11 : decode cX19_eatsWord 11 = .ok (.invokevirtual 161, 3) := dk_182 0 161 (dk_at dksX19_eatsWord_0 11 rfl rfl)
theorem dX19_eatsWord_14 : decode cX19_eatsWord 14 = .ok (.iload_n 2, 1) := dk_28 (dk_at dksX19_eatsWord_0 14 rfl rfl)
theorem dX19_eatsWord_15 : decode cX19_eatsWord 15 = .ok (.ireturn, 1) := dk_172 (dk_at dksX19_eatsWord_0 15 rfl rfl)
abbrev cX19_readRule : ByteArray := prog_23_method_29_code
def yX19_readRule : MethodName := ⟨RX19, "readRule", "()V"⟩
def dkwX19_readRule_8 : List UInt8 := [180, 0, 190, 89, 180, 1, 3, 4, 96, 181, 1, 3, 177]
abbrev dktX19_readRule_8 : List UInt8 := dkwX19_readRule_8 ++ []
def dkwX19_readRule_7 : List UInt8 := [180, 1, 3, 31, 80, 42, 180, 0, 190, 180, 1, 27, 42, 180, 0, 190, 180, 1, 3, 29, 79, 42]
abbrev dktX19_readRule_7 : List UInt8 := dkwX19_readRule_7 ++ dktX19_readRule_8
def dkwX19_readRule_6 : List UInt8 := [182, 0, 164, 42, 180, 0, 118, 8, 160, 0, 4, 177, 42, 180, 0, 190, 180, 1, 14, 42, 180, 0, 190]
abbrev dktX19_readRule_6 : List UInt8 := dkwX19_readRule_6 ++ dktX19_readRule_7
def dkwX19_readRule_5 : List UInt8 := [182, 0, 242, 153, 0, 10, 42, 182, 1, 24, 167, 0, 4, 2, 62, 29, 2, 160, 0, 8, 42, 4]
abbrev dktX19_readRule_5 : List UInt8 := dkwX19_readRule_5 ++ dktX19_readRule_6
def dkwX19_readRule_4 : List UInt8 := [167, 0, 36, 42, 19, 1, 20, 182, 0, 242, 153, 0, 8, 16, 21, 167, 0, 21, 42, 19, 1, 22]
abbrev dktX19_readRule_4 : List UInt8 := dkwX19_readRule_4 ++ dktX19_readRule_5
def dkwX19_readRule_3 : List UInt8 := [167, 255, 212, 42, 180, 0, 137, 64, 42, 182, 0, 161, 42, 19, 1, 18, 182, 0, 242, 153, 0, 8, 16, 20]
abbrev dktX19_readRule_3 : List UInt8 := dkwX19_readRule_3 ++ dktX19_readRule_4
def dkwX19_readRule_2 : List UInt8 := [180, 0, 190, 180, 1, 14, 27, 47, 42, 180, 0, 137, 148, 154, 0, 8, 42, 6, 182, 0, 164, 132, 1, 1]
abbrev dktX19_readRule_2 : List UInt8 := dkwX19_readRule_2 ++ dktX19_readRule_3
def dkwX19_readRule_1 : List UInt8 := [3, 60, 27, 42, 180, 0, 190, 180, 1, 3, 162, 0, 39, 42, 180, 0, 118, 8, 159, 0, 25, 42]
abbrev dktX19_readRule_1 : List UInt8 := dkwX19_readRule_1 ++ dktX19_readRule_2
def dkwX19_readRule_0 : List UInt8 := [42, 42, 180, 0, 190, 180, 1, 3, 7, 182, 1, 6, 42, 182, 1, 10, 154, 0, 8, 42, 4, 182, 0, 164]
abbrev dktX19_readRule_0 : List UInt8 := dkwX19_readRule_0 ++ dktX19_readRule_1
theorem dksX19_readRule_0 : cX19_readRule.data.toList.drop 0 = dktX19_readRule_0 := by decide +kernel
theorem dksX19_readRule_1 : cX19_readRule.data.toList.drop 24 = dktX19_readRule_1 := dk_seg dksX19_readRule_0 24 rfl rfl
theorem dksX19_readRule_2 : cX19_readRule.data.toList.drop 46 = dktX19_readRule_2 := dk_seg dksX19_readRule_1 22 rfl rfl
theorem dksX19_readRule_3 : cX19_readRule.data.toList.drop 70 = dktX19_readRule_3 := dk_seg dksX19_readRule_2 24 rfl rfl
theorem dksX19_readRule_4 : cX19_readRule.data.toList.drop 94 = dktX19_readRule_4 := dk_seg dksX19_readRule_3 24 rfl rfl
theorem dksX19_readRule_5 : cX19_readRule.data.toList.drop 116 = dktX19_readRule_5 := dk_seg dksX19_readRule_4 22 rfl rfl
theorem dksX19_readRule_6 : cX19_readRule.data.toList.drop 138 = dktX19_readRule_6 := dk_seg dksX19_readRule_5 22 rfl rfl
theorem dksX19_readRule_7 : cX19_readRule.data.toList.drop 161 = dktX19_readRule_7 := dk_seg dksX19_readRule_6 23 rfl rfl
theorem dksX19_readRule_8 : cX19_readRule.data.toList.drop 183 = dktX19_readRule_8 := dk_seg dksX19_readRule_7 22 rfl rfl
theorem dX19_readRule_0 : decode cX19_readRule 0 = .ok (.aload_n 0, 1) := dk_42 (dk_at dksX19_readRule_0 0 rfl rfl)
theorem dX19_readRule_1 : decode cX19_readRule 1 = .ok (.aload_n 0, 1) := dk_42 (dk_at dksX19_readRule_0 1 rfl rfl)
theorem dX19_readRule_2 : decode cX19_readRule 2 = .ok (.getfield 190, 3) := dk_180 0 190 (dk_at dksX19_readRule_0 2 rfl rfl)
theorem dX19_readRule_5 : decode cX19_readRule 5 = .ok (.getfield 259, 3) := dk_180 1 3 (dk_at dksX19_readRule_0 5 rfl rfl)
theorem dX19_readRule_8 : decode cX19_readRule 8 = .ok (.iconst 4, 1) := dk_7 (dk_at dksX19_readRule_0 8 rfl rfl)
theorem dX19_readRule_9 : decode cX19_readRule 9 = .ok (.invokevirtual 262, 3) := dk_182 1 6 (dk_at dksX19_readRule_0 9 rfl rfl)
theorem dX19_readRule_12 : decode cX19_readRule 12 = .ok (.aload_n 0, 1) := dk_42 (dk_at dksX19_readRule_0 12 rfl rfl)
theorem dX19_readRule_13 : decode cX19_readRule 13 = .ok (.invokevirtual 266, 3) := dk_182 1 10 (dk_at dksX19_readRule_0 13 rfl rfl)
theorem dX19_readRule_16 : decode cX19_readRule 16 = .ok (.ifCond .ne 8, 3) := dk_154 0 8 (dk_at dksX19_readRule_0 16 rfl rfl)
theorem dX19_readRule_19 : decode cX19_readRule 19 = .ok (.aload_n 0, 1) := dk_42 (dk_at dksX19_readRule_0 19 rfl rfl)
theorem dX19_readRule_20 : decode cX19_readRule 20 = .ok (.iconst 1, 1) := dk_4 (dk_at dksX19_readRule_0 20 rfl rfl)
theorem dX19_readRule_21 : decode cX19_readRule 21 = .ok (.invokevirtual 164, 3) := dk_182 0 164 (dk_at dksX19_readRule_0 21 rfl rfl)
theorem dX19_readRule_24 : decode cX19_readRule 24 = .ok (.iconst 0, 1) := dk_3 (dk_at dksX19_readRule_1 0 rfl rfl)
theorem dX19_readRule_25 : decode cX19_readRule 25 = .ok (.istore_n 1, 1) := dk_60 (dk_at dksX19_readRule_1 1 rfl rfl)
theorem dX19_readRule_26 : decode cX19_readRule 26 = .ok (.iload_n 1, 1) := dk_27 (dk_at dksX19_readRule_1 2 rfl rfl)
theorem dX19_readRule_27 : decode cX19_readRule 27 = .ok (.aload_n 0, 1) := dk_42 (dk_at dksX19_readRule_1 3 rfl rfl)
theorem dX19_readRule_28 : decode cX19_readRule 28 = .ok (.getfield 190, 3) := dk_180 0 190 (dk_at dksX19_readRule_1 4 rfl rfl)
theorem dX19_readRule_31 : decode cX19_readRule 31 = .ok (.getfield 259, 3) := dk_180 1 3 (dk_at dksX19_readRule_1 7 rfl rfl)
theorem dX19_readRule_34 : decode cX19_readRule 34 = .ok (.if_icmp .ge 39, 3) := dk_162 0 39 (dk_at dksX19_readRule_1 10 rfl rfl)
theorem dX19_readRule_37 : decode cX19_readRule 37 = .ok (.aload_n 0, 1) := dk_42 (dk_at dksX19_readRule_1 13 rfl rfl)
theorem dX19_readRule_38 : decode cX19_readRule 38 = .ok (.getfield 118, 3) := dk_180 0 118 (dk_at dksX19_readRule_1 14 rfl rfl)
theorem dX19_readRule_41 : decode cX19_readRule 41 = .ok (.iconst 5, 1) := dk_8 (dk_at dksX19_readRule_1 17 rfl rfl)
theorem dX19_readRule_42 : decode cX19_readRule 42 = .ok (.if_icmp .eq 25, 3) := dk_159 0 25 (dk_at dksX19_readRule_1 18 rfl rfl)
theorem dX19_readRule_45 : decode cX19_readRule 45 = .ok (.aload_n 0, 1) := dk_42 (dk_at dksX19_readRule_1 21 rfl rfl)
theorem dX19_readRule_46 : decode cX19_readRule 46 = .ok (.getfield 190, 3) := dk_180 0 190 (dk_at dksX19_readRule_2 0 rfl rfl)
theorem dX19_readRule_49 : decode cX19_readRule 49 = .ok (.getfield 270, 3) := dk_180 1 14 (dk_at dksX19_readRule_2 3 rfl rfl)
theorem dX19_readRule_52 : decode cX19_readRule 52 = .ok (.iload_n 1, 1) := dk_27 (dk_at dksX19_readRule_2 6 rfl rfl)
theorem dX19_readRule_53 : decode cX19_readRule 53 = .ok (.laload, 1) := dk_47 (dk_at dksX19_readRule_2 7 rfl rfl)
theorem dX19_readRule_54 : decode cX19_readRule 54 = .ok (.aload_n 0, 1) := dk_42 (dk_at dksX19_readRule_2 8 rfl rfl)
theorem dX19_readRule_55 : decode cX19_readRule 55 = .ok (.getfield 137, 3) := dk_180 0 137 (dk_at dksX19_readRule_2 9 rfl rfl)
theorem dX19_readRule_58 : decode cX19_readRule 58 = .ok (.lcmp, 1) := dk_148 (dk_at dksX19_readRule_2 12 rfl rfl)
theorem dX19_readRule_59 : decode cX19_readRule 59 = .ok (.ifCond .ne 8, 3) := dk_154 0 8 (dk_at dksX19_readRule_2 13 rfl rfl)
theorem dX19_readRule_62 : decode cX19_readRule 62 = .ok (.aload_n 0, 1) := dk_42 (dk_at dksX19_readRule_2 16 rfl rfl)
theorem dX19_readRule_63 : decode cX19_readRule 63 = .ok (.iconst 3, 1) := dk_6 (dk_at dksX19_readRule_2 17 rfl rfl)
theorem dX19_readRule_64 : decode cX19_readRule 64 = .ok (.invokevirtual 164, 3) := dk_182 0 164 (dk_at dksX19_readRule_2 18 rfl rfl)
theorem dX19_readRule_67 : decode cX19_readRule 67 = .ok (.iinc 1 1, 3) := dk_132 1 1 (dk_at dksX19_readRule_2 21 rfl rfl)
theorem dX19_readRule_70 : decode cX19_readRule 70 = .ok (.goto (-44), 3) := dk_167 255 212 (dk_at dksX19_readRule_3 0 rfl rfl)
theorem dX19_readRule_73 : decode cX19_readRule 73 = .ok (.aload_n 0, 1) := dk_42 (dk_at dksX19_readRule_3 3 rfl rfl)
theorem dX19_readRule_74 : decode cX19_readRule 74 = .ok (.getfield 137, 3) := dk_180 0 137 (dk_at dksX19_readRule_3 4 rfl rfl)
theorem dX19_readRule_77 : decode cX19_readRule 77 = .ok (.lstore_n 1, 1) := dk_64 (dk_at dksX19_readRule_3 7 rfl rfl)
theorem dX19_readRule_78 : decode cX19_readRule 78 = .ok (.aload_n 0, 1) := dk_42 (dk_at dksX19_readRule_3 8 rfl rfl)
theorem dX19_readRule_79 : decode cX19_readRule 79 = .ok (.invokevirtual 161, 3) := dk_182 0 161 (dk_at dksX19_readRule_3 9 rfl rfl)
theorem dX19_readRule_82 : decode cX19_readRule 82 = .ok (.aload_n 0, 1) := dk_42 (dk_at dksX19_readRule_3 12 rfl rfl)
theorem dX19_readRule_83 : decode cX19_readRule 83 = .ok (.ldc_w 274, 3) := dk_19 1 18 (dk_at dksX19_readRule_3 13 rfl rfl)
theorem dX19_readRule_86 : decode cX19_readRule 86 = .ok (.invokevirtual 242, 3) := dk_182 0 242 (dk_at dksX19_readRule_3 16 rfl rfl)
theorem dX19_readRule_89 : decode cX19_readRule 89 = .ok (.ifCond .eq 8, 3) := dk_153 0 8 (dk_at dksX19_readRule_3 19 rfl rfl)
theorem dX19_readRule_92 : decode cX19_readRule 92 = .ok (.bipush 20, 2) := dk_16 20 (dk_at dksX19_readRule_3 22 rfl rfl)
theorem dX19_readRule_94 : decode cX19_readRule 94 = .ok (.goto 36, 3) := dk_167 0 36 (dk_at dksX19_readRule_4 0 rfl rfl)
theorem dX19_readRule_97 : decode cX19_readRule 97 = .ok (.aload_n 0, 1) := dk_42 (dk_at dksX19_readRule_4 3 rfl rfl)
theorem dX19_readRule_98 : decode cX19_readRule 98 = .ok (.ldc_w 276, 3) := dk_19 1 20 (dk_at dksX19_readRule_4 4 rfl rfl)
theorem dX19_readRule_101 : decode cX19_readRule 101 = .ok (.invokevirtual 242, 3) := dk_182 0 242 (dk_at dksX19_readRule_4 7 rfl rfl)
theorem dX19_readRule_104 : decode cX19_readRule 104 = .ok (.ifCond .eq 8, 3) := dk_153 0 8 (dk_at dksX19_readRule_4 10 rfl rfl)
theorem dX19_readRule_107 : decode cX19_readRule 107 = .ok (.bipush 21, 2) := dk_16 21 (dk_at dksX19_readRule_4 13 rfl rfl)
theorem dX19_readRule_109 : decode cX19_readRule 109 = .ok (.goto 21, 3) := dk_167 0 21 (dk_at dksX19_readRule_4 15 rfl rfl)
theorem dX19_readRule_112 : decode cX19_readRule 112 = .ok (.aload_n 0, 1) := dk_42 (dk_at dksX19_readRule_4 18 rfl rfl)
theorem dX19_readRule_113 : decode cX19_readRule 113 = .ok (.ldc_w 278, 3) := dk_19 1 22 (dk_at dksX19_readRule_4 19 rfl rfl)
theorem dX19_readRule_116 : decode cX19_readRule 116 = .ok (.invokevirtual 242, 3) := dk_182 0 242 (dk_at dksX19_readRule_5 0 rfl rfl)
theorem dX19_readRule_119 : decode cX19_readRule 119 = .ok (.ifCond .eq 10, 3) := dk_153 0 10 (dk_at dksX19_readRule_5 3 rfl rfl)
theorem dX19_readRule_122 : decode cX19_readRule 122 = .ok (.aload_n 0, 1) := dk_42 (dk_at dksX19_readRule_5 6 rfl rfl)
theorem dX19_readRule_123 : decode cX19_readRule 123 = .ok (.invokevirtual 280, 3) := dk_182 1 24 (dk_at dksX19_readRule_5 7 rfl rfl)
theorem dX19_readRule_126 : decode cX19_readRule 126 = .ok (.goto 4, 3) := dk_167 0 4 (dk_at dksX19_readRule_5 10 rfl rfl)
theorem dX19_readRule_129 : decode cX19_readRule 129 = .ok (.iconst (-1), 1) := dk_2 (dk_at dksX19_readRule_5 13 rfl rfl)
theorem dX19_readRule_130 : decode cX19_readRule 130 = .ok (.istore_n 3, 1) := dk_62 (dk_at dksX19_readRule_5 14 rfl rfl)
theorem dX19_readRule_131 : decode cX19_readRule 131 = .ok (.iload_n 3, 1) := dk_29 (dk_at dksX19_readRule_5 15 rfl rfl)
theorem dX19_readRule_132 : decode cX19_readRule 132 = .ok (.iconst (-1), 1) := dk_2 (dk_at dksX19_readRule_5 16 rfl rfl)
theorem dX19_readRule_133 : decode cX19_readRule 133 = .ok (.if_icmp .ne 8, 3) := dk_160 0 8 (dk_at dksX19_readRule_5 17 rfl rfl)
theorem dX19_readRule_136 : decode cX19_readRule 136 = .ok (.aload_n 0, 1) := dk_42 (dk_at dksX19_readRule_5 20 rfl rfl)
theorem dX19_readRule_137 : decode cX19_readRule 137 = .ok (.iconst 1, 1) := dk_4 (dk_at dksX19_readRule_5 21 rfl rfl)
theorem dX19_readRule_138 : decode cX19_readRule 138 = .ok (.invokevirtual 164, 3) := dk_182 0 164 (dk_at dksX19_readRule_6 0 rfl rfl)
theorem dX19_readRule_141 : decode cX19_readRule 141 = .ok (.aload_n 0, 1) := dk_42 (dk_at dksX19_readRule_6 3 rfl rfl)
theorem dX19_readRule_142 : decode cX19_readRule 142 = .ok (.getfield 118, 3) := dk_180 0 118 (dk_at dksX19_readRule_6 4 rfl rfl)
theorem dX19_readRule_145 : decode cX19_readRule 145 = .ok (.iconst 5, 1) := dk_8 (dk_at dksX19_readRule_6 7 rfl rfl)
theorem dX19_readRule_146 : decode cX19_readRule 146 = .ok (.if_icmp .ne 4, 3) := dk_160 0 4 (dk_at dksX19_readRule_6 8 rfl rfl)
theorem dX19_readRule_149 : decode cX19_readRule 149 = .ok (.return_, 1) := dk_177 (dk_at dksX19_readRule_6 11 rfl rfl)
theorem dX19_readRule_150 : decode cX19_readRule 150 = .ok (.aload_n 0, 1) := dk_42 (dk_at dksX19_readRule_6 12 rfl rfl)
theorem dX19_readRule_151 : decode cX19_readRule 151 = .ok (.getfield 190, 3) := dk_180 0 190 (dk_at dksX19_readRule_6 13 rfl rfl)
theorem dX19_readRule_154 : decode cX19_readRule 154 = .ok (.getfield 270, 3) := dk_180 1 14 (dk_at dksX19_readRule_6 16 rfl rfl)
theorem dX19_readRule_157 : decode cX19_readRule 157 = .ok (.aload_n 0, 1) := dk_42 (dk_at dksX19_readRule_6 19 rfl rfl)
theorem dX19_readRule_158 : decode cX19_readRule 158 = .ok (.getfield 190, 3) := dk_180 0 190 (dk_at dksX19_readRule_6 20 rfl rfl)
theorem dX19_readRule_161 : decode cX19_readRule 161 = .ok (.getfield 259, 3) := dk_180 1 3 (dk_at dksX19_readRule_7 0 rfl rfl)
theorem dX19_readRule_164 : decode cX19_readRule 164 = .ok (.lload_n 1, 1) := dk_31 (dk_at dksX19_readRule_7 3 rfl rfl)
theorem dX19_readRule_165 : decode cX19_readRule 165 = .ok (.lastore, 1) := dk_80 (dk_at dksX19_readRule_7 4 rfl rfl)
theorem dX19_readRule_166 : decode cX19_readRule 166 = .ok (.aload_n 0, 1) := dk_42 (dk_at dksX19_readRule_7 5 rfl rfl)
theorem dX19_readRule_167 : decode cX19_readRule 167 = .ok (.getfield 190, 3) := dk_180 0 190 (dk_at dksX19_readRule_7 6 rfl rfl)
theorem dX19_readRule_170 : decode cX19_readRule 170 = .ok (.getfield 283, 3) := dk_180 1 27 (dk_at dksX19_readRule_7 9 rfl rfl)
theorem dX19_readRule_173 : decode cX19_readRule 173 = .ok (.aload_n 0, 1) := dk_42 (dk_at dksX19_readRule_7 12 rfl rfl)
theorem dX19_readRule_174 : decode cX19_readRule 174 = .ok (.getfield 190, 3) := dk_180 0 190 (dk_at dksX19_readRule_7 13 rfl rfl)
theorem dX19_readRule_177 : decode cX19_readRule 177 = .ok (.getfield 259, 3) := dk_180 1 3 (dk_at dksX19_readRule_7 16 rfl rfl)
theorem dX19_readRule_180 : decode cX19_readRule 180 = .ok (.iload_n 3, 1) := dk_29 (dk_at dksX19_readRule_7 19 rfl rfl)
theorem dX19_readRule_181 : decode cX19_readRule 181 = .ok (.iastore, 1) := dk_79 (dk_at dksX19_readRule_7 20 rfl rfl)
theorem dX19_readRule_182 : decode cX19_readRule 182 = .ok (.aload_n 0, 1) := dk_42 (dk_at dksX19_readRule_7 21 rfl rfl)
theorem dX19_readRule_183 : decode cX19_readRule 183 = .ok (.getfield 190, 3) := dk_180 0 190 (dk_at dksX19_readRule_8 0 rfl rfl)
theorem dX19_readRule_186 : decode cX19_readRule 186 = .ok (.dup, 1) := dk_89 (dk_at dksX19_readRule_8 3 rfl rfl)
theorem dX19_readRule_187 : decode cX19_readRule 187 = .ok (.getfield 259, 3) := dk_180 1 3 (dk_at dksX19_readRule_8 4 rfl rfl)
theorem dX19_readRule_190 : decode cX19_readRule 190 = .ok (.iconst 1, 1) := dk_4 (dk_at dksX19_readRule_8 7 rfl rfl)
theorem dX19_readRule_191 : decode cX19_readRule 191 = .ok (.iadd, 1) := dk_96 (dk_at dksX19_readRule_8 8 rfl rfl)
theorem dX19_readRule_192 : decode cX19_readRule 192 = .ok (.putfield 259, 3) := dk_181 1 3 (dk_at dksX19_readRule_8 9 rfl rfl)
theorem dX19_readRule_195 : decode cX19_readRule 195 = .ok (.return_, 1) := dk_177 (dk_at dksX19_readRule_8 12 rfl rfl)
abbrev cX19_begins : ByteArray := prog_23_method_25_code
def yX19_begins : MethodName := ⟨RX19, "begins", "(II)V"⟩
def dkwX19_begins_1 : List UInt8 := [182, 0, 164, 42, 182, 0, 161, 177]
abbrev dktX19_begins_1 : List UInt8 := dkwX19_begins_1 ++ []
def dkwX19_begins_0 : List UInt8 := [27, 28, 160, 0, 8, 42, 8, 182, 0, 164, 42, 180, 0, 190, 180, 0, 194, 154, 0, 9, 42, 16, 6]
abbrev dktX19_begins_0 : List UInt8 := dkwX19_begins_0 ++ dktX19_begins_1
theorem dksX19_begins_0 : cX19_begins.data.toList.drop 0 = dktX19_begins_0 := by decide +kernel
theorem dksX19_begins_1 : cX19_begins.data.toList.drop 23 = dktX19_begins_1 := dk_seg dksX19_begins_0 23 rfl rfl
theorem dX19_begins_0 : decode cX19_begins 0 = .ok (.iload_n 1, 1) := dk_27 (dk_at dksX19_begins_0 0 rfl rfl)
theorem dX19_begins_1 : decode cX19_begins 1 = .ok (.iload_n 2, 1) := dk_28 (dk_at dksX19_begins_0 1 rfl rfl)
theorem dX19_begins_2 : decode cX19_begins 2 = .ok (.if_icmp .ne 8, 3) := dk_160 0 8 (dk_at dksX19_begins_0 2 rfl rfl)
theorem dX19_begins_5 : decode cX19_begins 5 = .ok (.aload_n 0, 1) := dk_42 (dk_at dksX19_begins_0 5 rfl rfl)
theorem dX19_begins_6 : decode cX19_begins 6 = .ok (.iconst 5, 1) := dk_8 (dk_at dksX19_begins_0 6 rfl rfl)
theorem dX19_begins_7 : decode cX19_begins 7 = .ok (.invokevirtual 164, 3) := dk_182 0 164 (dk_at dksX19_begins_0 7 rfl rfl)
theorem dX19_begins_10 : decode cX19_begins 10 = .ok (.aload_n 0, 1) := dk_42 (dk_at dksX19_begins_0 10 rfl rfl)
theorem dX19_begins_11 : decode cX19_begins 11 = .ok (.getfield 190, 3) := dk_180 0 190 (dk_at dksX19_begins_0 11 rfl rfl)
theorem dX19_begins_14 : decode cX19_begins 14 = .ok (.getfield 194, 3) := dk_180 0 194 (dk_at dksX19_begins_0 14 rfl rfl)
theorem dX19_begins_17 : decode cX19_begins 17 = .ok (.ifCond .ne 9, 3) := dk_154 0 9 (dk_at dksX19_begins_0 17 rfl rfl)
theorem dX19_begins_20 : decode cX19_begins 20 = .ok (.aload_n 0, 1) := dk_42 (dk_at dksX19_begins_0 20 rfl rfl)
theorem dX19_begins_21 : decode cX19_begins 21 = .ok (.bipush 6, 2) := dk_16 6 (dk_at dksX19_begins_0 21 rfl rfl)
theorem dX19_begins_23 : decode cX19_begins 23 = .ok (.invokevirtual 164, 3) := dk_182 0 164 (dk_at dksX19_begins_1 0 rfl rfl)
theorem dX19_begins_26 : decode cX19_begins 26 = .ok (.aload_n 0, 1) := dk_42 (dk_at dksX19_begins_1 3 rfl rfl)
theorem dX19_begins_27 : decode cX19_begins 27 = .ok (.invokevirtual 161, 3) := dk_182 0 161 (dk_at dksX19_begins_1 4 rfl rfl)
theorem dX19_begins_30 : decode cX19_begins 30 = .ok (.return_, 1) := dk_177 (dk_at dksX19_begins_1 7 rfl rfl)
abbrev cX19_isName : ByteArray := prog_23_method_24_code
def yX19_isName : MethodName := ⟨RX19, "isName", "()Z"⟩
def dkwX19_isName_2 : List UInt8 := [182, 0, 157, 154, 0, 7, 4, 167, 0, 4, 3, 172]
abbrev dktX19_isName_2 : List UInt8 := dkwX19_isName_2 ++ []
def dkwX19_isName_1 : List UInt8 := [154, 0, 34, 42, 18, 184, 182, 0, 157, 154, 0, 25, 42, 18, 186, 182, 0, 157, 154, 0, 16, 42, 18, 188]
abbrev dktX19_isName_1 : List UInt8 := dkwX19_isName_1 ++ dktX19_isName_2
def dkwX19_isName_0 : List UInt8 := [42, 180, 0, 118, 5, 160, 0, 52, 42, 18, 180, 182, 0, 157, 154, 0, 43, 42, 18, 182, 182, 0, 157]
abbrev dktX19_isName_0 : List UInt8 := dkwX19_isName_0 ++ dktX19_isName_1
theorem dksX19_isName_0 : cX19_isName.data.toList.drop 0 = dktX19_isName_0 := by decide +kernel
theorem dksX19_isName_1 : cX19_isName.data.toList.drop 23 = dktX19_isName_1 := dk_seg dksX19_isName_0 23 rfl rfl
theorem dksX19_isName_2 : cX19_isName.data.toList.drop 47 = dktX19_isName_2 := dk_seg dksX19_isName_1 24 rfl rfl
theorem dX19_isName_0 : decode cX19_isName 0 = .ok (.aload_n 0, 1) := dk_42 (dk_at dksX19_isName_0 0 rfl rfl)
theorem dX19_isName_1 : decode cX19_isName 1 = .ok (.getfield 118, 3) := dk_180 0 118 (dk_at dksX19_isName_0 1 rfl rfl)
theorem dX19_isName_4 : decode cX19_isName 4 = .ok (.iconst 2, 1) := dk_5 (dk_at dksX19_isName_0 4 rfl rfl)
theorem dX19_isName_5 : decode cX19_isName 5 = .ok (.if_icmp .ne 52, 3) := dk_160 0 52 (dk_at dksX19_isName_0 5 rfl rfl)
theorem dX19_isName_8 : decode cX19_isName 8 = .ok (.aload_n 0, 1) := dk_42 (dk_at dksX19_isName_0 8 rfl rfl)
theorem dX19_isName_9 : decode cX19_isName 9 = .ok (.ldc 180, 2) := dk_18 180 (dk_at dksX19_isName_0 9 rfl rfl)
theorem dX19_isName_11 : decode cX19_isName 11 = .ok (.invokevirtual 157, 3) := dk_182 0 157 (dk_at dksX19_isName_0 11 rfl rfl)
theorem dX19_isName_14 : decode cX19_isName 14 = .ok (.ifCond .ne 43, 3) := dk_154 0 43 (dk_at dksX19_isName_0 14 rfl rfl)
theorem dX19_isName_17 : decode cX19_isName 17 = .ok (.aload_n 0, 1) := dk_42 (dk_at dksX19_isName_0 17 rfl rfl)
theorem dX19_isName_18 : decode cX19_isName 18 = .ok (.ldc 182, 2) := dk_18 182 (dk_at dksX19_isName_0 18 rfl rfl)
theorem dX19_isName_20 : decode cX19_isName 20 = .ok (.invokevirtual 157, 3) := dk_182 0 157 (dk_at dksX19_isName_0 20 rfl rfl)
theorem dX19_isName_23 : decode cX19_isName 23 = .ok (.ifCond .ne 34, 3) := dk_154 0 34 (dk_at dksX19_isName_1 0 rfl rfl)
theorem dX19_isName_26 : decode cX19_isName 26 = .ok (.aload_n 0, 1) := dk_42 (dk_at dksX19_isName_1 3 rfl rfl)
theorem dX19_isName_27 : decode cX19_isName 27 = .ok (.ldc 184, 2) := dk_18 184 (dk_at dksX19_isName_1 4 rfl rfl)
theorem dX19_isName_29 : decode cX19_isName 29 = .ok (.invokevirtual 157, 3) := dk_182 0 157 (dk_at dksX19_isName_1 6 rfl rfl)
theorem dX19_isName_32 : decode cX19_isName 32 = .ok (.ifCond .ne 25, 3) := dk_154 0 25 (dk_at dksX19_isName_1 9 rfl rfl)
theorem dX19_isName_35 : decode cX19_isName 35 = .ok (.aload_n 0, 1) := dk_42 (dk_at dksX19_isName_1 12 rfl rfl)
theorem dX19_isName_36 : decode cX19_isName 36 = .ok (.ldc 186, 2) := dk_18 186 (dk_at dksX19_isName_1 13 rfl rfl)
theorem dX19_isName_38 : decode cX19_isName 38 = .ok (.invokevirtual 157, 3) := dk_182 0 157 (dk_at dksX19_isName_1 15 rfl rfl)
theorem dX19_isName_41 : decode cX19_isName 41 = .ok (.ifCond .ne 16, 3) := dk_154 0 16 (dk_at dksX19_isName_1 18 rfl rfl)
theorem dX19_isName_44 : decode cX19_isName 44 = .ok (.aload_n 0, 1) := dk_42 (dk_at dksX19_isName_1 21 rfl rfl)
theorem dX19_isName_45 : decode cX19_isName 45 = .ok (.ldc 188, 2) := dk_18 188 (dk_at dksX19_isName_1 22 rfl rfl)
theorem dX19_isName_47 : decode cX19_isName 47 = .ok (.invokevirtual 157, 3) := dk_182 0 157 (dk_at dksX19_isName_2 0 rfl rfl)
theorem dX19_isName_50 : decode cX19_isName 50 = .ok (.ifCond .ne 7, 3) := dk_154 0 7 (dk_at dksX19_isName_2 3 rfl rfl)
theorem dX19_isName_53 : decode cX19_isName 53 = .ok (.iconst 1, 1) := dk_4 (dk_at dksX19_isName_2 6 rfl rfl)
theorem dX19_isName_54 : decode cX19_isName 54 = .ok (.goto 4, 3) := dk_167 0 4 (dk_at dksX19_isName_2 7 rfl rfl)
theorem dX19_isName_57 : decode cX19_isName 57 = .ok (.iconst 0, 1) := dk_3 (dk_at dksX19_isName_2 10 rfl rfl)
theorem dX19_isName_58 : decode cX19_isName 58 = .ok (.ireturn, 1) := dk_172 (dk_at dksX19_isName_2 11 rfl rfl)
abbrev cX19_readWords : ByteArray := prog_23_method_30_code
def yX19_readWords : MethodName := ⟨RX19, "readWords", "()I"⟩
def dkwX19_readWords_6 : List UInt8 := [7, 167, 0, 4, 2, 61, 28, 2, 160, 0, 8, 42, 4, 182, 0, 164, 8, 27, 104, 28, 96, 172]
abbrev dktX19_readWords_6 : List UInt8 := dkwX19_readWords_6 ++ []
def dkwX19_readWords_5 : List UInt8 := [42, 19, 1, 44, 182, 0, 242, 153, 0, 7, 6, 167, 0, 18, 42, 19, 1, 35, 182, 0, 242, 153, 0, 7]
abbrev dktX19_readWords_5 : List UInt8 := dkwX19_readWords_5 ++ dktX19_readWords_6
def dkwX19_readWords_4 : List UInt8 := [182, 0, 242, 153, 0, 7, 4, 167, 0, 46, 42, 19, 1, 42, 182, 0, 242, 153, 0, 7, 5, 167, 0, 32]
abbrev dktX19_readWords_4 : List UInt8 := dkwX19_readWords_4 ++ dktX19_readWords_5
def dkwX19_readWords_3 : List UInt8 := [19, 1, 37, 182, 0, 172, 42, 19, 1, 39, 182, 0, 242, 153, 0, 7, 3, 167, 0, 60, 42, 19, 1, 40]
abbrev dktX19_readWords_3 : List UInt8 := dkwX19_readWords_3 ++ dktX19_readWords_4
def dkwX19_readWords_2 : List UInt8 := [182, 0, 242, 153, 0, 7, 6, 167, 0, 4, 2, 60, 27, 2, 160, 0, 8, 42, 4, 182, 0, 164, 42]
abbrev dktX19_readWords_2 : List UInt8 := dkwX19_readWords_2 ++ dktX19_readWords_3
def dkwX19_readWords_1 : List UInt8 := [4, 167, 0, 32, 42, 19, 1, 33, 182, 0, 242, 153, 0, 7, 5, 167, 0, 18, 42, 19, 1, 35]
abbrev dktX19_readWords_1 : List UInt8 := dkwX19_readWords_1 ++ dktX19_readWords_2
def dkwX19_readWords_0 : List UInt8 := [42, 19, 1, 29, 182, 0, 242, 153, 0, 7, 3, 167, 0, 46, 42, 19, 1, 31, 182, 0, 242, 153, 0, 7]
abbrev dktX19_readWords_0 : List UInt8 := dkwX19_readWords_0 ++ dktX19_readWords_1
theorem dksX19_readWords_0 : cX19_readWords.data.toList.drop 0 = dktX19_readWords_0 := by decide +kernel
theorem dksX19_readWords_1 : cX19_readWords.data.toList.drop 24 = dktX19_readWords_1 := dk_seg dksX19_readWords_0 24 rfl rfl
theorem dksX19_readWords_2 : cX19_readWords.data.toList.drop 46 = dktX19_readWords_2 := dk_seg dksX19_readWords_1 22 rfl rfl
theorem dksX19_readWords_3 : cX19_readWords.data.toList.drop 69 = dktX19_readWords_3 := dk_seg dksX19_readWords_2 23 rfl rfl
theorem dksX19_readWords_4 : cX19_readWords.data.toList.drop 93 = dktX19_readWords_4 := dk_seg dksX19_readWords_3 24 rfl rfl
theorem dksX19_readWords_5 : cX19_readWords.data.toList.drop 117 = dktX19_readWords_5 := dk_seg dksX19_readWords_4 24 rfl rfl
theorem dksX19_readWords_6 : cX19_readWords.data.toList.drop 141 = dktX19_readWords_6 := dk_seg dksX19_readWords_5 24 rfl rfl
theorem dX19_readWords_0 : decode cX19_readWords 0 = .ok (.aload_n 0, 1) := dk_42 (dk_at dksX19_readWords_0 0 rfl rfl)
theorem dX19_readWords_1 : decode cX19_readWords 1 = .ok (.ldc_w 285, 3) := dk_19 1 29 (dk_at dksX19_readWords_0 1 rfl rfl)
theorem dX19_readWords_4 : decode cX19_readWords 4 = .ok (.invokevirtual 242, 3) := dk_182 0 242 (dk_at dksX19_readWords_0 4 rfl rfl)
theorem dX19_readWords_7 : decode cX19_readWords 7 = .ok (.ifCond .eq 7, 3) := dk_153 0 7 (dk_at dksX19_readWords_0 7 rfl rfl)
theorem dX19_readWords_10 : decode cX19_readWords 10 = .ok (.iconst 0, 1) := dk_3 (dk_at dksX19_readWords_0 10 rfl rfl)
theorem dX19_readWords_11 : decode cX19_readWords 11 = .ok (.goto 46, 3) := dk_167 0 46 (dk_at dksX19_readWords_0 11 rfl rfl)
theorem dX19_readWords_14 : decode cX19_readWords 14 = .ok (.aload_n 0, 1) := dk_42 (dk_at dksX19_readWords_0 14 rfl rfl)
theorem dX19_readWords_15 : decode cX19_readWords 15 = .ok (.ldc_w 287, 3) := dk_19 1 31 (dk_at dksX19_readWords_0 15 rfl rfl)
theorem dX19_readWords_18 : decode cX19_readWords 18 = .ok (.invokevirtual 242, 3) := dk_182 0 242 (dk_at dksX19_readWords_0 18 rfl rfl)
theorem dX19_readWords_21 : decode cX19_readWords 21 = .ok (.ifCond .eq 7, 3) := dk_153 0 7 (dk_at dksX19_readWords_0 21 rfl rfl)
theorem dX19_readWords_24 : decode cX19_readWords 24 = .ok (.iconst 1, 1) := dk_4 (dk_at dksX19_readWords_1 0 rfl rfl)
theorem dX19_readWords_25 : decode cX19_readWords 25 = .ok (.goto 32, 3) := dk_167 0 32 (dk_at dksX19_readWords_1 1 rfl rfl)
theorem dX19_readWords_28 : decode cX19_readWords 28 = .ok (.aload_n 0, 1) := dk_42 (dk_at dksX19_readWords_1 4 rfl rfl)
theorem dX19_readWords_29 : decode cX19_readWords 29 = .ok (.ldc_w 289, 3) := dk_19 1 33 (dk_at dksX19_readWords_1 5 rfl rfl)
theorem dX19_readWords_32 : decode cX19_readWords 32 = .ok (.invokevirtual 242, 3) := dk_182 0 242 (dk_at dksX19_readWords_1 8 rfl rfl)
theorem dX19_readWords_35 : decode cX19_readWords 35 = .ok (.ifCond .eq 7, 3) := dk_153 0 7 (dk_at dksX19_readWords_1 11 rfl rfl)
theorem dX19_readWords_38 : decode cX19_readWords 38 = .ok (.iconst 2, 1) := dk_5 (dk_at dksX19_readWords_1 14 rfl rfl)
theorem dX19_readWords_39 : decode cX19_readWords 39 = .ok (.goto 18, 3) := dk_167 0 18 (dk_at dksX19_readWords_1 15 rfl rfl)
theorem dX19_readWords_42 : decode cX19_readWords 42 = .ok (.aload_n 0, 1) := dk_42 (dk_at dksX19_readWords_1 18 rfl rfl)
theorem dX19_readWords_43 : decode cX19_readWords 43 = .ok (.ldc_w 291, 3) := dk_19 1 35 (dk_at dksX19_readWords_1 19 rfl rfl)
theorem dX19_readWords_46 : decode cX19_readWords 46 = .ok (.invokevirtual 242, 3) := dk_182 0 242 (dk_at dksX19_readWords_2 0 rfl rfl)
theorem dX19_readWords_49 : decode cX19_readWords 49 = .ok (.ifCond .eq 7, 3) := dk_153 0 7 (dk_at dksX19_readWords_2 3 rfl rfl)
theorem dX19_readWords_52 : decode cX19_readWords 52 = .ok (.iconst 3, 1) := dk_6 (dk_at dksX19_readWords_2 6 rfl rfl)
theorem dX19_readWords_53 : decode cX19_readWords 53 = .ok (.goto 4, 3) := dk_167 0 4 (dk_at dksX19_readWords_2 7 rfl rfl)
theorem dX19_readWords_56 : decode cX19_readWords 56 = .ok (.iconst (-1), 1) := dk_2 (dk_at dksX19_readWords_2 10 rfl rfl)
theorem dX19_readWords_57 : decode cX19_readWords 57 = .ok (.istore_n 1, 1) := dk_60 (dk_at dksX19_readWords_2 11 rfl rfl)
theorem dX19_readWords_58 : decode cX19_readWords 58 = .ok (.iload_n 1, 1) := dk_27 (dk_at dksX19_readWords_2 12 rfl rfl)
theorem dX19_readWords_59 : decode cX19_readWords 59 = .ok (.iconst (-1), 1) := dk_2 (dk_at dksX19_readWords_2 13 rfl rfl)
theorem dX19_readWords_60 : decode cX19_readWords 60 = .ok (.if_icmp .ne 8, 3) := dk_160 0 8 (dk_at dksX19_readWords_2 14 rfl rfl)
theorem dX19_readWords_63 : decode cX19_readWords 63 = .ok (.aload_n 0, 1) := dk_42 (dk_at dksX19_readWords_2 17 rfl rfl)
theorem dX19_readWords_64 : decode cX19_readWords 64 = .ok (.iconst 1, 1) := dk_4 (dk_at dksX19_readWords_2 18 rfl rfl)
theorem dX19_readWords_65 : decode cX19_readWords 65 = .ok (.invokevirtual 164, 3) := dk_182 0 164 (dk_at dksX19_readWords_2 19 rfl rfl)
theorem dX19_readWords_68 : decode cX19_readWords 68 = .ok (.aload_n 0, 1) := dk_42 (dk_at dksX19_readWords_2 22 rfl rfl)
theorem dX19_readWords_69 : decode cX19_readWords 69 = .ok (.ldc_w 293, 3) := dk_19 1 37 (dk_at dksX19_readWords_3 0 rfl rfl)
theorem dX19_readWords_72 : decode cX19_readWords 72 = .ok (.invokevirtual 172, 3) := dk_182 0 172 (dk_at dksX19_readWords_3 3 rfl rfl)
theorem dX19_readWords_75 : decode cX19_readWords 75 = .ok (.aload_n 0, 1) := dk_42 (dk_at dksX19_readWords_3 6 rfl rfl)
theorem dX19_readWords_76 : decode cX19_readWords 76 = .ok (.ldc_w 295, 3) := dk_19 1 39 (dk_at dksX19_readWords_3 7 rfl rfl)
theorem dX19_readWords_79 : decode cX19_readWords 79 = .ok (.invokevirtual 242, 3) := dk_182 0 242 (dk_at dksX19_readWords_3 10 rfl rfl)
theorem dX19_readWords_82 : decode cX19_readWords 82 = .ok (.ifCond .eq 7, 3) := dk_153 0 7 (dk_at dksX19_readWords_3 13 rfl rfl)
theorem dX19_readWords_85 : decode cX19_readWords 85 = .ok (.iconst 0, 1) := dk_3 (dk_at dksX19_readWords_3 16 rfl rfl)
theorem dX19_readWords_86 : decode cX19_readWords 86 = .ok (.goto 60, 3) := dk_167 0 60 (dk_at dksX19_readWords_3 17 rfl rfl)
theorem dX19_readWords_89 : decode cX19_readWords 89 = .ok (.aload_n 0, 1) := dk_42 (dk_at dksX19_readWords_3 20 rfl rfl)
theorem dX19_readWords_90 : decode cX19_readWords 90 = .ok (.ldc_w 296, 3) := dk_19 1 40 (dk_at dksX19_readWords_3 21 rfl rfl)
theorem dX19_readWords_93 : decode cX19_readWords 93 = .ok (.invokevirtual 242, 3) := dk_182 0 242 (dk_at dksX19_readWords_4 0 rfl rfl)
theorem dX19_readWords_96 : decode cX19_readWords 96 = .ok (.ifCond .eq 7, 3) := dk_153 0 7 (dk_at dksX19_readWords_4 3 rfl rfl)
theorem dX19_readWords_99 : decode cX19_readWords 99 = .ok (.iconst 1, 1) := dk_4 (dk_at dksX19_readWords_4 6 rfl rfl)
theorem dX19_readWords_100 : decode cX19_readWords 100 = .ok (.goto 46, 3) := dk_167 0 46 (dk_at dksX19_readWords_4 7 rfl rfl)
theorem dX19_readWords_103 : decode cX19_readWords 103 = .ok (.aload_n 0, 1) := dk_42 (dk_at dksX19_readWords_4 10 rfl rfl)
theorem dX19_readWords_104 : decode cX19_readWords 104 = .ok (.ldc_w 298, 3) := dk_19 1 42 (dk_at dksX19_readWords_4 11 rfl rfl)
theorem dX19_readWords_107 : decode cX19_readWords 107 = .ok (.invokevirtual 242, 3) := dk_182 0 242 (dk_at dksX19_readWords_4 14 rfl rfl)
theorem dX19_readWords_110 : decode cX19_readWords 110 = .ok (.ifCond .eq 7, 3) := dk_153 0 7 (dk_at dksX19_readWords_4 17 rfl rfl)
theorem dX19_readWords_113 : decode cX19_readWords 113 = .ok (.iconst 2, 1) := dk_5 (dk_at dksX19_readWords_4 20 rfl rfl)
theorem dX19_readWords_114 : decode cX19_readWords 114 = .ok (.goto 32, 3) := dk_167 0 32 (dk_at dksX19_readWords_4 21 rfl rfl)
theorem dX19_readWords_117 : decode cX19_readWords 117 = .ok (.aload_n 0, 1) := dk_42 (dk_at dksX19_readWords_5 0 rfl rfl)
theorem dX19_readWords_118 : decode cX19_readWords 118 = .ok (.ldc_w 300, 3) := dk_19 1 44 (dk_at dksX19_readWords_5 1 rfl rfl)
theorem dX19_readWords_121 : decode cX19_readWords 121 = .ok (.invokevirtual 242, 3) := dk_182 0 242 (dk_at dksX19_readWords_5 4 rfl rfl)
theorem dX19_readWords_124 : decode cX19_readWords 124 = .ok (.ifCond .eq 7, 3) := dk_153 0 7 (dk_at dksX19_readWords_5 7 rfl rfl)
theorem dX19_readWords_127 : decode cX19_readWords 127 = .ok (.iconst 3, 1) := dk_6 (dk_at dksX19_readWords_5 10 rfl rfl)
theorem dX19_readWords_128 : decode cX19_readWords 128 = .ok (.goto 18, 3) := dk_167 0 18 (dk_at dksX19_readWords_5 11 rfl rfl)
theorem dX19_readWords_131 : decode cX19_readWords 131 = .ok (.aload_n 0, 1) := dk_42 (dk_at dksX19_readWords_5 14 rfl rfl)
theorem dX19_readWords_132 : decode cX19_readWords 132 = .ok (.ldc_w 291, 3) := dk_19 1 35 (dk_at dksX19_readWords_5 15 rfl rfl)
theorem dX19_readWords_135 : decode cX19_readWords 135 = .ok (.invokevirtual 242, 3) := dk_182 0 242 (dk_at dksX19_readWords_5 18 rfl rfl)
theorem dX19_readWords_138 : decode cX19_readWords 138 = .ok (.ifCond .eq 7, 3) := dk_153 0 7 (dk_at dksX19_readWords_5 21 rfl rfl)
theorem dX19_readWords_141 : decode cX19_readWords 141 = .ok (.iconst 4, 1) := dk_7 (dk_at dksX19_readWords_6 0 rfl rfl)
theorem dX19_readWords_142 : decode cX19_readWords 142 = .ok (.goto 4, 3) := dk_167 0 4 (dk_at dksX19_readWords_6 1 rfl rfl)
theorem dX19_readWords_145 : decode cX19_readWords 145 = .ok (.iconst (-1), 1) := dk_2 (dk_at dksX19_readWords_6 4 rfl rfl)
theorem dX19_readWords_146 : decode cX19_readWords 146 = .ok (.istore_n 2, 1) := dk_61 (dk_at dksX19_readWords_6 5 rfl rfl)
theorem dX19_readWords_147 : decode cX19_readWords 147 = .ok (.iload_n 2, 1) := dk_28 (dk_at dksX19_readWords_6 6 rfl rfl)
theorem dX19_readWords_148 : decode cX19_readWords 148 = .ok (.iconst (-1), 1) := dk_2 (dk_at dksX19_readWords_6 7 rfl rfl)
theorem dX19_readWords_149 : decode cX19_readWords 149 = .ok (.if_icmp .ne 8, 3) := dk_160 0 8 (dk_at dksX19_readWords_6 8 rfl rfl)
theorem dX19_readWords_152 : decode cX19_readWords 152 = .ok (.aload_n 0, 1) := dk_42 (dk_at dksX19_readWords_6 11 rfl rfl)
theorem dX19_readWords_153 : decode cX19_readWords 153 = .ok (.iconst 1, 1) := dk_4 (dk_at dksX19_readWords_6 12 rfl rfl)
theorem dX19_readWords_154 : decode cX19_readWords 154 = .ok (.invokevirtual 164, 3) := dk_182 0 164 (dk_at dksX19_readWords_6 13 rfl rfl)
theorem dX19_readWords_157 : decode cX19_readWords 157 = .ok (.iconst 5, 1) := dk_8 (dk_at dksX19_readWords_6 16 rfl rfl)
theorem dX19_readWords_158 : decode cX19_readWords 158 = .ok (.iload_n 1, 1) := dk_27 (dk_at dksX19_readWords_6 17 rfl rfl)
theorem dX19_readWords_159 : decode cX19_readWords 159 = .ok (.imul, 1) := dk_104 (dk_at dksX19_readWords_6 18 rfl rfl)
theorem dX19_readWords_160 : decode cX19_readWords 160 = .ok (.iload_n 2, 1) := dk_28 (dk_at dksX19_readWords_6 19 rfl rfl)
theorem dX19_readWords_161 : decode cX19_readWords 161 = .ok (.iadd, 1) := dk_96 (dk_at dksX19_readWords_6 20 rfl rfl)
theorem dX19_readWords_162 : decode cX19_readWords 162 = .ok (.ireturn, 1) := dk_172 (dk_at dksX19_readWords_6 21 rfl rfl)
abbrev cX19_readEvening : ByteArray := prog_23_method_32_code
def yX19_readEvening : MethodName := ⟨RX19, "readEvening", "()V"⟩
def dkwX19_readEvening_6 : List UInt8 := [79, 42, 180, 0, 190, 89, 180, 1, 49, 4, 96, 181, 1, 49, 177]
abbrev dktX19_readEvening_6 : List UInt8 := dkwX19_readEvening_6 ++ []
def dkwX19_readEvening_5 : List UInt8 := [42, 180, 0, 118, 8, 160, 0, 4, 177, 42, 180, 0, 190, 180, 1, 63, 42, 180, 0, 190, 180, 1, 49, 28]
abbrev dktX19_readEvening_5 : List UInt8 := dkwX19_readEvening_5 ++ dktX19_readEvening_6
def dkwX19_readEvening_4 : List UInt8 := [180, 0, 250, 153, 0, 19, 42, 18, 188, 182, 0, 242, 153, 0, 10, 42, 182, 1, 60, 167, 0, 4, 3, 61]
abbrev dktX19_readEvening_4 : List UInt8 := dkwX19_readEvening_4 ++ dktX19_readEvening_5
def dkwX19_readEvening_3 : List UInt8 := [27, 42, 180, 0, 190, 180, 1, 1, 42, 180, 0, 190, 180, 0, 194, 182, 1, 55, 42, 180, 0, 190]
abbrev dktX19_readEvening_3 : List UInt8 := dkwX19_readEvening_3 ++ dktX19_readEvening_4
def dkwX19_readEvening_2 : List UInt8 := [42, 180, 0, 190, 180, 0, 194, 182, 1, 55, 42, 18, 186, 182, 0, 172, 42, 42, 180, 0, 190, 180, 1, 59]
abbrev dktX19_readEvening_2 : List UInt8 := dkwX19_readEvening_2 ++ dktX19_readEvening_3
def dkwX19_readEvening_1 : List UInt8 := [180, 0, 190, 180, 1, 49, 104, 60, 42, 42, 180, 0, 190, 180, 1, 52, 27, 42, 180, 0, 190, 180, 0, 232]
abbrev dktX19_readEvening_1 : List UInt8 := dkwX19_readEvening_1 ++ dktX19_readEvening_2
def dkwX19_readEvening_0 : List UInt8 := [42, 42, 180, 0, 190, 180, 1, 49, 16, 9, 182, 1, 6, 42, 180, 0, 118, 8, 160, 0, 4, 177, 8, 42]
abbrev dktX19_readEvening_0 : List UInt8 := dkwX19_readEvening_0 ++ dktX19_readEvening_1
theorem dksX19_readEvening_0 : cX19_readEvening.data.toList.drop 0 = dktX19_readEvening_0 := by decide +kernel
theorem dksX19_readEvening_1 : cX19_readEvening.data.toList.drop 24 = dktX19_readEvening_1 := dk_seg dksX19_readEvening_0 24 rfl rfl
theorem dksX19_readEvening_2 : cX19_readEvening.data.toList.drop 48 = dktX19_readEvening_2 := dk_seg dksX19_readEvening_1 24 rfl rfl
theorem dksX19_readEvening_3 : cX19_readEvening.data.toList.drop 72 = dktX19_readEvening_3 := dk_seg dksX19_readEvening_2 24 rfl rfl
theorem dksX19_readEvening_4 : cX19_readEvening.data.toList.drop 94 = dktX19_readEvening_4 := dk_seg dksX19_readEvening_3 22 rfl rfl
theorem dksX19_readEvening_5 : cX19_readEvening.data.toList.drop 118 = dktX19_readEvening_5 := dk_seg dksX19_readEvening_4 24 rfl rfl
theorem dksX19_readEvening_6 : cX19_readEvening.data.toList.drop 142 = dktX19_readEvening_6 := dk_seg dksX19_readEvening_5 24 rfl rfl
theorem dX19_readEvening_0 : decode cX19_readEvening 0 = .ok (.aload_n 0, 1) := dk_42 (dk_at dksX19_readEvening_0 0 rfl rfl)
theorem dX19_readEvening_1 : decode cX19_readEvening 1 = .ok (.aload_n 0, 1) := dk_42 (dk_at dksX19_readEvening_0 1 rfl rfl)
theorem dX19_readEvening_2 : decode cX19_readEvening 2 = .ok (.getfield 190, 3) := dk_180 0 190 (dk_at dksX19_readEvening_0 2 rfl rfl)
theorem dX19_readEvening_5 : decode cX19_readEvening 5 = .ok (.getfield 305, 3) := dk_180 1 49 (dk_at dksX19_readEvening_0 5 rfl rfl)
theorem dX19_readEvening_8 : decode cX19_readEvening 8 = .ok (.bipush 9, 2) := dk_16 9 (dk_at dksX19_readEvening_0 8 rfl rfl)
theorem dX19_readEvening_10 : decode cX19_readEvening 10 = .ok (.invokevirtual 262, 3) := dk_182 1 6 (dk_at dksX19_readEvening_0 10 rfl rfl)
theorem dX19_readEvening_13 : decode cX19_readEvening 13 = .ok (.aload_n 0, 1) := dk_42 (dk_at dksX19_readEvening_0 13 rfl rfl)
theorem dX19_readEvening_14 : decode cX19_readEvening 14 = .ok (.getfield 118, 3) := dk_180 0 118 (dk_at dksX19_readEvening_0 14 rfl rfl)
theorem dX19_readEvening_17 : decode cX19_readEvening 17 = .ok (.iconst 5, 1) := dk_8 (dk_at dksX19_readEvening_0 17 rfl rfl)
theorem dX19_readEvening_18 : decode cX19_readEvening 18 = .ok (.if_icmp .ne 4, 3) := dk_160 0 4 (dk_at dksX19_readEvening_0 18 rfl rfl)
theorem dX19_readEvening_21 : decode cX19_readEvening 21 = .ok (.return_, 1) := dk_177 (dk_at dksX19_readEvening_0 21 rfl rfl)
theorem dX19_readEvening_22 : decode cX19_readEvening 22 = .ok (.iconst 5, 1) := dk_8 (dk_at dksX19_readEvening_0 22 rfl rfl)
theorem dX19_readEvening_23 : decode cX19_readEvening 23 = .ok (.aload_n 0, 1) := dk_42 (dk_at dksX19_readEvening_0 23 rfl rfl)
theorem dX19_readEvening_24 : decode cX19_readEvening 24 = .ok (.getfield 190, 3) := dk_180 0 190 (dk_at dksX19_readEvening_1 0 rfl rfl)
theorem dX19_readEvening_27 : decode cX19_readEvening 27 = .ok (.getfield 305, 3) := dk_180 1 49 (dk_at dksX19_readEvening_1 3 rfl rfl)
theorem dX19_readEvening_30 : decode cX19_readEvening 30 = .ok (.imul, 1) := dk_104 (dk_at dksX19_readEvening_1 6 rfl rfl)
theorem dX19_readEvening_31 : decode cX19_readEvening 31 = .ok (.istore_n 1, 1) := dk_60 (dk_at dksX19_readEvening_1 7 rfl rfl)
theorem dX19_readEvening_32 : decode cX19_readEvening 32 = .ok (.aload_n 0, 1) := dk_42 (dk_at dksX19_readEvening_1 8 rfl rfl)
theorem dX19_readEvening_33 : decode cX19_readEvening 33 = .ok (.aload_n 0, 1) := dk_42 (dk_at dksX19_readEvening_1 9 rfl rfl)
theorem dX19_readEvening_34 : decode cX19_readEvening 34 = .ok (.getfield 190, 3) := dk_180 0 190 (dk_at dksX19_readEvening_1 10 rfl rfl)
theorem dX19_readEvening_37 : decode cX19_readEvening 37 = .ok (.getfield 308, 3) := dk_180 1 52 (dk_at dksX19_readEvening_1 13 rfl rfl)
theorem dX19_readEvening_40 : decode cX19_readEvening 40 = .ok (.iload_n 1, 1) := dk_27 (dk_at dksX19_readEvening_1 16 rfl rfl)
theorem dX19_readEvening_41 : decode cX19_readEvening 41 = .ok (.aload_n 0, 1) := dk_42 (dk_at dksX19_readEvening_1 17 rfl rfl)
theorem dX19_readEvening_42 : decode cX19_readEvening 42 = .ok (.getfield 190, 3) := dk_180 0 190 (dk_at dksX19_readEvening_1 18 rfl rfl)
theorem dX19_readEvening_45 : decode cX19_readEvening 45 = .ok (.getfield 232, 3) := dk_180 0 232 (dk_at dksX19_readEvening_1 21 rfl rfl)
theorem dX19_readEvening_48 : decode cX19_readEvening 48 = .ok (.aload_n 0, 1) := dk_42 (dk_at dksX19_readEvening_2 0 rfl rfl)
theorem dX19_readEvening_49 : decode cX19_readEvening 49 = .ok (.getfield 190, 3) := dk_180 0 190 (dk_at dksX19_readEvening_2 1 rfl rfl)
theorem dX19_readEvening_52 : decode cX19_readEvening 52 = .ok (.getfield 194, 3) := dk_180 0 194 (dk_at dksX19_readEvening_2 4 rfl rfl)
theorem dX19_readEvening_55 : decode cX19_readEvening 55 = .ok (.invokevirtual 311, 3) := dk_182 1 55 (dk_at dksX19_readEvening_2 7 rfl rfl)
theorem dX19_readEvening_58 : decode cX19_readEvening 58 = .ok (.aload_n 0, 1) := dk_42 (dk_at dksX19_readEvening_2 10 rfl rfl)
theorem dX19_readEvening_59 : decode cX19_readEvening 59 = .ok (.ldc 186, 2) := dk_18 186 (dk_at dksX19_readEvening_2 11 rfl rfl)
theorem dX19_readEvening_61 : decode cX19_readEvening 61 = .ok (.invokevirtual 172, 3) := dk_182 0 172 (dk_at dksX19_readEvening_2 13 rfl rfl)
theorem dX19_readEvening_64 : decode cX19_readEvening 64 = .ok (.aload_n 0, 1) := dk_42 (dk_at dksX19_readEvening_2 16 rfl rfl)
theorem dX19_readEvening_65 : decode cX19_readEvening 65 = .ok (.aload_n 0, 1) := dk_42 (dk_at dksX19_readEvening_2 17 rfl rfl)
theorem dX19_readEvening_66 : decode cX19_readEvening 66 = .ok (.getfield 190, 3) := dk_180 0 190 (dk_at dksX19_readEvening_2 18 rfl rfl)
theorem dX19_readEvening_69 : decode cX19_readEvening 69 = .ok (.getfield 315, 3) := dk_180 1 59 (dk_at dksX19_readEvening_2 21 rfl rfl)
theorem dX19_readEvening_72 : decode cX19_readEvening 72 = .ok (.iload_n 1, 1) := dk_27 (dk_at dksX19_readEvening_3 0 rfl rfl)
theorem dX19_readEvening_73 : decode cX19_readEvening 73 = .ok (.aload_n 0, 1) := dk_42 (dk_at dksX19_readEvening_3 1 rfl rfl)
theorem dX19_readEvening_74 : decode cX19_readEvening 74 = .ok (.getfield 190, 3) := dk_180 0 190 (dk_at dksX19_readEvening_3 2 rfl rfl)
theorem dX19_readEvening_77 : decode cX19_readEvening 77 = .ok (.getfield 257, 3) := dk_180 1 1 (dk_at dksX19_readEvening_3 5 rfl rfl)
theorem dX19_readEvening_80 : decode cX19_readEvening 80 = .ok (.aload_n 0, 1) := dk_42 (dk_at dksX19_readEvening_3 8 rfl rfl)
theorem dX19_readEvening_81 : decode cX19_readEvening 81 = .ok (.getfield 190, 3) := dk_180 0 190 (dk_at dksX19_readEvening_3 9 rfl rfl)
theorem dX19_readEvening_84 : decode cX19_readEvening 84 = .ok (.getfield 194, 3) := dk_180 0 194 (dk_at dksX19_readEvening_3 12 rfl rfl)
theorem dX19_readEvening_87 : decode cX19_readEvening 87 = .ok (.invokevirtual 311, 3) := dk_182 1 55 (dk_at dksX19_readEvening_3 15 rfl rfl)
theorem dX19_readEvening_90 : decode cX19_readEvening 90 = .ok (.aload_n 0, 1) := dk_42 (dk_at dksX19_readEvening_3 18 rfl rfl)
theorem dX19_readEvening_91 : decode cX19_readEvening 91 = .ok (.getfield 190, 3) := dk_180 0 190 (dk_at dksX19_readEvening_3 19 rfl rfl)
theorem dX19_readEvening_94 : decode cX19_readEvening 94 = .ok (.getfield 250, 3) := dk_180 0 250 (dk_at dksX19_readEvening_4 0 rfl rfl)
theorem dX19_readEvening_97 : decode cX19_readEvening 97 = .ok (.ifCond .eq 19, 3) := dk_153 0 19 (dk_at dksX19_readEvening_4 3 rfl rfl)
theorem dX19_readEvening_100 : decode cX19_readEvening 100 = .ok (.aload_n 0, 1) := dk_42 (dk_at dksX19_readEvening_4 6 rfl rfl)
theorem dX19_readEvening_101 : decode cX19_readEvening 101 = .ok (.ldc 188, 2) := dk_18 188 (dk_at dksX19_readEvening_4 7 rfl rfl)
theorem dX19_readEvening_103 : decode cX19_readEvening 103 = .ok (.invokevirtual 242, 3) := dk_182 0 242 (dk_at dksX19_readEvening_4 9 rfl rfl)
theorem dX19_readEvening_106 : decode cX19_readEvening 106 = .ok (.ifCond .eq 10, 3) := dk_153 0 10 (dk_at dksX19_readEvening_4 12 rfl rfl)
theorem dX19_readEvening_109 : decode cX19_readEvening 109 = .ok (.aload_n 0, 1) := dk_42 (dk_at dksX19_readEvening_4 15 rfl rfl)
theorem dX19_readEvening_110 : decode cX19_readEvening 110 = .ok (.invokevirtual 316, 3) := dk_182 1 60 (dk_at dksX19_readEvening_4 16 rfl rfl)
theorem dX19_readEvening_113 : decode cX19_readEvening 113 = .ok (.goto 4, 3) := dk_167 0 4 (dk_at dksX19_readEvening_4 19 rfl rfl)
theorem dX19_readEvening_116 : decode cX19_readEvening 116 = .ok (.iconst 0, 1) := dk_3 (dk_at dksX19_readEvening_4 22 rfl rfl)
theorem dX19_readEvening_117 : decode cX19_readEvening 117 = .ok (.istore_n 2, 1) := dk_61 (dk_at dksX19_readEvening_4 23 rfl rfl)
theorem dX19_readEvening_118 : decode cX19_readEvening 118 = .ok (.aload_n 0, 1) := dk_42 (dk_at dksX19_readEvening_5 0 rfl rfl)
theorem dX19_readEvening_119 : decode cX19_readEvening 119 = .ok (.getfield 118, 3) := dk_180 0 118 (dk_at dksX19_readEvening_5 1 rfl rfl)
theorem dX19_readEvening_122 : decode cX19_readEvening 122 = .ok (.iconst 5, 1) := dk_8 (dk_at dksX19_readEvening_5 4 rfl rfl)
theorem dX19_readEvening_123 : decode cX19_readEvening 123 = .ok (.if_icmp .ne 4, 3) := dk_160 0 4 (dk_at dksX19_readEvening_5 5 rfl rfl)
theorem dX19_readEvening_126 : decode cX19_readEvening 126 = .ok (.return_, 1) := dk_177 (dk_at dksX19_readEvening_5 8 rfl rfl)
theorem dX19_readEvening_127 : decode cX19_readEvening 127 = .ok (.aload_n 0, 1) := dk_42 (dk_at dksX19_readEvening_5 9 rfl rfl)
theorem dX19_readEvening_128 : decode cX19_readEvening 128 = .ok (.getfield 190, 3) := dk_180 0 190 (dk_at dksX19_readEvening_5 10 rfl rfl)
theorem dX19_readEvening_131 : decode cX19_readEvening 131 = .ok (.getfield 319, 3) := dk_180 1 63 (dk_at dksX19_readEvening_5 13 rfl rfl)
theorem dX19_readEvening_134 : decode cX19_readEvening 134 = .ok (.aload_n 0, 1) := dk_42 (dk_at dksX19_readEvening_5 16 rfl rfl)
theorem dX19_readEvening_135 : decode cX19_readEvening 135 = .ok (.getfield 190, 3) := dk_180 0 190 (dk_at dksX19_readEvening_5 17 rfl rfl)
theorem dX19_readEvening_138 : decode cX19_readEvening 138 = .ok (.getfield 305, 3) := dk_180 1 49 (dk_at dksX19_readEvening_5 20 rfl rfl)
theorem dX19_readEvening_141 : decode cX19_readEvening 141 = .ok (.iload_n 2, 1) := dk_28 (dk_at dksX19_readEvening_5 23 rfl rfl)
theorem dX19_readEvening_142 : decode cX19_readEvening 142 = .ok (.iastore, 1) := dk_79 (dk_at dksX19_readEvening_6 0 rfl rfl)
theorem dX19_readEvening_143 : decode cX19_readEvening 143 = .ok (.aload_n 0, 1) := dk_42 (dk_at dksX19_readEvening_6 1 rfl rfl)
theorem dX19_readEvening_144 : decode cX19_readEvening 144 = .ok (.getfield 190, 3) := dk_180 0 190 (dk_at dksX19_readEvening_6 2 rfl rfl)
theorem dX19_readEvening_147 : decode cX19_readEvening 147 = .ok (.dup, 1) := dk_89 (dk_at dksX19_readEvening_6 5 rfl rfl)
theorem dX19_readEvening_148 : decode cX19_readEvening 148 = .ok (.getfield 305, 3) := dk_180 1 49 (dk_at dksX19_readEvening_6 6 rfl rfl)
theorem dX19_readEvening_151 : decode cX19_readEvening 151 = .ok (.iconst 1, 1) := dk_4 (dk_at dksX19_readEvening_6 9 rfl rfl)
theorem dX19_readEvening_152 : decode cX19_readEvening 152 = .ok (.iadd, 1) := dk_96 (dk_at dksX19_readEvening_6 10 rfl rfl)
theorem dX19_readEvening_153 : decode cX19_readEvening 153 = .ok (.putfield 305, 3) := dk_181 1 49 (dk_at dksX19_readEvening_6 11 rfl rfl)
theorem dX19_readEvening_156 : decode cX19_readEvening 156 = .ok (.return_, 1) := dk_177 (dk_at dksX19_readEvening_6 14 rfl rfl)
abbrev cX19_readUnlike : ByteArray := prog_23_method_31_code
def yX19_readUnlike : MethodName := ⟨RX19, "readUnlike", "([IIII)V"⟩
def dkwX19_readUnlike_3 : List UInt8 := [54, 5, 43, 28, 21, 6, 96, 21, 7, 79, 132, 6, 1, 167, 255, 180, 177]
abbrev dktX19_readUnlike_3 : List UInt8 := dkwX19_readUnlike_3 ++ []
def dkwX19_readUnlike_2 : List UInt8 := [122, 4, 126, 4, 160, 0, 8, 42, 6, 182, 0, 164, 42, 182, 0, 161, 21, 5, 4, 21, 7, 120, 128]
abbrev dktX19_readUnlike_2 : List UInt8 := dkwX19_readUnlike_2 ++ dktX19_readUnlike_3
def dkwX19_readUnlike_1 : List UInt8 := [158, 0, 9, 42, 16, 44, 182, 1, 46, 42, 3, 21, 4, 4, 100, 182, 0, 176, 54, 7, 21, 5, 21, 7]
abbrev dktX19_readUnlike_1 : List UInt8 := dkwX19_readUnlike_1 ++ dktX19_readUnlike_2
def dkwX19_readUnlike_0 : List UInt8 := [3, 54, 5, 3, 54, 6, 21, 6, 29, 162, 0, 76, 42, 180, 0, 118, 8, 159, 0, 68, 21, 6]
abbrev dktX19_readUnlike_0 : List UInt8 := dkwX19_readUnlike_0 ++ dktX19_readUnlike_1
theorem dksX19_readUnlike_0 : cX19_readUnlike.data.toList.drop 0 = dktX19_readUnlike_0 := by decide +kernel
theorem dksX19_readUnlike_1 : cX19_readUnlike.data.toList.drop 22 = dktX19_readUnlike_1 := dk_seg dksX19_readUnlike_0 22 rfl rfl
theorem dksX19_readUnlike_2 : cX19_readUnlike.data.toList.drop 46 = dktX19_readUnlike_2 := dk_seg dksX19_readUnlike_1 24 rfl rfl
theorem dksX19_readUnlike_3 : cX19_readUnlike.data.toList.drop 69 = dktX19_readUnlike_3 := dk_seg dksX19_readUnlike_2 23 rfl rfl
theorem dX19_readUnlike_0 : decode cX19_readUnlike 0 = .ok (.iconst 0, 1) := dk_3 (dk_at dksX19_readUnlike_0 0 rfl rfl)
theorem dX19_readUnlike_1 : decode cX19_readUnlike 1 = .ok (.istore 5, 2) := dk_54 5 (dk_at dksX19_readUnlike_0 1 rfl rfl)
theorem dX19_readUnlike_3 : decode cX19_readUnlike 3 = .ok (.iconst 0, 1) := dk_3 (dk_at dksX19_readUnlike_0 3 rfl rfl)
theorem dX19_readUnlike_4 : decode cX19_readUnlike 4 = .ok (.istore 6, 2) := dk_54 6 (dk_at dksX19_readUnlike_0 4 rfl rfl)
theorem dX19_readUnlike_6 : decode cX19_readUnlike 6 = .ok (.iload 6, 2) := dk_21 6 (dk_at dksX19_readUnlike_0 6 rfl rfl)
theorem dX19_readUnlike_8 : decode cX19_readUnlike 8 = .ok (.iload_n 3, 1) := dk_29 (dk_at dksX19_readUnlike_0 8 rfl rfl)
theorem dX19_readUnlike_9 : decode cX19_readUnlike 9 = .ok (.if_icmp .ge 76, 3) := dk_162 0 76 (dk_at dksX19_readUnlike_0 9 rfl rfl)
theorem dX19_readUnlike_12 : decode cX19_readUnlike 12 = .ok (.aload_n 0, 1) := dk_42 (dk_at dksX19_readUnlike_0 12 rfl rfl)
theorem dX19_readUnlike_13 : decode cX19_readUnlike 13 = .ok (.getfield 118, 3) := dk_180 0 118 (dk_at dksX19_readUnlike_0 13 rfl rfl)
theorem dX19_readUnlike_16 : decode cX19_readUnlike 16 = .ok (.iconst 5, 1) := dk_8 (dk_at dksX19_readUnlike_0 16 rfl rfl)
theorem dX19_readUnlike_17 : decode cX19_readUnlike 17 = .ok (.if_icmp .eq 68, 3) := dk_159 0 68 (dk_at dksX19_readUnlike_0 17 rfl rfl)
theorem dX19_readUnlike_20 : decode cX19_readUnlike 20 = .ok (.iload 6, 2) := dk_21 6 (dk_at dksX19_readUnlike_0 20 rfl rfl)
theorem dX19_readUnlike_22 : decode cX19_readUnlike 22 = .ok (.ifCond .le 9, 3) := dk_158 0 9 (dk_at dksX19_readUnlike_1 0 rfl rfl)
theorem dX19_readUnlike_25 : decode cX19_readUnlike 25 = .ok (.aload_n 0, 1) := dk_42 (dk_at dksX19_readUnlike_1 3 rfl rfl)
theorem dX19_readUnlike_26 : decode cX19_readUnlike 26 = .ok (.bipush 44, 2) := dk_16 44 (dk_at dksX19_readUnlike_1 4 rfl rfl)
theorem dX19_readUnlike_28 : decode cX19_readUnlike 28 = .ok (.invokevirtual 302, 3) := dk_182 1 46 (dk_at dksX19_readUnlike_1 6 rfl rfl)
theorem dX19_readUnlike_31 : decode cX19_readUnlike 31 = .ok (.aload_n 0, 1) := dk_42 (dk_at dksX19_readUnlike_1 9 rfl rfl)
theorem dX19_readUnlike_32 : decode cX19_readUnlike 32 = .ok (.iconst 0, 1) := dk_3 (dk_at dksX19_readUnlike_1 10 rfl rfl)
theorem dX19_readUnlike_33 : decode cX19_readUnlike 33 = .ok (.iload 4, 2) := dk_21 4 (dk_at dksX19_readUnlike_1 11 rfl rfl)
theorem dX19_readUnlike_35 : decode cX19_readUnlike 35 = .ok (.iconst 1, 1) := dk_4 (dk_at dksX19_readUnlike_1 13 rfl rfl)
theorem dX19_readUnlike_36 : decode cX19_readUnlike 36 = .ok (.isub, 1) := dk_100 (dk_at dksX19_readUnlike_1 14 rfl rfl)
theorem dX19_readUnlike_37 : decode cX19_readUnlike 37 = .ok (.invokevirtual 176, 3) := dk_182 0 176 (dk_at dksX19_readUnlike_1 15 rfl rfl)
theorem dX19_readUnlike_40 : decode cX19_readUnlike 40 = .ok (.istore 7, 2) := dk_54 7 (dk_at dksX19_readUnlike_1 18 rfl rfl)
theorem dX19_readUnlike_42 : decode cX19_readUnlike 42 = .ok (.iload 5, 2) := dk_21 5 (dk_at dksX19_readUnlike_1 20 rfl rfl)
theorem dX19_readUnlike_44 : decode cX19_readUnlike 44 = .ok (.iload 7, 2) := dk_21 7 (dk_at dksX19_readUnlike_1 22 rfl rfl)
theorem dX19_readUnlike_46 : decode cX19_readUnlike 46 = .ok (.ishr, 1) := dk_122 (dk_at dksX19_readUnlike_2 0 rfl rfl)
theorem dX19_readUnlike_47 : decode cX19_readUnlike 47 = .ok (.iconst 1, 1) := dk_4 (dk_at dksX19_readUnlike_2 1 rfl rfl)
theorem dX19_readUnlike_48 : decode cX19_readUnlike 48 = .ok (.iand, 1) := dk_126 (dk_at dksX19_readUnlike_2 2 rfl rfl)
theorem dX19_readUnlike_49 : decode cX19_readUnlike 49 = .ok (.iconst 1, 1) := dk_4 (dk_at dksX19_readUnlike_2 3 rfl rfl)
theorem dX19_readUnlike_50 : decode cX19_readUnlike 50 = .ok (.if_icmp .ne 8, 3) := dk_160 0 8 (dk_at dksX19_readUnlike_2 4 rfl rfl)
theorem dX19_readUnlike_53 : decode cX19_readUnlike 53 = .ok (.aload_n 0, 1) := dk_42 (dk_at dksX19_readUnlike_2 7 rfl rfl)
theorem dX19_readUnlike_54 : decode cX19_readUnlike 54 = .ok (.iconst 3, 1) := dk_6 (dk_at dksX19_readUnlike_2 8 rfl rfl)
theorem dX19_readUnlike_55 : decode cX19_readUnlike 55 = .ok (.invokevirtual 164, 3) := dk_182 0 164 (dk_at dksX19_readUnlike_2 9 rfl rfl)
theorem dX19_readUnlike_58 : decode cX19_readUnlike 58 = .ok (.aload_n 0, 1) := dk_42 (dk_at dksX19_readUnlike_2 12 rfl rfl)
theorem dX19_readUnlike_59 : decode cX19_readUnlike 59 = .ok (.invokevirtual 161, 3) := dk_182 0 161 (dk_at dksX19_readUnlike_2 13 rfl rfl)
theorem dX19_readUnlike_62 : decode cX19_readUnlike 62 = .ok (.iload 5, 2) := dk_21 5 (dk_at dksX19_readUnlike_2 16 rfl rfl)
theorem dX19_readUnlike_64 : decode cX19_readUnlike 64 = .ok (.iconst 1, 1) := dk_4 (dk_at dksX19_readUnlike_2 18 rfl rfl)
theorem dX19_readUnlike_65 : decode cX19_readUnlike 65 = .ok (.iload 7, 2) := dk_21 7 (dk_at dksX19_readUnlike_2 19 rfl rfl)
theorem dX19_readUnlike_67 : decode cX19_readUnlike 67 = .ok (.ishl, 1) := dk_120 (dk_at dksX19_readUnlike_2 21 rfl rfl)
theorem dX19_readUnlike_68 : decode cX19_readUnlike 68 = .ok (.ior, 1) := dk_128 (dk_at dksX19_readUnlike_2 22 rfl rfl)
theorem dX19_readUnlike_69 : decode cX19_readUnlike 69 = .ok (.istore 5, 2) := dk_54 5 (dk_at dksX19_readUnlike_3 0 rfl rfl)
theorem dX19_readUnlike_71 : decode cX19_readUnlike 71 = .ok (.aload_n 1, 1) := dk_43 (dk_at dksX19_readUnlike_3 2 rfl rfl)
theorem dX19_readUnlike_72 : decode cX19_readUnlike 72 = .ok (.iload_n 2, 1) := dk_28 (dk_at dksX19_readUnlike_3 3 rfl rfl)
theorem dX19_readUnlike_73 : decode cX19_readUnlike 73 = .ok (.iload 6, 2) := dk_21 6 (dk_at dksX19_readUnlike_3 4 rfl rfl)
theorem dX19_readUnlike_75 : decode cX19_readUnlike 75 = .ok (.iadd, 1) := dk_96 (dk_at dksX19_readUnlike_3 6 rfl rfl)
theorem dX19_readUnlike_76 : decode cX19_readUnlike 76 = .ok (.iload 7, 2) := dk_21 7 (dk_at dksX19_readUnlike_3 7 rfl rfl)
theorem dX19_readUnlike_78 : decode cX19_readUnlike 78 = .ok (.iastore, 1) := dk_79 (dk_at dksX19_readUnlike_3 9 rfl rfl)
theorem dX19_readUnlike_79 : decode cX19_readUnlike 79 = .ok (.iinc 6 1, 3) := dk_132 6 1 (dk_at dksX19_readUnlike_3 10 rfl rfl)
theorem dX19_readUnlike_82 : decode cX19_readUnlike 82 = .ok (.goto (-76), 3) := dk_167 255 180 (dk_at dksX19_readUnlike_3 13 rfl rfl)
theorem dX19_readUnlike_85 : decode cX19_readUnlike 85 = .ok (.return_, 1) := dk_177 (dk_at dksX19_readUnlike_3 16 rfl rfl)
abbrev cX19_needsSign : ByteArray := prog_23_method_21_code
def yX19_needsSign : MethodName := ⟨RX19, "needsSign", "(I)V"⟩
def dkwX19_needsSign_1 : List UInt8 := [182, 0, 161, 177]
abbrev dktX19_needsSign_1 : List UInt8 := dkwX19_needsSign_1 ++ []
def dkwX19_needsSign_0 : List UInt8 := [42, 180, 0, 118, 7, 160, 0, 11, 42, 180, 0, 130, 27, 159, 0, 8, 42, 4, 182, 0, 164, 42]
abbrev dktX19_needsSign_0 : List UInt8 := dkwX19_needsSign_0 ++ dktX19_needsSign_1
theorem dksX19_needsSign_0 : cX19_needsSign.data.toList.drop 0 = dktX19_needsSign_0 := by decide +kernel
theorem dksX19_needsSign_1 : cX19_needsSign.data.toList.drop 22 = dktX19_needsSign_1 := dk_seg dksX19_needsSign_0 22 rfl rfl
theorem dX19_needsSign_0 : decode cX19_needsSign 0 = .ok (.aload_n 0, 1) := dk_42 (dk_at dksX19_needsSign_0 0 rfl rfl)
theorem dX19_needsSign_1 : decode cX19_needsSign 1 = .ok (.getfield 118, 3) := dk_180 0 118 (dk_at dksX19_needsSign_0 1 rfl rfl)
theorem dX19_needsSign_4 : decode cX19_needsSign 4 = .ok (.iconst 4, 1) := dk_7 (dk_at dksX19_needsSign_0 4 rfl rfl)
theorem dX19_needsSign_5 : decode cX19_needsSign 5 = .ok (.if_icmp .ne 11, 3) := dk_160 0 11 (dk_at dksX19_needsSign_0 5 rfl rfl)
theorem dX19_needsSign_8 : decode cX19_needsSign 8 = .ok (.aload_n 0, 1) := dk_42 (dk_at dksX19_needsSign_0 8 rfl rfl)
theorem dX19_needsSign_9 : decode cX19_needsSign 9 = .ok (.getfield 130, 3) := dk_180 0 130 (dk_at dksX19_needsSign_0 9 rfl rfl)
theorem dX19_needsSign_12 : decode cX19_needsSign 12 = .ok (.iload_n 1, 1) := dk_27 (dk_at dksX19_needsSign_0 12 rfl rfl)
theorem dX19_needsSign_13 : decode cX19_needsSign 13 = .ok (.if_icmp .eq 8, 3) := dk_159 0 8 (dk_at dksX19_needsSign_0 13 rfl rfl)
theorem dX19_needsSign_16 : decode cX19_needsSign 16 = .ok (.aload_n 0, 1) := dk_42 (dk_at dksX19_needsSign_0 16 rfl rfl)
theorem dX19_needsSign_17 : decode cX19_needsSign 17 = .ok (.iconst 1, 1) := dk_4 (dk_at dksX19_needsSign_0 17 rfl rfl)
theorem dX19_needsSign_18 : decode cX19_needsSign 18 = .ok (.invokevirtual 164, 3) := dk_182 0 164 (dk_at dksX19_needsSign_0 18 rfl rfl)
theorem dX19_needsSign_21 : decode cX19_needsSign 21 = .ok (.aload_n 0, 1) := dk_42 (dk_at dksX19_needsSign_0 21 rfl rfl)
theorem dX19_needsSign_22 : decode cX19_needsSign 22 = .ok (.invokevirtual 161, 3) := dk_182 0 161 (dk_at dksX19_needsSign_1 0 rfl rfl)
theorem dX19_needsSign_25 : decode cX19_needsSign 25 = .ok (.return_, 1) := dk_177 (dk_at dksX19_needsSign_1 3 rfl rfl)
abbrev cX19_readPlaces : ByteArray := prog_23_method_33_code
def yX19_readPlaces : MethodName := ⟨RX19, "readPlaces", "()I"⟩
def dkwX19_readPlaces_2 : List UInt8 := [182, 0, 161, 27, 4, 29, 120, 128, 60, 42, 16, 44, 182, 0, 201, 61, 167, 255, 198, 27, 172]
abbrev dktX19_readPlaces_2 : List UInt8 := dkwX19_readPlaces_2 ++ []
def dkwX19_readPlaces_1 : List UInt8 := [180, 1, 1, 4, 100, 182, 0, 176, 62, 27, 29, 122, 4, 126, 4, 160, 0, 8, 42, 6, 182, 0, 164, 42]
abbrev dktX19_readPlaces_1 : List UInt8 := dkwX19_readPlaces_1 ++ dktX19_readPlaces_2
def dkwX19_readPlaces_0 : List UInt8 := [3, 60, 4, 61, 28, 153, 0, 60, 42, 180, 0, 118, 8, 159, 0, 52, 42, 3, 42, 180, 0, 190]
abbrev dktX19_readPlaces_0 : List UInt8 := dkwX19_readPlaces_0 ++ dktX19_readPlaces_1
theorem dksX19_readPlaces_0 : cX19_readPlaces.data.toList.drop 0 = dktX19_readPlaces_0 := by decide +kernel
theorem dksX19_readPlaces_1 : cX19_readPlaces.data.toList.drop 22 = dktX19_readPlaces_1 := dk_seg dksX19_readPlaces_0 22 rfl rfl
theorem dksX19_readPlaces_2 : cX19_readPlaces.data.toList.drop 46 = dktX19_readPlaces_2 := dk_seg dksX19_readPlaces_1 24 rfl rfl
theorem dX19_readPlaces_0 : decode cX19_readPlaces 0 = .ok (.iconst 0, 1) := dk_3 (dk_at dksX19_readPlaces_0 0 rfl rfl)
theorem dX19_readPlaces_1 : decode cX19_readPlaces 1 = .ok (.istore_n 1, 1) := dk_60 (dk_at dksX19_readPlaces_0 1 rfl rfl)
theorem dX19_readPlaces_2 : decode cX19_readPlaces 2 = .ok (.iconst 1, 1) := dk_4 (dk_at dksX19_readPlaces_0 2 rfl rfl)
theorem dX19_readPlaces_3 : decode cX19_readPlaces 3 = .ok (.istore_n 2, 1) := dk_61 (dk_at dksX19_readPlaces_0 3 rfl rfl)
theorem dX19_readPlaces_4 : decode cX19_readPlaces 4 = .ok (.iload_n 2, 1) := dk_28 (dk_at dksX19_readPlaces_0 4 rfl rfl)
theorem dX19_readPlaces_5 : decode cX19_readPlaces 5 = .ok (.ifCond .eq 60, 3) := dk_153 0 60 (dk_at dksX19_readPlaces_0 5 rfl rfl)
theorem dX19_readPlaces_8 : decode cX19_readPlaces 8 = .ok (.aload_n 0, 1) := dk_42 (dk_at dksX19_readPlaces_0 8 rfl rfl)
theorem dX19_readPlaces_9 : decode cX19_readPlaces 9 = .ok (.getfield 118, 3) := dk_180 0 118 (dk_at dksX19_readPlaces_0 9 rfl rfl)
theorem dX19_readPlaces_12 : decode cX19_readPlaces 12 = .ok (.iconst 5, 1) := dk_8 (dk_at dksX19_readPlaces_0 12 rfl rfl)
theorem dX19_readPlaces_13 : decode cX19_readPlaces 13 = .ok (.if_icmp .eq 52, 3) := dk_159 0 52 (dk_at dksX19_readPlaces_0 13 rfl rfl)
theorem dX19_readPlaces_16 : decode cX19_readPlaces 16 = .ok (.aload_n 0, 1) := dk_42 (dk_at dksX19_readPlaces_0 16 rfl rfl)
theorem dX19_readPlaces_17 : decode cX19_readPlaces 17 = .ok (.iconst 0, 1) := dk_3 (dk_at dksX19_readPlaces_0 17 rfl rfl)
theorem dX19_readPlaces_18 : decode cX19_readPlaces 18 = .ok (.aload_n 0, 1) := dk_42 (dk_at dksX19_readPlaces_0 18 rfl rfl)
theorem dX19_readPlaces_19 : decode cX19_readPlaces 19 = .ok (.getfield 190, 3) := dk_180 0 190 (dk_at dksX19_readPlaces_0 19 rfl rfl)
theorem dX19_readPlaces_22 : decode cX19_readPlaces 22 = .ok (.getfield 257, 3) := dk_180 1 1 (dk_at dksX19_readPlaces_1 0 rfl rfl)
theorem dX19_readPlaces_25 : decode cX19_readPlaces 25 = .ok (.iconst 1, 1) := dk_4 (dk_at dksX19_readPlaces_1 3 rfl rfl)
theorem dX19_readPlaces_26 : decode cX19_readPlaces 26 = .ok (.isub, 1) := dk_100 (dk_at dksX19_readPlaces_1 4 rfl rfl)
theorem dX19_readPlaces_27 : decode cX19_readPlaces 27 = .ok (.invokevirtual 176, 3) := dk_182 0 176 (dk_at dksX19_readPlaces_1 5 rfl rfl)
theorem dX19_readPlaces_30 : decode cX19_readPlaces 30 = .ok (.istore_n 3, 1) := dk_62 (dk_at dksX19_readPlaces_1 8 rfl rfl)
theorem dX19_readPlaces_31 : decode cX19_readPlaces 31 = .ok (.iload_n 1, 1) := dk_27 (dk_at dksX19_readPlaces_1 9 rfl rfl)
theorem dX19_readPlaces_32 : decode cX19_readPlaces 32 = .ok (.iload_n 3, 1) := dk_29 (dk_at dksX19_readPlaces_1 10 rfl rfl)
theorem dX19_readPlaces_33 : decode cX19_readPlaces 33 = .ok (.ishr, 1) := dk_122 (dk_at dksX19_readPlaces_1 11 rfl rfl)
theorem dX19_readPlaces_34 : decode cX19_readPlaces 34 = .ok (.iconst 1, 1) := dk_4 (dk_at dksX19_readPlaces_1 12 rfl rfl)
theorem dX19_readPlaces_35 : decode cX19_readPlaces 35 = .ok (.iand, 1) := dk_126 (dk_at dksX19_readPlaces_1 13 rfl rfl)
theorem dX19_readPlaces_36 : decode cX19_readPlaces 36 = .ok (.iconst 1, 1) := dk_4 (dk_at dksX19_readPlaces_1 14 rfl rfl)
theorem dX19_readPlaces_37 : decode cX19_readPlaces 37 = .ok (.if_icmp .ne 8, 3) := dk_160 0 8 (dk_at dksX19_readPlaces_1 15 rfl rfl)
theorem dX19_readPlaces_40 : decode cX19_readPlaces 40 = .ok (.aload_n 0, 1) := dk_42 (dk_at dksX19_readPlaces_1 18 rfl rfl)
theorem dX19_readPlaces_41 : decode cX19_readPlaces 41 = .ok (.iconst 3, 1) := dk_6 (dk_at dksX19_readPlaces_1 19 rfl rfl)
theorem dX19_readPlaces_42 : decode cX19_readPlaces 42 = .ok (.invokevirtual 164, 3) := dk_182 0 164 (dk_at dksX19_readPlaces_1 20 rfl rfl)
theorem dX19_readPlaces_45 : decode cX19_readPlaces 45 = .ok (.aload_n 0, 1) := dk_42 (dk_at dksX19_readPlaces_1 23 rfl rfl)
theorem dX19_readPlaces_46 : decode cX19_readPlaces 46 = .ok (.invokevirtual 161, 3) := dk_182 0 161 (dk_at dksX19_readPlaces_2 0 rfl rfl)
theorem dX19_readPlaces_49 : decode cX19_readPlaces 49 = .ok (.iload_n 1, 1) := dk_27 (dk_at dksX19_readPlaces_2 3 rfl rfl)
theorem dX19_readPlaces_50 : decode cX19_readPlaces 50 = .ok (.iconst 1, 1) := dk_4 (dk_at dksX19_readPlaces_2 4 rfl rfl)
theorem dX19_readPlaces_51 : decode cX19_readPlaces 51 = .ok (.iload_n 3, 1) := dk_29 (dk_at dksX19_readPlaces_2 5 rfl rfl)
theorem dX19_readPlaces_52 : decode cX19_readPlaces 52 = .ok (.ishl, 1) := dk_120 (dk_at dksX19_readPlaces_2 6 rfl rfl)
theorem dX19_readPlaces_53 : decode cX19_readPlaces 53 = .ok (.ior, 1) := dk_128 (dk_at dksX19_readPlaces_2 7 rfl rfl)
theorem dX19_readPlaces_54 : decode cX19_readPlaces 54 = .ok (.istore_n 1, 1) := dk_60 (dk_at dksX19_readPlaces_2 8 rfl rfl)
theorem dX19_readPlaces_55 : decode cX19_readPlaces 55 = .ok (.aload_n 0, 1) := dk_42 (dk_at dksX19_readPlaces_2 9 rfl rfl)
theorem dX19_readPlaces_56 : decode cX19_readPlaces 56 = .ok (.bipush 44, 2) := dk_16 44 (dk_at dksX19_readPlaces_2 10 rfl rfl)
theorem dX19_readPlaces_58 : decode cX19_readPlaces 58 = .ok (.invokevirtual 201, 3) := dk_182 0 201 (dk_at dksX19_readPlaces_2 12 rfl rfl)
theorem dX19_readPlaces_61 : decode cX19_readPlaces 61 = .ok (.istore_n 2, 1) := dk_61 (dk_at dksX19_readPlaces_2 15 rfl rfl)
theorem dX19_readPlaces_62 : decode cX19_readPlaces 62 = .ok (.goto (-58), 3) := dk_167 255 198 (dk_at dksX19_readPlaces_2 16 rfl rfl)
theorem dX19_readPlaces_65 : decode cX19_readPlaces 65 = .ok (.iload_n 1, 1) := dk_27 (dk_at dksX19_readPlaces_2 19 rfl rfl)
theorem dX19_readPlaces_66 : decode cX19_readPlaces 66 = .ok (.ireturn, 1) := dk_172 (dk_at dksX19_readPlaces_2 20 rfl rfl)
abbrev cX19_eatsSign : ByteArray := prog_23_method_19_code
def yX19_eatsSign : MethodName := ⟨RX19, "eatsSign", "(I)Z"⟩
def dkwX19_eatsSign_1 : List UInt8 := [153, 0, 7, 42, 182, 0, 161, 28, 172]
abbrev dktX19_eatsSign_1 : List UInt8 := dkwX19_eatsSign_1 ++ []
def dkwX19_eatsSign_0 : List UInt8 := [42, 180, 0, 118, 7, 160, 0, 15, 42, 180, 0, 130, 27, 160, 0, 7, 4, 167, 0, 4, 3, 61, 28]
abbrev dktX19_eatsSign_0 : List UInt8 := dkwX19_eatsSign_0 ++ dktX19_eatsSign_1
theorem dksX19_eatsSign_0 : cX19_eatsSign.data.toList.drop 0 = dktX19_eatsSign_0 := by decide +kernel
theorem dksX19_eatsSign_1 : cX19_eatsSign.data.toList.drop 23 = dktX19_eatsSign_1 := dk_seg dksX19_eatsSign_0 23 rfl rfl
theorem dX19_eatsSign_0 : decode cX19_eatsSign 0 = .ok (.aload_n 0, 1) := dk_42 (dk_at dksX19_eatsSign_0 0 rfl rfl)
theorem dX19_eatsSign_1 : decode cX19_eatsSign 1 = .ok (.getfield 118, 3) := dk_180 0 118 (dk_at dksX19_eatsSign_0 1 rfl rfl)
theorem dX19_eatsSign_4 : decode cX19_eatsSign 4 = .ok (.iconst 4, 1) := dk_7 (dk_at dksX19_eatsSign_0 4 rfl rfl)
theorem dX19_eatsSign_5 : decode cX19_eatsSign 5 = .ok (.if_icmp .ne 15, 3) := dk_160 0 15 (dk_at dksX19_eatsSign_0 5 rfl rfl)
theorem dX19_eatsSign_8 : decode cX19_eatsSign 8 = .ok (.aload_n 0, 1) := dk_42 (dk_at dksX19_eatsSign_0 8 rfl rfl)
theorem dX19_eatsSign_9 : decode cX19_eatsSign 9 = .ok (.getfield 130, 3) := dk_180 0 130 (dk_at dksX19_eatsSign_0 9 rfl rfl)
theorem dX19_eatsSign_12 : decode cX19_eatsSign 12 = .ok (.iload_n 1, 1) := dk_27 (dk_at dksX19_eatsSign_0 12 rfl rfl)
theorem dX19_eatsSign_13 : decode cX19_eatsSign 13 = .ok (.if_icmp .ne 7, 3) := dk_160 0 7 (dk_at dksX19_eatsSign_0 13 rfl rfl)
theorem dX19_eatsSign_16 : decode cX19_eatsSign 16 = .ok (.iconst 1, 1) := dk_4 (dk_at dksX19_eatsSign_0 16 rfl rfl)
theorem dX19_eatsSign_17 : decode cX19_eatsSign 17 = .ok (.goto 4, 3) := dk_167 0 4 (dk_at dksX19_eatsSign_0 17 rfl rfl)
theorem dX19_eatsSign_20 : decode cX19_eatsSign 20 = .ok (.iconst 0, 1) := dk_3 (dk_at dksX19_eatsSign_0 20 rfl rfl)
theorem dX19_eatsSign_21 : decode cX19_eatsSign 21 = .ok (.istore_n 2, 1) := dk_61 (dk_at dksX19_eatsSign_0 21 rfl rfl)
theorem dX19_eatsSign_22 : decode cX19_eatsSign 22 = .ok (.iload_n 2, 1) := dk_28 (dk_at dksX19_eatsSign_0 22 rfl rfl)
theorem dX19_eatsSign_23 : decode cX19_eatsSign 23 = .ok (.ifCond .eq 7, 3) := dk_153 0 7 (dk_at dksX19_eatsSign_1 0 rfl rfl)
theorem dX19_eatsSign_26 : decode cX19_eatsSign 26 = .ok (.aload_n 0, 1) := dk_42 (dk_at dksX19_eatsSign_1 3 rfl rfl)
theorem dX19_eatsSign_27 : decode cX19_eatsSign 27 = .ok (.invokevirtual 161, 3) := dk_182 0 161 (dk_at dksX19_eatsSign_1 4 rfl rfl)
theorem dX19_eatsSign_30 : decode cX19_eatsSign 30 = .ok (.iload_n 2, 1) := dk_28 (dk_at dksX19_eatsSign_1 7 rfl rfl)
theorem dX19_eatsSign_31 : decode cX19_eatsSign 31 = .ok (.ireturn, 1) := dk_172 (dk_at dksX19_eatsSign_1 8 rfl rfl)
abbrev cX19_deals : ByteArray := prog_23_method_38_code
def yX19_deals : MethodName := ⟨RX19, "deals", "()V"⟩
def dkwX19_deals_6 : List UInt8 := [167, 255, 144, 177]
abbrev dktX19_deals_6 : List UInt8 := dkwX19_deals_6 ++ []
def dkwX19_deals_5 : List UInt8 := [145, 84, 132, 2, 1, 167, 255, 222, 42, 89, 180, 1, 100, 4, 96, 181, 1, 100, 167, 255, 150, 132, 1, 1]
abbrev dktX19_deals_5 : List UInt8 := dkwX19_deals_5 ++ dktX19_deals_6
def dkwX19_deals_4 : List UInt8 := [180, 0, 232, 162, 0, 29, 42, 180, 0, 17, 8, 42, 180, 1, 100, 104, 28, 96, 42, 180, 0, 20, 28, 46]
abbrev dktX19_deals_4 : List UInt8 := dkwX19_deals_4 ++ dktX19_deals_5
def dkwX19_deals_3 : List UInt8 := [167, 255, 215, 27, 42, 180, 1, 73, 180, 0, 232, 4, 100, 160, 0, 55, 3, 61, 28, 42, 180, 1, 73]
abbrev dktX19_deals_3 : List UInt8 := dkwX19_deals_3 ++ dktX19_deals_4
def dkwX19_deals_2 : List UInt8 := [27, 46, 42, 180, 1, 73, 180, 0, 194, 160, 0, 16, 42, 180, 0, 20, 27, 2, 79, 132, 1, 255]
abbrev dktX19_deals_2 : List UInt8 := dkwX19_deals_2 ++ dktX19_deals_3
def dkwX19_deals_1 : List UInt8 := [167, 255, 241, 3, 60, 27, 155, 0, 114, 42, 180, 0, 20, 27, 42, 27, 182, 1, 103, 79, 42, 180, 0, 20]
abbrev dktX19_deals_1 : List UInt8 := dkwX19_deals_1 ++ dktX19_deals_2
def dkwX19_deals_0 : List UInt8 := [42, 3, 181, 1, 100, 3, 60, 27, 8, 162, 0, 16, 42, 180, 0, 20, 27, 2, 79, 132, 1, 1]
abbrev dktX19_deals_0 : List UInt8 := dkwX19_deals_0 ++ dktX19_deals_1
theorem dksX19_deals_0 : cX19_deals.data.toList.drop 0 = dktX19_deals_0 := by decide +kernel
theorem dksX19_deals_1 : cX19_deals.data.toList.drop 22 = dktX19_deals_1 := dk_seg dksX19_deals_0 22 rfl rfl
theorem dksX19_deals_2 : cX19_deals.data.toList.drop 46 = dktX19_deals_2 := dk_seg dksX19_deals_1 24 rfl rfl
theorem dksX19_deals_3 : cX19_deals.data.toList.drop 68 = dktX19_deals_3 := dk_seg dksX19_deals_2 22 rfl rfl
theorem dksX19_deals_4 : cX19_deals.data.toList.drop 91 = dktX19_deals_4 := dk_seg dksX19_deals_3 23 rfl rfl
theorem dksX19_deals_5 : cX19_deals.data.toList.drop 115 = dktX19_deals_5 := dk_seg dksX19_deals_4 24 rfl rfl
theorem dksX19_deals_6 : cX19_deals.data.toList.drop 139 = dktX19_deals_6 := dk_seg dksX19_deals_5 24 rfl rfl
theorem dX19_deals_0 : decode cX19_deals 0 = .ok (.aload_n 0, 1) := dk_42 (dk_at dksX19_deals_0 0 rfl rfl)
theorem dX19_deals_1 : decode cX19_deals 1 = .ok (.iconst 0, 1) := dk_3 (dk_at dksX19_deals_0 1 rfl rfl)
theorem dX19_deals_2 : decode cX19_deals 2 = .ok (.putfield 356, 3) := dk_181 1 100 (dk_at dksX19_deals_0 2 rfl rfl)
theorem dX19_deals_5 : decode cX19_deals 5 = .ok (.iconst 0, 1) := dk_3 (dk_at dksX19_deals_0 5 rfl rfl)
theorem dX19_deals_6 : decode cX19_deals 6 = .ok (.istore_n 1, 1) := dk_60 (dk_at dksX19_deals_0 6 rfl rfl)
theorem dX19_deals_7 : decode cX19_deals 7 = .ok (.iload_n 1, 1) := dk_27 (dk_at dksX19_deals_0 7 rfl rfl)
theorem dX19_deals_8 : decode cX19_deals 8 = .ok (.iconst 5, 1) := dk_8 (dk_at dksX19_deals_0 8 rfl rfl)
theorem dX19_deals_9 : decode cX19_deals 9 = .ok (.if_icmp .ge 16, 3) := dk_162 0 16 (dk_at dksX19_deals_0 9 rfl rfl)
theorem dX19_deals_12 : decode cX19_deals 12 = .ok (.aload_n 0, 1) := dk_42 (dk_at dksX19_deals_0 12 rfl rfl)
theorem dX19_deals_13 : decode cX19_deals 13 = .ok (.getfield 20, 3) := dk_180 0 20 (dk_at dksX19_deals_0 13 rfl rfl)
theorem dX19_deals_16 : decode cX19_deals 16 = .ok (.iload_n 1, 1) := dk_27 (dk_at dksX19_deals_0 16 rfl rfl)
theorem dX19_deals_17 : decode cX19_deals 17 = .ok (.iconst (-1), 1) := dk_2 (dk_at dksX19_deals_0 17 rfl rfl)
theorem dX19_deals_18 : decode cX19_deals 18 = .ok (.iastore, 1) := dk_79 (dk_at dksX19_deals_0 18 rfl rfl)
theorem dX19_deals_19 : decode cX19_deals 19 = .ok (.iinc 1 1, 3) := dk_132 1 1 (dk_at dksX19_deals_0 19 rfl rfl)
theorem dX19_deals_22 : decode cX19_deals 22 = .ok (.goto (-15), 3) := dk_167 255 241 (dk_at dksX19_deals_1 0 rfl rfl)
theorem dX19_deals_25 : decode cX19_deals 25 = .ok (.iconst 0, 1) := dk_3 (dk_at dksX19_deals_1 3 rfl rfl)
theorem dX19_deals_26 : decode cX19_deals 26 = .ok (.istore_n 1, 1) := dk_60 (dk_at dksX19_deals_1 4 rfl rfl)
theorem dX19_deals_27 : decode cX19_deals 27 = .ok (.iload_n 1, 1) := dk_27 (dk_at dksX19_deals_1 5 rfl rfl)
theorem dX19_deals_28 : decode cX19_deals 28 = .ok (.ifCond .lt 114, 3) := dk_155 0 114 (dk_at dksX19_deals_1 6 rfl rfl)
theorem dX19_deals_31 : decode cX19_deals 31 = .ok (.aload_n 0, 1) := dk_42 (dk_at dksX19_deals_1 9 rfl rfl)
theorem dX19_deals_32 : decode cX19_deals 32 = .ok (.getfield 20, 3) := dk_180 0 20 (dk_at dksX19_deals_1 10 rfl rfl)
theorem dX19_deals_35 : decode cX19_deals 35 = .ok (.iload_n 1, 1) := dk_27 (dk_at dksX19_deals_1 13 rfl rfl)
theorem dX19_deals_36 : decode cX19_deals 36 = .ok (.aload_n 0, 1) := dk_42 (dk_at dksX19_deals_1 14 rfl rfl)
theorem dX19_deals_37 : decode cX19_deals 37 = .ok (.iload_n 1, 1) := dk_27 (dk_at dksX19_deals_1 15 rfl rfl)
theorem dX19_deals_38 : decode cX19_deals 38 = .ok (.invokevirtual 359, 3) := dk_182 1 103 (dk_at dksX19_deals_1 16 rfl rfl)
theorem dX19_deals_41 : decode cX19_deals 41 = .ok (.iastore, 1) := dk_79 (dk_at dksX19_deals_1 19 rfl rfl)
theorem dX19_deals_42 : decode cX19_deals 42 = .ok (.aload_n 0, 1) := dk_42 (dk_at dksX19_deals_1 20 rfl rfl)
theorem dX19_deals_43 : decode cX19_deals 43 = .ok (.getfield 20, 3) := dk_180 0 20 (dk_at dksX19_deals_1 21 rfl rfl)
theorem dX19_deals_46 : decode cX19_deals 46 = .ok (.iload_n 1, 1) := dk_27 (dk_at dksX19_deals_2 0 rfl rfl)
theorem dX19_deals_47 : decode cX19_deals 47 = .ok (.iaload, 1) := dk_46 (dk_at dksX19_deals_2 1 rfl rfl)
theorem dX19_deals_48 : decode cX19_deals 48 = .ok (.aload_n 0, 1) := dk_42 (dk_at dksX19_deals_2 2 rfl rfl)
theorem dX19_deals_49 : decode cX19_deals 49 = .ok (.getfield 329, 3) := dk_180 1 73 (dk_at dksX19_deals_2 3 rfl rfl)
theorem dX19_deals_52 : decode cX19_deals 52 = .ok (.getfield 194, 3) := dk_180 0 194 (dk_at dksX19_deals_2 6 rfl rfl)
theorem dX19_deals_55 : decode cX19_deals 55 = .ok (.if_icmp .ne 16, 3) := dk_160 0 16 (dk_at dksX19_deals_2 9 rfl rfl)
theorem dX19_deals_58 : decode cX19_deals 58 = .ok (.aload_n 0, 1) := dk_42 (dk_at dksX19_deals_2 12 rfl rfl)
theorem dX19_deals_59 : decode cX19_deals 59 = .ok (.getfield 20, 3) := dk_180 0 20 (dk_at dksX19_deals_2 13 rfl rfl)
theorem dX19_deals_62 : decode cX19_deals 62 = .ok (.iload_n 1, 1) := dk_27 (dk_at dksX19_deals_2 16 rfl rfl)
theorem dX19_deals_63 : decode cX19_deals 63 = .ok (.iconst (-1), 1) := dk_2 (dk_at dksX19_deals_2 17 rfl rfl)
theorem dX19_deals_64 : decode cX19_deals 64 = .ok (.iastore, 1) := dk_79 (dk_at dksX19_deals_2 18 rfl rfl)
theorem dX19_deals_65 : decode cX19_deals 65 = .ok (.iinc 1 (-1), 3) := dk_132 1 255 (dk_at dksX19_deals_2 19 rfl rfl)
theorem dX19_deals_68 : decode cX19_deals 68 = .ok (.goto (-41), 3) := dk_167 255 215 (dk_at dksX19_deals_3 0 rfl rfl)
theorem dX19_deals_71 : decode cX19_deals 71 = .ok (.iload_n 1, 1) := dk_27 (dk_at dksX19_deals_3 3 rfl rfl)
theorem dX19_deals_72 : decode cX19_deals 72 = .ok (.aload_n 0, 1) := dk_42 (dk_at dksX19_deals_3 4 rfl rfl)
theorem dX19_deals_73 : decode cX19_deals 73 = .ok (.getfield 329, 3) := dk_180 1 73 (dk_at dksX19_deals_3 5 rfl rfl)
theorem dX19_deals_76 : decode cX19_deals 76 = .ok (.getfield 232, 3) := dk_180 0 232 (dk_at dksX19_deals_3 8 rfl rfl)
theorem dX19_deals_79 : decode cX19_deals 79 = .ok (.iconst 1, 1) := dk_4 (dk_at dksX19_deals_3 11 rfl rfl)
theorem dX19_deals_80 : decode cX19_deals 80 = .ok (.isub, 1) := dk_100 (dk_at dksX19_deals_3 12 rfl rfl)
theorem dX19_deals_81 : decode cX19_deals 81 = .ok (.if_icmp .ne 55, 3) := dk_160 0 55 (dk_at dksX19_deals_3 13 rfl rfl)
theorem dX19_deals_84 : decode cX19_deals 84 = .ok (.iconst 0, 1) := dk_3 (dk_at dksX19_deals_3 16 rfl rfl)
theorem dX19_deals_85 : decode cX19_deals 85 = .ok (.istore_n 2, 1) := dk_61 (dk_at dksX19_deals_3 17 rfl rfl)
theorem dX19_deals_86 : decode cX19_deals 86 = .ok (.iload_n 2, 1) := dk_28 (dk_at dksX19_deals_3 18 rfl rfl)
theorem dX19_deals_87 : decode cX19_deals 87 = .ok (.aload_n 0, 1) := dk_42 (dk_at dksX19_deals_3 19 rfl rfl)
theorem dX19_deals_88 : decode cX19_deals 88 = .ok (.getfield 329, 3) := dk_180 1 73 (dk_at dksX19_deals_3 20 rfl rfl)
theorem dX19_deals_91 : decode cX19_deals 91 = .ok (.getfield 232, 3) := dk_180 0 232 (dk_at dksX19_deals_4 0 rfl rfl)
theorem dX19_deals_94 : decode cX19_deals 94 = .ok (.if_icmp .ge 29, 3) := dk_162 0 29 (dk_at dksX19_deals_4 3 rfl rfl)
theorem dX19_deals_97 : decode cX19_deals 97 = .ok (.aload_n 0, 1) := dk_42 (dk_at dksX19_deals_4 6 rfl rfl)
theorem dX19_deals_98 : decode cX19_deals 98 = .ok (.getfield 17, 3) := dk_180 0 17 (dk_at dksX19_deals_4 7 rfl rfl)
theorem dX19_deals_101 : decode cX19_deals 101 = .ok (.iconst 5, 1) := dk_8 (dk_at dksX19_deals_4 10 rfl rfl)
theorem dX19_deals_102 : decode cX19_deals 102 = .ok (.aload_n 0, 1) := dk_42 (dk_at dksX19_deals_4 11 rfl rfl)
theorem dX19_deals_103 : decode cX19_deals 103 = .ok (.getfield 356, 3) := dk_180 1 100 (dk_at dksX19_deals_4 12 rfl rfl)
theorem dX19_deals_106 : decode cX19_deals 106 = .ok (.imul, 1) := dk_104 (dk_at dksX19_deals_4 15 rfl rfl)
theorem dX19_deals_107 : decode cX19_deals 107 = .ok (.iload_n 2, 1) := dk_28 (dk_at dksX19_deals_4 16 rfl rfl)
theorem dX19_deals_108 : decode cX19_deals 108 = .ok (.iadd, 1) := dk_96 (dk_at dksX19_deals_4 17 rfl rfl)
theorem dX19_deals_109 : decode cX19_deals 109 = .ok (.aload_n 0, 1) := dk_42 (dk_at dksX19_deals_4 18 rfl rfl)
theorem dX19_deals_110 : decode cX19_deals 110 = .ok (.getfield 20, 3) := dk_180 0 20 (dk_at dksX19_deals_4 19 rfl rfl)
theorem dX19_deals_113 : decode cX19_deals 113 = .ok (.iload_n 2, 1) := dk_28 (dk_at dksX19_deals_4 22 rfl rfl)
theorem dX19_deals_114 : decode cX19_deals 114 = .ok (.iaload, 1) := dk_46 (dk_at dksX19_deals_4 23 rfl rfl)
theorem dX19_deals_115 : decode cX19_deals 115 = .ok (.i2b, 1) := dk_145 (dk_at dksX19_deals_5 0 rfl rfl)
theorem dX19_deals_116 : decode cX19_deals 116 = .ok (.bastore, 1) := dk_84 (dk_at dksX19_deals_5 1 rfl rfl)
theorem dX19_deals_117 : decode cX19_deals 117 = .ok (.iinc 2 1, 3) := dk_132 2 1 (dk_at dksX19_deals_5 2 rfl rfl)
theorem dX19_deals_120 : decode cX19_deals 120 = .ok (.goto (-34), 3) := dk_167 255 222 (dk_at dksX19_deals_5 5 rfl rfl)
theorem dX19_deals_123 : decode cX19_deals 123 = .ok (.aload_n 0, 1) := dk_42 (dk_at dksX19_deals_5 8 rfl rfl)
theorem dX19_deals_124 : decode cX19_deals 124 = .ok (.dup, 1) := dk_89 (dk_at dksX19_deals_5 9 rfl rfl)
theorem dX19_deals_125 : decode cX19_deals 125 = .ok (.getfield 356, 3) := dk_180 1 100 (dk_at dksX19_deals_5 10 rfl rfl)
theorem dX19_deals_128 : decode cX19_deals 128 = .ok (.iconst 1, 1) := dk_4 (dk_at dksX19_deals_5 13 rfl rfl)
theorem dX19_deals_129 : decode cX19_deals 129 = .ok (.iadd, 1) := dk_96 (dk_at dksX19_deals_5 14 rfl rfl)
theorem dX19_deals_130 : decode cX19_deals 130 = .ok (.putfield 356, 3) := dk_181 1 100 (dk_at dksX19_deals_5 15 rfl rfl)
theorem dX19_deals_133 : decode cX19_deals 133 = .ok (.goto (-106), 3) := dk_167 255 150 (dk_at dksX19_deals_5 18 rfl rfl)
theorem dX19_deals_136 : decode cX19_deals 136 = .ok (.iinc 1 1, 3) := dk_132 1 1 (dk_at dksX19_deals_5 21 rfl rfl)
theorem dX19_deals_139 : decode cX19_deals 139 = .ok (.goto (-112), 3) := dk_167 255 144 (dk_at dksX19_deals_6 0 rfl rfl)
theorem dX19_deals_142 : decode cX19_deals 142 = .ok (.return_, 1) := dk_177 (dk_at dksX19_deals_6 3 rfl rfl)
abbrev cX19_next : ByteArray := prog_23_method_39_code
def yX19_next : MethodName := ⟨RX19, "next", "(I)I"⟩
def dkwX19_next_3 : List UInt8 := [28, 42, 180, 1, 73, 180, 0, 194, 162, 0, 7, 28, 167, 0, 10, 42, 180, 1, 73, 180, 0, 194, 172]
abbrev dktX19_next_3 : List UInt8 := dkwX19_next_3 ++ []
def dkwX19_next_2 : List UInt8 := [180, 1, 73, 180, 0, 194, 162, 0, 18, 42, 28, 27, 182, 1, 106, 153, 0, 9, 132, 2, 1, 167, 255, 233]
abbrev dktX19_next_2 : List UInt8 := dkwX19_next_2 ++ dktX19_next_3
def dkwX19_next_1 : List UInt8 := [42, 180, 0, 20, 27, 4, 100, 46, 163, 0, 14, 42, 180, 0, 20, 27, 4, 100, 46, 4, 96, 61, 28, 42]
abbrev dktX19_next_1 : List UInt8 := dkwX19_next_1 ++ dktX19_next_2
def dkwX19_next_0 : List UInt8 := [42, 180, 0, 20, 27, 46, 4, 96, 61, 42, 180, 1, 73, 180, 0, 228, 154, 0, 30, 27, 158, 0, 26, 28]
abbrev dktX19_next_0 : List UInt8 := dkwX19_next_0 ++ dktX19_next_1
theorem dksX19_next_0 : cX19_next.data.toList.drop 0 = dktX19_next_0 := by decide +kernel
theorem dksX19_next_1 : cX19_next.data.toList.drop 24 = dktX19_next_1 := dk_seg dksX19_next_0 24 rfl rfl
theorem dksX19_next_2 : cX19_next.data.toList.drop 48 = dktX19_next_2 := dk_seg dksX19_next_1 24 rfl rfl
theorem dksX19_next_3 : cX19_next.data.toList.drop 72 = dktX19_next_3 := dk_seg dksX19_next_2 24 rfl rfl
theorem dX19_next_0 : decode cX19_next 0 = .ok (.aload_n 0, 1) := dk_42 (dk_at dksX19_next_0 0 rfl rfl)
theorem dX19_next_1 : decode cX19_next 1 = .ok (.getfield 20, 3) := dk_180 0 20 (dk_at dksX19_next_0 1 rfl rfl)
theorem dX19_next_4 : decode cX19_next 4 = .ok (.iload_n 1, 1) := dk_27 (dk_at dksX19_next_0 4 rfl rfl)
theorem dX19_next_5 : decode cX19_next 5 = .ok (.iaload, 1) := dk_46 (dk_at dksX19_next_0 5 rfl rfl)
theorem dX19_next_6 : decode cX19_next 6 = .ok (.iconst 1, 1) := dk_4 (dk_at dksX19_next_0 6 rfl rfl)
theorem dX19_next_7 : decode cX19_next 7 = .ok (.iadd, 1) := dk_96 (dk_at dksX19_next_0 7 rfl rfl)
theorem dX19_next_8 : decode cX19_next 8 = .ok (.istore_n 2, 1) := dk_61 (dk_at dksX19_next_0 8 rfl rfl)
theorem dX19_next_9 : decode cX19_next 9 = .ok (.aload_n 0, 1) := dk_42 (dk_at dksX19_next_0 9 rfl rfl)
theorem dX19_next_10 : decode cX19_next 10 = .ok (.getfield 329, 3) := dk_180 1 73 (dk_at dksX19_next_0 10 rfl rfl)
theorem dX19_next_13 : decode cX19_next 13 = .ok (.getfield 228, 3) := dk_180 0 228 (dk_at dksX19_next_0 13 rfl rfl)
theorem dX19_next_16 : decode cX19_next 16 = .ok (.ifCond .ne 30, 3) := dk_154 0 30 (dk_at dksX19_next_0 16 rfl rfl)
theorem dX19_next_19 : decode cX19_next 19 = .ok (.iload_n 1, 1) := dk_27 (dk_at dksX19_next_0 19 rfl rfl)
theorem dX19_next_20 : decode cX19_next 20 = .ok (.ifCond .le 26, 3) := dk_158 0 26 (dk_at dksX19_next_0 20 rfl rfl)
theorem dX19_next_23 : decode cX19_next 23 = .ok (.iload_n 2, 1) := dk_28 (dk_at dksX19_next_0 23 rfl rfl)
theorem dX19_next_24 : decode cX19_next 24 = .ok (.aload_n 0, 1) := dk_42 (dk_at dksX19_next_1 0 rfl rfl)
theorem dX19_next_25 : decode cX19_next 25 = .ok (.getfield 20, 3) := dk_180 0 20 (dk_at dksX19_next_1 1 rfl rfl)
theorem dX19_next_28 : decode cX19_next 28 = .ok (.iload_n 1, 1) := dk_27 (dk_at dksX19_next_1 4 rfl rfl)
theorem dX19_next_29 : decode cX19_next 29 = .ok (.iconst 1, 1) := dk_4 (dk_at dksX19_next_1 5 rfl rfl)
theorem dX19_next_30 : decode cX19_next 30 = .ok (.isub, 1) := dk_100 (dk_at dksX19_next_1 6 rfl rfl)
theorem dX19_next_31 : decode cX19_next 31 = .ok (.iaload, 1) := dk_46 (dk_at dksX19_next_1 7 rfl rfl)
theorem dX19_next_32 : decode cX19_next 32 = .ok (.if_icmp .gt 14, 3) := dk_163 0 14 (dk_at dksX19_next_1 8 rfl rfl)
theorem dX19_next_35 : decode cX19_next 35 = .ok (.aload_n 0, 1) := dk_42 (dk_at dksX19_next_1 11 rfl rfl)
theorem dX19_next_36 : decode cX19_next 36 = .ok (.getfield 20, 3) := dk_180 0 20 (dk_at dksX19_next_1 12 rfl rfl)
theorem dX19_next_39 : decode cX19_next 39 = .ok (.iload_n 1, 1) := dk_27 (dk_at dksX19_next_1 15 rfl rfl)
theorem dX19_next_40 : decode cX19_next 40 = .ok (.iconst 1, 1) := dk_4 (dk_at dksX19_next_1 16 rfl rfl)
theorem dX19_next_41 : decode cX19_next 41 = .ok (.isub, 1) := dk_100 (dk_at dksX19_next_1 17 rfl rfl)
theorem dX19_next_42 : decode cX19_next 42 = .ok (.iaload, 1) := dk_46 (dk_at dksX19_next_1 18 rfl rfl)
theorem dX19_next_43 : decode cX19_next 43 = .ok (.iconst 1, 1) := dk_4 (dk_at dksX19_next_1 19 rfl rfl)
theorem dX19_next_44 : decode cX19_next 44 = .ok (.iadd, 1) := dk_96 (dk_at dksX19_next_1 20 rfl rfl)
theorem dX19_next_45 : decode cX19_next 45 = .ok (.istore_n 2, 1) := dk_61 (dk_at dksX19_next_1 21 rfl rfl)
theorem dX19_next_46 : decode cX19_next 46 = .ok (.iload_n 2, 1) := dk_28 (dk_at dksX19_next_1 22 rfl rfl)
theorem dX19_next_47 : decode cX19_next 47 = .ok (.aload_n 0, 1) := dk_42 (dk_at dksX19_next_1 23 rfl rfl)
theorem dX19_next_48 : decode cX19_next 48 = .ok (.getfield 329, 3) := dk_180 1 73 (dk_at dksX19_next_2 0 rfl rfl)
theorem dX19_next_51 : decode cX19_next 51 = .ok (.getfield 194, 3) := dk_180 0 194 (dk_at dksX19_next_2 3 rfl rfl)
theorem dX19_next_54 : decode cX19_next 54 = .ok (.if_icmp .ge 18, 3) := dk_162 0 18 (dk_at dksX19_next_2 6 rfl rfl)
theorem dX19_next_57 : decode cX19_next 57 = .ok (.aload_n 0, 1) := dk_42 (dk_at dksX19_next_2 9 rfl rfl)
theorem dX19_next_58 : decode cX19_next 58 = .ok (.iload_n 2, 1) := dk_28 (dk_at dksX19_next_2 10 rfl rfl)
theorem dX19_next_59 : decode cX19_next 59 = .ok (.iload_n 1, 1) := dk_27 (dk_at dksX19_next_2 11 rfl rfl)
theorem dX19_next_60 : decode cX19_next 60 = .ok (.invokevirtual 362, 3) := dk_182 1 106 (dk_at dksX19_next_2 12 rfl rfl)
theorem dX19_next_63 : decode cX19_next 63 = .ok (.ifCond .eq 9, 3) := dk_153 0 9 (dk_at dksX19_next_2 15 rfl rfl)
theorem dX19_next_66 : decode cX19_next 66 = .ok (.iinc 2 1, 3) := dk_132 2 1 (dk_at dksX19_next_2 18 rfl rfl)
theorem dX19_next_69 : decode cX19_next 69 = .ok (.goto (-23), 3) := dk_167 255 233 (dk_at dksX19_next_2 21 rfl rfl)
theorem dX19_next_72 : decode cX19_next 72 = .ok (.iload_n 2, 1) := dk_28 (dk_at dksX19_next_3 0 rfl rfl)
theorem dX19_next_73 : decode cX19_next 73 = .ok (.aload_n 0, 1) := dk_42 (dk_at dksX19_next_3 1 rfl rfl)
theorem dX19_next_74 : decode cX19_next 74 = .ok (.getfield 329, 3) := dk_180 1 73 (dk_at dksX19_next_3 2 rfl rfl)
theorem dX19_next_77 : decode cX19_next 77 = .ok (.getfield 194, 3) := dk_180 0 194 (dk_at dksX19_next_3 5 rfl rfl)
theorem dX19_next_80 : decode cX19_next 80 = .ok (.if_icmp .ge 7, 3) := dk_162 0 7 (dk_at dksX19_next_3 8 rfl rfl)
theorem dX19_next_83 : decode cX19_next 83 = .ok (.iload_n 2, 1) := dk_28 (dk_at dksX19_next_3 11 rfl rfl)
theorem dX19_next_84 : decode cX19_next 84 = .ok (.goto 10, 3) := dk_167 0 10 (dk_at dksX19_next_3 12 rfl rfl)
theorem dX19_next_87 : decode cX19_next 87 = .ok (.aload_n 0, 1) := dk_42 (dk_at dksX19_next_3 15 rfl rfl)
theorem dX19_next_88 : decode cX19_next 88 = .ok (.getfield 329, 3) := dk_180 1 73 (dk_at dksX19_next_3 16 rfl rfl)
theorem dX19_next_91 : decode cX19_next 91 = .ok (.getfield 194, 3) := dk_180 0 194 (dk_at dksX19_next_3 19 rfl rfl)
theorem dX19_next_94 : decode cX19_next 94 = .ok (.ireturn, 1) := dk_172 (dk_at dksX19_next_3 22 rfl rfl)
abbrev cX19_isPicked : ByteArray := prog_23_method_40_code
def yX19_isPicked : MethodName := ⟨RX19, "isPicked", "(II)Z"⟩
def dkwX19_isPicked_1 : List UInt8 := [167, 255, 236, 3, 172]
abbrev dktX19_isPicked_1 : List UInt8 := dkwX19_isPicked_1 ++ []
def dkwX19_isPicked_0 : List UInt8 := [3, 62, 29, 28, 162, 0, 21, 42, 180, 0, 20, 29, 46, 27, 160, 0, 5, 4, 172, 132, 3, 1]
abbrev dktX19_isPicked_0 : List UInt8 := dkwX19_isPicked_0 ++ dktX19_isPicked_1
theorem dksX19_isPicked_0 : cX19_isPicked.data.toList.drop 0 = dktX19_isPicked_0 := by decide +kernel
theorem dksX19_isPicked_1 : cX19_isPicked.data.toList.drop 22 = dktX19_isPicked_1 := dk_seg dksX19_isPicked_0 22 rfl rfl
theorem dX19_isPicked_0 : decode cX19_isPicked 0 = .ok (.iconst 0, 1) := dk_3 (dk_at dksX19_isPicked_0 0 rfl rfl)
theorem dX19_isPicked_1 : decode cX19_isPicked 1 = .ok (.istore_n 3, 1) := dk_62 (dk_at dksX19_isPicked_0 1 rfl rfl)
theorem dX19_isPicked_2 : decode cX19_isPicked 2 = .ok (.iload_n 3, 1) := dk_29 (dk_at dksX19_isPicked_0 2 rfl rfl)
theorem dX19_isPicked_3 : decode cX19_isPicked 3 = .ok (.iload_n 2, 1) := dk_28 (dk_at dksX19_isPicked_0 3 rfl rfl)
theorem dX19_isPicked_4 : decode cX19_isPicked 4 = .ok (.if_icmp .ge 21, 3) := dk_162 0 21 (dk_at dksX19_isPicked_0 4 rfl rfl)
theorem dX19_isPicked_7 : decode cX19_isPicked 7 = .ok (.aload_n 0, 1) := dk_42 (dk_at dksX19_isPicked_0 7 rfl rfl)
theorem dX19_isPicked_8 : decode cX19_isPicked 8 = .ok (.getfield 20, 3) := dk_180 0 20 (dk_at dksX19_isPicked_0 8 rfl rfl)
theorem dX19_isPicked_11 : decode cX19_isPicked 11 = .ok (.iload_n 3, 1) := dk_29 (dk_at dksX19_isPicked_0 11 rfl rfl)
theorem dX19_isPicked_12 : decode cX19_isPicked 12 = .ok (.iaload, 1) := dk_46 (dk_at dksX19_isPicked_0 12 rfl rfl)
theorem dX19_isPicked_13 : decode cX19_isPicked 13 = .ok (.iload_n 1, 1) := dk_27 (dk_at dksX19_isPicked_0 13 rfl rfl)
theorem dX19_isPicked_14 : decode cX19_isPicked 14 = .ok (.if_icmp .ne 5, 3) := dk_160 0 5 (dk_at dksX19_isPicked_0 14 rfl rfl)
theorem dX19_isPicked_17 : decode cX19_isPicked 17 = .ok (.iconst 1, 1) := dk_4 (dk_at dksX19_isPicked_0 17 rfl rfl)
theorem dX19_isPicked_18 : decode cX19_isPicked 18 = .ok (.ireturn, 1) := dk_172 (dk_at dksX19_isPicked_0 18 rfl rfl)
theorem dX19_isPicked_19 : decode cX19_isPicked 19 = .ok (.iinc 3 1, 3) := dk_132 3 1 (dk_at dksX19_isPicked_0 19 rfl rfl)
theorem dX19_isPicked_22 : decode cX19_isPicked 22 = .ok (.goto (-20), 3) := dk_167 255 236 (dk_at dksX19_isPicked_1 0 rfl rfl)
theorem dX19_isPicked_25 : decode cX19_isPicked 25 = .ok (.iconst 0, 1) := dk_3 (dk_at dksX19_isPicked_1 3 rfl rfl)
theorem dX19_isPicked_26 : decode cX19_isPicked 26 = .ok (.ireturn, 1) := dk_172 (dk_at dksX19_isPicked_1 4 rfl rfl)
abbrev cX19_laysCodes : ByteArray := prog_23_method_60_code
def yX19_laysCodes : MethodName := ⟨RX19, "laysCodes", "()V"⟩
def dkwX19_laysCodes_6 : List UInt8 := [180, 1, 141, 4, 96, 181, 1, 141, 132, 1, 1, 167, 255, 112, 177]
abbrev dktX19_laysCodes_6 : List UInt8 := dkwX19_laysCodes_6 ++ []
def dkwX19_laysCodes_5 : List UInt8 := [167, 255, 167, 29, 154, 0, 6, 167, 0, 23, 42, 180, 0, 33, 42, 180, 1, 141, 27, 79, 42, 89]
abbrev dktX19_laysCodes_5 : List UInt8 := dkwX19_laysCodes_5 ++ dktX19_laysCodes_6
def dkwX19_laysCodes_4 : List UInt8 := [21, 5, 120, 162, 0, 7, 4, 167, 0, 4, 3, 62, 28, 4, 21, 5, 120, 128, 61, 132, 4, 1]
abbrev dktX19_laysCodes_4 : List UInt8 := dkwX19_laysCodes_4 ++ dktX19_laysCodes_5
def dkwX19_laysCodes_3 : List UInt8 := [180, 0, 232, 162, 0, 31, 28, 21, 5, 122, 4, 126, 154, 0, 22, 42, 182, 1, 132, 153, 0, 11, 28, 4]
abbrev dktX19_laysCodes_3 : List UInt8 := dkwX19_laysCodes_3 ++ dktX19_laysCodes_4
def dkwX19_laysCodes_2 : List UInt8 := [180, 1, 73, 180, 1, 1, 4, 100, 21, 4, 100, 104, 122, 16, 7, 126, 54, 5, 21, 5, 42, 180, 1, 73]
abbrev dktX19_laysCodes_2 : List UInt8 := dkwX19_laysCodes_2 ++ dktX19_laysCodes_3
def dkwX19_laysCodes_1 : List UInt8 := [4, 62, 3, 54, 4, 21, 4, 42, 180, 1, 73, 180, 1, 1, 162, 0, 83, 29, 153, 0, 79, 27, 6, 42]
abbrev dktX19_laysCodes_1 : List UInt8 := dkwX19_laysCodes_1 ++ dktX19_laysCodes_2
def dkwX19_laysCodes_0 : List UInt8 := [42, 3, 181, 1, 141, 3, 60, 27, 4, 6, 42, 180, 1, 73, 180, 1, 1, 104, 120, 162, 0, 135, 3, 61]
abbrev dktX19_laysCodes_0 : List UInt8 := dkwX19_laysCodes_0 ++ dktX19_laysCodes_1
theorem dksX19_laysCodes_0 : cX19_laysCodes.data.toList.drop 0 = dktX19_laysCodes_0 := by decide +kernel
theorem dksX19_laysCodes_1 : cX19_laysCodes.data.toList.drop 24 = dktX19_laysCodes_1 := dk_seg dksX19_laysCodes_0 24 rfl rfl
theorem dksX19_laysCodes_2 : cX19_laysCodes.data.toList.drop 48 = dktX19_laysCodes_2 := dk_seg dksX19_laysCodes_1 24 rfl rfl
theorem dksX19_laysCodes_3 : cX19_laysCodes.data.toList.drop 72 = dktX19_laysCodes_3 := dk_seg dksX19_laysCodes_2 24 rfl rfl
theorem dksX19_laysCodes_4 : cX19_laysCodes.data.toList.drop 96 = dktX19_laysCodes_4 := dk_seg dksX19_laysCodes_3 24 rfl rfl
theorem dksX19_laysCodes_5 : cX19_laysCodes.data.toList.drop 118 = dktX19_laysCodes_5 := dk_seg dksX19_laysCodes_4 22 rfl rfl
theorem dksX19_laysCodes_6 : cX19_laysCodes.data.toList.drop 140 = dktX19_laysCodes_6 := dk_seg dksX19_laysCodes_5 22 rfl rfl
theorem dX19_laysCodes_0 : decode cX19_laysCodes 0 = .ok (.aload_n 0, 1) := dk_42 (dk_at dksX19_laysCodes_0 0 rfl rfl)
theorem dX19_laysCodes_1 : decode cX19_laysCodes 1 = .ok (.iconst 0, 1) := dk_3 (dk_at dksX19_laysCodes_0 1 rfl rfl)
theorem dX19_laysCodes_2 : decode cX19_laysCodes 2 = .ok (.putfield 397, 3) := dk_181 1 141 (dk_at dksX19_laysCodes_0 2 rfl rfl)
theorem dX19_laysCodes_5 : decode cX19_laysCodes 5 = .ok (.iconst 0, 1) := dk_3 (dk_at dksX19_laysCodes_0 5 rfl rfl)
theorem dX19_laysCodes_6 : decode cX19_laysCodes 6 = .ok (.istore_n 1, 1) := dk_60 (dk_at dksX19_laysCodes_0 6 rfl rfl)
theorem dX19_laysCodes_7 : decode cX19_laysCodes 7 = .ok (.iload_n 1, 1) := dk_27 (dk_at dksX19_laysCodes_0 7 rfl rfl)
theorem dX19_laysCodes_8 : decode cX19_laysCodes 8 = .ok (.iconst 1, 1) := dk_4 (dk_at dksX19_laysCodes_0 8 rfl rfl)
theorem dX19_laysCodes_9 : decode cX19_laysCodes 9 = .ok (.iconst 3, 1) := dk_6 (dk_at dksX19_laysCodes_0 9 rfl rfl)
theorem dX19_laysCodes_10 : decode cX19_laysCodes 10 = .ok (.aload_n 0, 1) := dk_42 (dk_at dksX19_laysCodes_0 10 rfl rfl)
theorem dX19_laysCodes_11 : decode cX19_laysCodes 11 = .ok (.getfield 329, 3) := dk_180 1 73 (dk_at dksX19_laysCodes_0 11 rfl rfl)
theorem dX19_laysCodes_14 : decode cX19_laysCodes 14 = .ok (.getfield 257, 3) := dk_180 1 1 (dk_at dksX19_laysCodes_0 14 rfl rfl)
theorem dX19_laysCodes_17 : decode cX19_laysCodes 17 = .ok (.imul, 1) := dk_104 (dk_at dksX19_laysCodes_0 17 rfl rfl)
theorem dX19_laysCodes_18 : decode cX19_laysCodes 18 = .ok (.ishl, 1) := dk_120 (dk_at dksX19_laysCodes_0 18 rfl rfl)
theorem dX19_laysCodes_19 : decode cX19_laysCodes 19 = .ok (.if_icmp .ge 135, 3) := dk_162 0 135 (dk_at dksX19_laysCodes_0 19 rfl rfl)
theorem dX19_laysCodes_22 : decode cX19_laysCodes 22 = .ok (.iconst 0, 1) := dk_3 (dk_at dksX19_laysCodes_0 22 rfl rfl)
theorem dX19_laysCodes_23 : decode cX19_laysCodes 23 = .ok (.istore_n 2, 1) := dk_61 (dk_at dksX19_laysCodes_0 23 rfl rfl)
theorem dX19_laysCodes_24 : decode cX19_laysCodes 24 = .ok (.iconst 1, 1) := dk_4 (dk_at dksX19_laysCodes_1 0 rfl rfl)
theorem dX19_laysCodes_25 : decode cX19_laysCodes 25 = .ok (.istore_n 3, 1) := dk_62 (dk_at dksX19_laysCodes_1 1 rfl rfl)
theorem dX19_laysCodes_26 : decode cX19_laysCodes 26 = .ok (.iconst 0, 1) := dk_3 (dk_at dksX19_laysCodes_1 2 rfl rfl)
theorem dX19_laysCodes_27 : decode cX19_laysCodes 27 = .ok (.istore 4, 2) := dk_54 4 (dk_at dksX19_laysCodes_1 3 rfl rfl)
theorem dX19_laysCodes_29 : decode cX19_laysCodes 29 = .ok (.iload 4, 2) := dk_21 4 (dk_at dksX19_laysCodes_1 5 rfl rfl)
theorem dX19_laysCodes_31 : decode cX19_laysCodes 31 = .ok (.aload_n 0, 1) := dk_42 (dk_at dksX19_laysCodes_1 7 rfl rfl)
theorem dX19_laysCodes_32 : decode cX19_laysCodes 32 = .ok (.getfield 329, 3) := dk_180 1 73 (dk_at dksX19_laysCodes_1 8 rfl rfl)
theorem dX19_laysCodes_35 : decode cX19_laysCodes 35 = .ok (.getfield 257, 3) := dk_180 1 1 (dk_at dksX19_laysCodes_1 11 rfl rfl)
theorem dX19_laysCodes_38 : decode cX19_laysCodes 38 = .ok (.if_icmp .ge 83, 3) := dk_162 0 83 (dk_at dksX19_laysCodes_1 14 rfl rfl)
theorem dX19_laysCodes_41 : decode cX19_laysCodes 41 = .ok (.iload_n 3, 1) := dk_29 (dk_at dksX19_laysCodes_1 17 rfl rfl)
theorem dX19_laysCodes_42 : decode cX19_laysCodes 42 = .ok (.ifCond .eq 79, 3) := dk_153 0 79 (dk_at dksX19_laysCodes_1 18 rfl rfl)
theorem dX19_laysCodes_45 : decode cX19_laysCodes 45 = .ok (.iload_n 1, 1) := dk_27 (dk_at dksX19_laysCodes_1 21 rfl rfl)
theorem dX19_laysCodes_46 : decode cX19_laysCodes 46 = .ok (.iconst 3, 1) := dk_6 (dk_at dksX19_laysCodes_1 22 rfl rfl)
theorem dX19_laysCodes_47 : decode cX19_laysCodes 47 = .ok (.aload_n 0, 1) := dk_42 (dk_at dksX19_laysCodes_1 23 rfl rfl)
theorem dX19_laysCodes_48 : decode cX19_laysCodes 48 = .ok (.getfield 329, 3) := dk_180 1 73 (dk_at dksX19_laysCodes_2 0 rfl rfl)
theorem dX19_laysCodes_51 : decode cX19_laysCodes 51 = .ok (.getfield 257, 3) := dk_180 1 1 (dk_at dksX19_laysCodes_2 3 rfl rfl)
theorem dX19_laysCodes_54 : decode cX19_laysCodes 54 = .ok (.iconst 1, 1) := dk_4 (dk_at dksX19_laysCodes_2 6 rfl rfl)
theorem dX19_laysCodes_55 : decode cX19_laysCodes 55 = .ok (.isub, 1) := dk_100 (dk_at dksX19_laysCodes_2 7 rfl rfl)
theorem dX19_laysCodes_56 : decode cX19_laysCodes 56 = .ok (.iload 4, 2) := dk_21 4 (dk_at dksX19_laysCodes_2 8 rfl rfl)
theorem dX19_laysCodes_58 : decode cX19_laysCodes 58 = .ok (.isub, 1) := dk_100 (dk_at dksX19_laysCodes_2 10 rfl rfl)
theorem dX19_laysCodes_59 : decode cX19_laysCodes 59 = .ok (.imul, 1) := dk_104 (dk_at dksX19_laysCodes_2 11 rfl rfl)
theorem dX19_laysCodes_60 : decode cX19_laysCodes 60 = .ok (.ishr, 1) := dk_122 (dk_at dksX19_laysCodes_2 12 rfl rfl)
theorem dX19_laysCodes_61 : decode cX19_laysCodes 61 = .ok (.bipush 7, 2) := dk_16 7 (dk_at dksX19_laysCodes_2 13 rfl rfl)
theorem dX19_laysCodes_63 : decode cX19_laysCodes 63 = .ok (.iand, 1) := dk_126 (dk_at dksX19_laysCodes_2 15 rfl rfl)
theorem dX19_laysCodes_64 : decode cX19_laysCodes 64 = .ok (.istore 5, 2) := dk_54 5 (dk_at dksX19_laysCodes_2 16 rfl rfl)
theorem dX19_laysCodes_66 : decode cX19_laysCodes 66 = .ok (.iload 5, 2) := dk_21 5 (dk_at dksX19_laysCodes_2 18 rfl rfl)
theorem dX19_laysCodes_68 : decode cX19_laysCodes 68 = .ok (.aload_n 0, 1) := dk_42 (dk_at dksX19_laysCodes_2 20 rfl rfl)
theorem dX19_laysCodes_69 : decode cX19_laysCodes 69 = .ok (.getfield 329, 3) := dk_180 1 73 (dk_at dksX19_laysCodes_2 21 rfl rfl)
theorem dX19_laysCodes_72 : decode cX19_laysCodes 72 = .ok (.getfield 232, 3) := dk_180 0 232 (dk_at dksX19_laysCodes_3 0 rfl rfl)
theorem dX19_laysCodes_75 : decode cX19_laysCodes 75 = .ok (.if_icmp .ge 31, 3) := dk_162 0 31 (dk_at dksX19_laysCodes_3 3 rfl rfl)
theorem dX19_laysCodes_78 : decode cX19_laysCodes 78 = .ok (.iload_n 2, 1) := dk_28 (dk_at dksX19_laysCodes_3 6 rfl rfl)
theorem dX19_laysCodes_79 : decode cX19_laysCodes 79 = .ok (.iload 5, 2) := dk_21 5 (dk_at dksX19_laysCodes_3 7 rfl rfl)
theorem dX19_laysCodes_81 : decode cX19_laysCodes 81 = .ok (.ishr, 1) := dk_122 (dk_at dksX19_laysCodes_3 9 rfl rfl)
theorem dX19_laysCodes_82 : decode cX19_laysCodes 82 = .ok (.iconst 1, 1) := dk_4 (dk_at dksX19_laysCodes_3 10 rfl rfl)
theorem dX19_laysCodes_83 : decode cX19_laysCodes 83 = .ok (.iand, 1) := dk_126 (dk_at dksX19_laysCodes_3 11 rfl rfl)
theorem dX19_laysCodes_84 : decode cX19_laysCodes 84 = .ok (.ifCond .ne 22, 3) := dk_154 0 22 (dk_at dksX19_laysCodes_3 12 rfl rfl)
theorem dX19_laysCodes_87 : decode cX19_laysCodes 87 = .ok (.aload_n 0, 1) := dk_42 (dk_at dksX19_laysCodes_3 15 rfl rfl)
theorem dX19_laysCodes_88 : decode cX19_laysCodes 88 = .ok (.invokevirtual 388, 3) := dk_182 1 132 (dk_at dksX19_laysCodes_3 16 rfl rfl)
theorem dX19_laysCodes_91 : decode cX19_laysCodes 91 = .ok (.ifCond .eq 11, 3) := dk_153 0 11 (dk_at dksX19_laysCodes_3 19 rfl rfl)
theorem dX19_laysCodes_94 : decode cX19_laysCodes 94 = .ok (.iload_n 2, 1) := dk_28 (dk_at dksX19_laysCodes_3 22 rfl rfl)
theorem dX19_laysCodes_95 : decode cX19_laysCodes 95 = .ok (.iconst 1, 1) := dk_4 (dk_at dksX19_laysCodes_3 23 rfl rfl)
theorem dX19_laysCodes_96 : decode cX19_laysCodes 96 = .ok (.iload 5, 2) := dk_21 5 (dk_at dksX19_laysCodes_4 0 rfl rfl)
theorem dX19_laysCodes_98 : decode cX19_laysCodes 98 = .ok (.ishl, 1) := dk_120 (dk_at dksX19_laysCodes_4 2 rfl rfl)
theorem dX19_laysCodes_99 : decode cX19_laysCodes 99 = .ok (.if_icmp .ge 7, 3) := dk_162 0 7 (dk_at dksX19_laysCodes_4 3 rfl rfl)
theorem dX19_laysCodes_102 : decode cX19_laysCodes 102 = .ok (.iconst 1, 1) := dk_4 (dk_at dksX19_laysCodes_4 6 rfl rfl)
theorem dX19_laysCodes_103 : decode cX19_laysCodes 103 = .ok (.goto 4, 3) := dk_167 0 4 (dk_at dksX19_laysCodes_4 7 rfl rfl)
theorem dX19_laysCodes_106 : decode cX19_laysCodes 106 = .ok (.iconst 0, 1) := dk_3 (dk_at dksX19_laysCodes_4 10 rfl rfl)
theorem dX19_laysCodes_107 : decode cX19_laysCodes 107 = .ok (.istore_n 3, 1) := dk_62 (dk_at dksX19_laysCodes_4 11 rfl rfl)
theorem dX19_laysCodes_108 : decode cX19_laysCodes 108 = .ok (.iload_n 2, 1) := dk_28 (dk_at dksX19_laysCodes_4 12 rfl rfl)
theorem dX19_laysCodes_109 : decode cX19_laysCodes 109 = .ok (.iconst 1, 1) := dk_4 (dk_at dksX19_laysCodes_4 13 rfl rfl)
theorem dX19_laysCodes_110 : decode cX19_laysCodes 110 = .ok (.iload 5, 2) := dk_21 5 (dk_at dksX19_laysCodes_4 14 rfl rfl)
theorem dX19_laysCodes_112 : decode cX19_laysCodes 112 = .ok (.ishl, 1) := dk_120 (dk_at dksX19_laysCodes_4 16 rfl rfl)
theorem dX19_laysCodes_113 : decode cX19_laysCodes 113 = .ok (.ior, 1) := dk_128 (dk_at dksX19_laysCodes_4 17 rfl rfl)
theorem dX19_laysCodes_114 : decode cX19_laysCodes 114 = .ok (.istore_n 2, 1) := dk_61 (dk_at dksX19_laysCodes_4 18 rfl rfl)
theorem dX19_laysCodes_115 : decode cX19_laysCodes 115 = .ok (.iinc 4 1, 3) := dk_132 4 1 (dk_at dksX19_laysCodes_4 19 rfl rfl)
theorem dX19_laysCodes_118 : decode cX19_laysCodes 118 = .ok (.goto (-89), 3) := dk_167 255 167 (dk_at dksX19_laysCodes_5 0 rfl rfl)
theorem dX19_laysCodes_121 : decode cX19_laysCodes 121 = .ok (.iload_n 3, 1) := dk_29 (dk_at dksX19_laysCodes_5 3 rfl rfl)
theorem dX19_laysCodes_122 : decode cX19_laysCodes 122 = .ok (.ifCond .ne 6, 3) := dk_154 0 6 (dk_at dksX19_laysCodes_5 4 rfl rfl)
theorem dX19_laysCodes_125 : decode cX19_laysCodes 125 = .ok (.goto 23, 3) := dk_167 0 23 (dk_at dksX19_laysCodes_5 7 rfl rfl)
theorem dX19_laysCodes_128 : decode cX19_laysCodes 128 = .ok (.aload_n 0, 1) := dk_42 (dk_at dksX19_laysCodes_5 10 rfl rfl)
theorem dX19_laysCodes_129 : decode cX19_laysCodes 129 = .ok (.getfield 33, 3) := dk_180 0 33 (dk_at dksX19_laysCodes_5 11 rfl rfl)
theorem dX19_laysCodes_132 : decode cX19_laysCodes 132 = .ok (.aload_n 0, 1) := dk_42 (dk_at dksX19_laysCodes_5 14 rfl rfl)
theorem dX19_laysCodes_133 : decode cX19_laysCodes 133 = .ok (.getfield 397, 3) := dk_180 1 141 (dk_at dksX19_laysCodes_5 15 rfl rfl)
theorem dX19_laysCodes_136 : decode cX19_laysCodes 136 = .ok (.iload_n 1, 1) := dk_27 (dk_at dksX19_laysCodes_5 18 rfl rfl)
theorem dX19_laysCodes_137 : decode cX19_laysCodes 137 = .ok (.iastore, 1) := dk_79 (dk_at dksX19_laysCodes_5 19 rfl rfl)
theorem dX19_laysCodes_138 : decode cX19_laysCodes 138 = .ok (.aload_n 0, 1) := dk_42 (dk_at dksX19_laysCodes_5 20 rfl rfl)
theorem dX19_laysCodes_139 : decode cX19_laysCodes 139 = .ok (.dup, 1) := dk_89 (dk_at dksX19_laysCodes_5 21 rfl rfl)
theorem dX19_laysCodes_140 : decode cX19_laysCodes 140 = .ok (.getfield 397, 3) := dk_180 1 141 (dk_at dksX19_laysCodes_6 0 rfl rfl)
theorem dX19_laysCodes_143 : decode cX19_laysCodes 143 = .ok (.iconst 1, 1) := dk_4 (dk_at dksX19_laysCodes_6 3 rfl rfl)
theorem dX19_laysCodes_144 : decode cX19_laysCodes 144 = .ok (.iadd, 1) := dk_96 (dk_at dksX19_laysCodes_6 4 rfl rfl)
theorem dX19_laysCodes_145 : decode cX19_laysCodes 145 = .ok (.putfield 397, 3) := dk_181 1 141 (dk_at dksX19_laysCodes_6 5 rfl rfl)
theorem dX19_laysCodes_148 : decode cX19_laysCodes 148 = .ok (.iinc 1 1, 3) := dk_132 1 1 (dk_at dksX19_laysCodes_6 8 rfl rfl)
theorem dX19_laysCodes_151 : decode cX19_laysCodes 151 = .ok (.goto (-144), 3) := dk_167 255 112 (dk_at dksX19_laysCodes_6 11 rfl rfl)
theorem dX19_laysCodes_154 : decode cX19_laysCodes 154 = .ok (.return_, 1) := dk_177 (dk_at dksX19_laysCodes_6 14 rfl rfl)
abbrev cX19_isOneOrder : ByteArray := prog_23_method_57_code
def yX19_isOneOrder : MethodName := ⟨RX19, "isOneOrder", "()Z"⟩
def dkwX19_isOneOrder_1 : List UInt8 := [3, 172]
abbrev dktX19_isOneOrder_1 : List UInt8 := dkwX19_isOneOrder_1 ++ []
def dkwX19_isOneOrder_0 : List UInt8 := [42, 180, 1, 73, 180, 0, 245, 154, 0, 13, 42, 180, 1, 73, 180, 0, 228, 153, 0, 7, 4, 167, 0, 4]
abbrev dktX19_isOneOrder_0 : List UInt8 := dkwX19_isOneOrder_0 ++ dktX19_isOneOrder_1
theorem dksX19_isOneOrder_0 : cX19_isOneOrder.data.toList.drop 0 = dktX19_isOneOrder_0 := by decide +kernel
theorem dksX19_isOneOrder_1 : cX19_isOneOrder.data.toList.drop 24 = dktX19_isOneOrder_1 := dk_seg dksX19_isOneOrder_0 24 rfl rfl
theorem dX19_isOneOrder_0 : decode cX19_isOneOrder 0 = .ok (.aload_n 0, 1) := dk_42 (dk_at dksX19_isOneOrder_0 0 rfl rfl)
theorem dX19_isOneOrder_1 : decode cX19_isOneOrder 1 = .ok (.getfield 329, 3) := dk_180 1 73 (dk_at dksX19_isOneOrder_0 1 rfl rfl)
theorem dX19_isOneOrder_4 : decode cX19_isOneOrder 4 = .ok (.getfield 245, 3) := dk_180 0 245 (dk_at dksX19_isOneOrder_0 4 rfl rfl)
theorem dX19_isOneOrder_7 : decode cX19_isOneOrder 7 = .ok (.ifCond .ne 13, 3) := dk_154 0 13 (dk_at dksX19_isOneOrder_0 7 rfl rfl)
theorem dX19_isOneOrder_10 : decode cX19_isOneOrder 10 = .ok (.aload_n 0, 1) := dk_42 (dk_at dksX19_isOneOrder_0 10 rfl rfl)
theorem dX19_isOneOrder_11 : decode cX19_isOneOrder 11 = .ok (.getfield 329, 3) := dk_180 1 73 (dk_at dksX19_isOneOrder_0 11 rfl rfl)
theorem dX19_isOneOrder_14 : decode cX19_isOneOrder 14 = .ok (.getfield 228, 3) := dk_180 0 228 (dk_at dksX19_isOneOrder_0 14 rfl rfl)
theorem dX19_isOneOrder_17 : decode cX19_isOneOrder 17 = .ok (.ifCond .eq 7, 3) := dk_153 0 7 (dk_at dksX19_isOneOrder_0 17 rfl rfl)
theorem dX19_isOneOrder_20 : decode cX19_isOneOrder 20 = .ok (.iconst 1, 1) := dk_4 (dk_at dksX19_isOneOrder_0 20 rfl rfl)
theorem dX19_isOneOrder_21 : decode cX19_isOneOrder 21 = .ok (.goto 4, 3) := dk_167 0 4 (dk_at dksX19_isOneOrder_0 21 rfl rfl)
theorem dX19_isOneOrder_24 : decode cX19_isOneOrder 24 = .ok (.iconst 0, 1) := dk_3 (dk_at dksX19_isOneOrder_1 0 rfl rfl)
theorem dX19_isOneOrder_25 : decode cX19_isOneOrder 25 = .ok (.ireturn, 1) := dk_172 (dk_at dksX19_isOneOrder_1 1 rfl rfl)
abbrev cX19_handNumber : ByteArray := prog_23_method_43_code
def yX19_handNumber : MethodName := ⟨RX19, "handNumber", "([II)I"⟩
def dkwX19_handNumber_4 : List UInt8 := [153, 0, 5, 29, 172, 132, 3, 1, 167, 255, 159, 2, 172]
abbrev dktX19_handNumber_4 : List UInt8 := dkwX19_handNumber_4 ++ []
def dkwX19_handNumber_3 : List UInt8 := [46, 182, 1, 113, 153, 0, 7, 4, 167, 0, 4, 3, 54, 4, 132, 5, 1, 167, 255, 186, 21, 4]
abbrev dktX19_handNumber_3 : List UInt8 := dkwX19_handNumber_3 ++ dktX19_handNumber_4
def dkwX19_handNumber_2 : List UInt8 := [21, 5, 182, 1, 110, 43, 28, 21, 5, 96, 46, 160, 0, 24, 167, 0, 17, 42, 29, 43, 28, 21, 5, 96]
abbrev dktX19_handNumber_2 : List UInt8 := dkwX19_handNumber_2 ++ dktX19_handNumber_3
def dkwX19_handNumber_1 : List UInt8 := [180, 0, 232, 162, 0, 64, 21, 4, 153, 0, 50, 42, 180, 1, 73, 180, 0, 228, 153, 0, 22, 42, 29]
abbrev dktX19_handNumber_1 : List UInt8 := dkwX19_handNumber_1 ++ dktX19_handNumber_2
def dkwX19_handNumber_0 : List UInt8 := [3, 62, 29, 42, 180, 1, 100, 162, 0, 95, 4, 54, 4, 3, 54, 5, 21, 5, 42, 180, 1, 73]
abbrev dktX19_handNumber_0 : List UInt8 := dkwX19_handNumber_0 ++ dktX19_handNumber_1
theorem dksX19_handNumber_0 : cX19_handNumber.data.toList.drop 0 = dktX19_handNumber_0 := by decide +kernel
theorem dksX19_handNumber_1 : cX19_handNumber.data.toList.drop 22 = dktX19_handNumber_1 := dk_seg dksX19_handNumber_0 22 rfl rfl
theorem dksX19_handNumber_2 : cX19_handNumber.data.toList.drop 45 = dktX19_handNumber_2 := dk_seg dksX19_handNumber_1 23 rfl rfl
theorem dksX19_handNumber_3 : cX19_handNumber.data.toList.drop 69 = dktX19_handNumber_3 := dk_seg dksX19_handNumber_2 24 rfl rfl
theorem dksX19_handNumber_4 : cX19_handNumber.data.toList.drop 91 = dktX19_handNumber_4 := dk_seg dksX19_handNumber_3 22 rfl rfl
theorem dX19_handNumber_0 : decode cX19_handNumber 0 = .ok (.iconst 0, 1) := dk_3 (dk_at dksX19_handNumber_0 0 rfl rfl)
theorem dX19_handNumber_1 : decode cX19_handNumber 1 = .ok (.istore_n 3, 1) := dk_62 (dk_at dksX19_handNumber_0 1 rfl rfl)
theorem dX19_handNumber_2 : decode cX19_handNumber 2 = .ok (.iload_n 3, 1) := dk_29 (dk_at dksX19_handNumber_0 2 rfl rfl)
theorem dX19_handNumber_3 : decode cX19_handNumber 3 = .ok (.aload_n 0, 1) := dk_42 (dk_at dksX19_handNumber_0 3 rfl rfl)
theorem dX19_handNumber_4 : decode cX19_handNumber 4 = .ok (.getfield 356, 3) := dk_180 1 100 (dk_at dksX19_handNumber_0 4 rfl rfl)
theorem dX19_handNumber_7 : decode cX19_handNumber 7 = .ok (.if_icmp .ge 95, 3) := dk_162 0 95 (dk_at dksX19_handNumber_0 7 rfl rfl)
theorem dX19_handNumber_10 : decode cX19_handNumber 10 = .ok (.iconst 1, 1) := dk_4 (dk_at dksX19_handNumber_0 10 rfl rfl)
theorem dX19_handNumber_11 : decode cX19_handNumber 11 = .ok (.istore 4, 2) := dk_54 4 (dk_at dksX19_handNumber_0 11 rfl rfl)
theorem dX19_handNumber_13 : decode cX19_handNumber 13 = .ok (.iconst 0, 1) := dk_3 (dk_at dksX19_handNumber_0 13 rfl rfl)
theorem dX19_handNumber_14 : decode cX19_handNumber 14 = .ok (.istore 5, 2) := dk_54 5 (dk_at dksX19_handNumber_0 14 rfl rfl)
theorem dX19_handNumber_16 : decode cX19_handNumber 16 = .ok (.iload 5, 2) := dk_21 5 (dk_at dksX19_handNumber_0 16 rfl rfl)
theorem dX19_handNumber_18 : decode cX19_handNumber 18 = .ok (.aload_n 0, 1) := dk_42 (dk_at dksX19_handNumber_0 18 rfl rfl)
theorem dX19_handNumber_19 : decode cX19_handNumber 19 = .ok (.getfield 329, 3) := dk_180 1 73 (dk_at dksX19_handNumber_0 19 rfl rfl)
theorem dX19_handNumber_22 : decode cX19_handNumber 22 = .ok (.getfield 232, 3) := dk_180 0 232 (dk_at dksX19_handNumber_1 0 rfl rfl)
theorem dX19_handNumber_25 : decode cX19_handNumber 25 = .ok (.if_icmp .ge 64, 3) := dk_162 0 64 (dk_at dksX19_handNumber_1 3 rfl rfl)
theorem dX19_handNumber_28 : decode cX19_handNumber 28 = .ok (.iload 4, 2) := dk_21 4 (dk_at dksX19_handNumber_1 6 rfl rfl)
theorem dX19_handNumber_30 : decode cX19_handNumber 30 = .ok (.ifCond .eq 50, 3) := dk_153 0 50 (dk_at dksX19_handNumber_1 8 rfl rfl)
theorem dX19_handNumber_33 : decode cX19_handNumber 33 = .ok (.aload_n 0, 1) := dk_42 (dk_at dksX19_handNumber_1 11 rfl rfl)
theorem dX19_handNumber_34 : decode cX19_handNumber 34 = .ok (.getfield 329, 3) := dk_180 1 73 (dk_at dksX19_handNumber_1 12 rfl rfl)
theorem dX19_handNumber_37 : decode cX19_handNumber 37 = .ok (.getfield 228, 3) := dk_180 0 228 (dk_at dksX19_handNumber_1 15 rfl rfl)
theorem dX19_handNumber_40 : decode cX19_handNumber 40 = .ok (.ifCond .eq 22, 3) := dk_153 0 22 (dk_at dksX19_handNumber_1 18 rfl rfl)
theorem dX19_handNumber_43 : decode cX19_handNumber 43 = .ok (.aload_n 0, 1) := dk_42 (dk_at dksX19_handNumber_1 21 rfl rfl)
theorem dX19_handNumber_44 : decode cX19_handNumber 44 = .ok (.iload_n 3, 1) := dk_29 (dk_at dksX19_handNumber_1 22 rfl rfl)
theorem dX19_handNumber_45 : decode cX19_handNumber 45 = .ok (.iload 5, 2) := dk_21 5 (dk_at dksX19_handNumber_2 0 rfl rfl)
theorem dX19_handNumber_47 : decode cX19_handNumber 47 = .ok (.invokevirtual 366, 3) := dk_182 1 110 (dk_at dksX19_handNumber_2 2 rfl rfl)
theorem dX19_handNumber_50 : decode cX19_handNumber 50 = .ok (.aload_n 1, 1) := dk_43 (dk_at dksX19_handNumber_2 5 rfl rfl)
theorem dX19_handNumber_51 : decode cX19_handNumber 51 = .ok (.iload_n 2, 1) := dk_28 (dk_at dksX19_handNumber_2 6 rfl rfl)
theorem dX19_handNumber_52 : decode cX19_handNumber 52 = .ok (.iload 5, 2) := dk_21 5 (dk_at dksX19_handNumber_2 7 rfl rfl)
theorem dX19_handNumber_54 : decode cX19_handNumber 54 = .ok (.iadd, 1) := dk_96 (dk_at dksX19_handNumber_2 9 rfl rfl)
theorem dX19_handNumber_55 : decode cX19_handNumber 55 = .ok (.iaload, 1) := dk_46 (dk_at dksX19_handNumber_2 10 rfl rfl)
theorem dX19_handNumber_56 : decode cX19_handNumber 56 = .ok (.if_icmp .ne 24, 3) := dk_160 0 24 (dk_at dksX19_handNumber_2 11 rfl rfl)
theorem dX19_handNumber_59 : decode cX19_handNumber 59 = .ok (.goto 17, 3) := dk_167 0 17 (dk_at dksX19_handNumber_2 14 rfl rfl)
theorem dX19_handNumber_62 : decode cX19_handNumber 62 = .ok (.aload_n 0, 1) := dk_42 (dk_at dksX19_handNumber_2 17 rfl rfl)
theorem dX19_handNumber_63 : decode cX19_handNumber 63 = .ok (.iload_n 3, 1) := dk_29 (dk_at dksX19_handNumber_2 18 rfl rfl)
theorem dX19_handNumber_64 : decode cX19_handNumber 64 = .ok (.aload_n 1, 1) := dk_43 (dk_at dksX19_handNumber_2 19 rfl rfl)
theorem dX19_handNumber_65 : decode cX19_handNumber 65 = .ok (.iload_n 2, 1) := dk_28 (dk_at dksX19_handNumber_2 20 rfl rfl)
theorem dX19_handNumber_66 : decode cX19_handNumber 66 = .ok (.iload 5, 2) := dk_21 5 (dk_at dksX19_handNumber_2 21 rfl rfl)
theorem dX19_handNumber_68 : decode cX19_handNumber 68 = .ok (.iadd, 1) := dk_96 (dk_at dksX19_handNumber_2 23 rfl rfl)
theorem dX19_handNumber_69 : decode cX19_handNumber 69 = .ok (.iaload, 1) := dk_46 (dk_at dksX19_handNumber_3 0 rfl rfl)
theorem dX19_handNumber_70 : decode cX19_handNumber 70 = .ok (.invokevirtual 369, 3) := dk_182 1 113 (dk_at dksX19_handNumber_3 1 rfl rfl)
theorem dX19_handNumber_73 : decode cX19_handNumber 73 = .ok (.ifCond .eq 7, 3) := dk_153 0 7 (dk_at dksX19_handNumber_3 4 rfl rfl)
theorem dX19_handNumber_76 : decode cX19_handNumber 76 = .ok (.iconst 1, 1) := dk_4 (dk_at dksX19_handNumber_3 7 rfl rfl)
theorem dX19_handNumber_77 : decode cX19_handNumber 77 = .ok (.goto 4, 3) := dk_167 0 4 (dk_at dksX19_handNumber_3 8 rfl rfl)
theorem dX19_handNumber_80 : decode cX19_handNumber 80 = .ok (.iconst 0, 1) := dk_3 (dk_at dksX19_handNumber_3 11 rfl rfl)
theorem dX19_handNumber_81 : decode cX19_handNumber 81 = .ok (.istore 4, 2) := dk_54 4 (dk_at dksX19_handNumber_3 12 rfl rfl)
theorem dX19_handNumber_83 : decode cX19_handNumber 83 = .ok (.iinc 5 1, 3) := dk_132 5 1 (dk_at dksX19_handNumber_3 14 rfl rfl)
theorem dX19_handNumber_86 : decode cX19_handNumber 86 = .ok (.goto (-70), 3) := dk_167 255 186 (dk_at dksX19_handNumber_3 17 rfl rfl)
theorem dX19_handNumber_89 : decode cX19_handNumber 89 = .ok (.iload 4, 2) := dk_21 4 (dk_at dksX19_handNumber_3 20 rfl rfl)
theorem dX19_handNumber_91 : decode cX19_handNumber 91 = .ok (.ifCond .eq 5, 3) := dk_153 0 5 (dk_at dksX19_handNumber_4 0 rfl rfl)
theorem dX19_handNumber_94 : decode cX19_handNumber 94 = .ok (.iload_n 3, 1) := dk_29 (dk_at dksX19_handNumber_4 3 rfl rfl)
theorem dX19_handNumber_95 : decode cX19_handNumber 95 = .ok (.ireturn, 1) := dk_172 (dk_at dksX19_handNumber_4 4 rfl rfl)
theorem dX19_handNumber_96 : decode cX19_handNumber 96 = .ok (.iinc 3 1, 3) := dk_132 3 1 (dk_at dksX19_handNumber_4 5 rfl rfl)
theorem dX19_handNumber_99 : decode cX19_handNumber 99 = .ok (.goto (-97), 3) := dk_167 255 159 (dk_at dksX19_handNumber_4 8 rfl rfl)
theorem dX19_handNumber_102 : decode cX19_handNumber 102 = .ok (.iconst (-1), 1) := dk_2 (dk_at dksX19_handNumber_4 11 rfl rfl)
theorem dX19_handNumber_103 : decode cX19_handNumber 103 = .ok (.ireturn, 1) := dk_172 (dk_at dksX19_handNumber_4 12 rfl rfl)
abbrev cX19_cardOf : ByteArray := prog_23_method_41_code
def yX19_cardOf : MethodName := ⟨RX19, "cardOf", "(II)I"⟩
def dkwX19_cardOf_0 : List UInt8 := [42, 180, 0, 17, 8, 27, 104, 28, 96, 51, 172]
abbrev dktX19_cardOf_0 : List UInt8 := dkwX19_cardOf_0 ++ []
theorem dksX19_cardOf_0 : cX19_cardOf.data.toList.drop 0 = dktX19_cardOf_0 := by decide +kernel
theorem dX19_cardOf_0 : decode cX19_cardOf 0 = .ok (.aload_n 0, 1) := dk_42 (dk_at dksX19_cardOf_0 0 rfl rfl)
theorem dX19_cardOf_1 : decode cX19_cardOf 1 = .ok (.getfield 17, 3) := dk_180 0 17 (dk_at dksX19_cardOf_0 1 rfl rfl)
theorem dX19_cardOf_4 : decode cX19_cardOf 4 = .ok (.iconst 5, 1) := dk_8 (dk_at dksX19_cardOf_0 4 rfl rfl)
theorem dX19_cardOf_5 : decode cX19_cardOf 5 = .ok (.iload_n 1, 1) := dk_27 (dk_at dksX19_cardOf_0 5 rfl rfl)
theorem dX19_cardOf_6 : decode cX19_cardOf 6 = .ok (.imul, 1) := dk_104 (dk_at dksX19_cardOf_0 6 rfl rfl)
theorem dX19_cardOf_7 : decode cX19_cardOf 7 = .ok (.iload_n 2, 1) := dk_28 (dk_at dksX19_cardOf_0 7 rfl rfl)
theorem dX19_cardOf_8 : decode cX19_cardOf 8 = .ok (.iadd, 1) := dk_96 (dk_at dksX19_cardOf_0 8 rfl rfl)
theorem dX19_cardOf_9 : decode cX19_cardOf 9 = .ok (.baload, 1) := dk_51 (dk_at dksX19_cardOf_0 9 rfl rfl)
theorem dX19_cardOf_10 : decode cX19_cardOf 10 = .ok (.ireturn, 1) := dk_172 (dk_at dksX19_cardOf_0 10 rfl rfl)
abbrev cX19_has : ByteArray := prog_23_method_42_code
def yX19_has : MethodName := ⟨RX19, "has", "(II)Z"⟩
def dkwX19_has_1 : List UInt8 := [172, 132, 3, 1, 167, 255, 230, 3, 172]
abbrev dktX19_has_1 : List UInt8 := dkwX19_has_1 ++ []
def dkwX19_has_0 : List UInt8 := [3, 62, 29, 42, 180, 1, 73, 180, 0, 232, 162, 0, 21, 42, 27, 29, 182, 1, 110, 28, 160, 0, 5, 4]
abbrev dktX19_has_0 : List UInt8 := dkwX19_has_0 ++ dktX19_has_1
theorem dksX19_has_0 : cX19_has.data.toList.drop 0 = dktX19_has_0 := by decide +kernel
theorem dksX19_has_1 : cX19_has.data.toList.drop 24 = dktX19_has_1 := dk_seg dksX19_has_0 24 rfl rfl
theorem dX19_has_0 : decode cX19_has 0 = .ok (.iconst 0, 1) := dk_3 (dk_at dksX19_has_0 0 rfl rfl)
theorem dX19_has_1 : decode cX19_has 1 = .ok (.istore_n 3, 1) := dk_62 (dk_at dksX19_has_0 1 rfl rfl)
theorem dX19_has_2 : decode cX19_has 2 = .ok (.iload_n 3, 1) := dk_29 (dk_at dksX19_has_0 2 rfl rfl)
theorem dX19_has_3 : decode cX19_has 3 = .ok (.aload_n 0, 1) := dk_42 (dk_at dksX19_has_0 3 rfl rfl)
theorem dX19_has_4 : decode cX19_has 4 = .ok (.getfield 329, 3) := dk_180 1 73 (dk_at dksX19_has_0 4 rfl rfl)
theorem dX19_has_7 : decode cX19_has 7 = .ok (.getfield 232, 3) := dk_180 0 232 (dk_at dksX19_has_0 7 rfl rfl)
theorem dX19_has_10 : decode cX19_has 10 = .ok (.if_icmp .ge 21, 3) := dk_162 0 21 (dk_at dksX19_has_0 10 rfl rfl)
theorem dX19_has_13 : decode cX19_has 13 = .ok (.aload_n 0, 1) := dk_42 (dk_at dksX19_has_0 13 rfl rfl)
theorem dX19_has_14 : decode cX19_has 14 = .ok (.iload_n 1, 1) := dk_27 (dk_at dksX19_has_0 14 rfl rfl)
theorem dX19_has_15 : decode cX19_has 15 = .ok (.iload_n 3, 1) := dk_29 (dk_at dksX19_has_0 15 rfl rfl)
theorem dX19_has_16 : decode cX19_has 16 = .ok (.invokevirtual 366, 3) := dk_182 1 110 (dk_at dksX19_has_0 16 rfl rfl)
theorem dX19_has_19 : decode cX19_has 19 = .ok (.iload_n 2, 1) := dk_28 (dk_at dksX19_has_0 19 rfl rfl)
theorem dX19_has_20 : decode cX19_has 20 = .ok (.if_icmp .ne 5, 3) := dk_160 0 5 (dk_at dksX19_has_0 20 rfl rfl)
theorem dX19_has_23 : decode cX19_has 23 = .ok (.iconst 1, 1) := dk_4 (dk_at dksX19_has_0 23 rfl rfl)
theorem dX19_has_24 : decode cX19_has 24 = .ok (.ireturn, 1) := dk_172 (dk_at dksX19_has_1 0 rfl rfl)
theorem dX19_has_25 : decode cX19_has 25 = .ok (.iinc 3 1, 3) := dk_132 3 1 (dk_at dksX19_has_1 1 rfl rfl)
theorem dX19_has_28 : decode cX19_has 28 = .ok (.goto (-26), 3) := dk_167 255 230 (dk_at dksX19_has_1 4 rfl rfl)
theorem dX19_has_31 : decode cX19_has 31 = .ok (.iconst 0, 1) := dk_3 (dk_at dksX19_has_1 7 rfl rfl)
theorem dX19_has_32 : decode cX19_has 32 = .ok (.ireturn, 1) := dk_172 (dk_at dksX19_has_1 8 rfl rfl)
abbrev cX19_rowNumber : ByteArray := prog_23_method_44_code
def yX19_rowNumber : MethodName := ⟨RX19, "rowNumber", "([II)I"⟩
def dkwX19_rowNumber_3 : List UInt8 := [180, 0, 194, 21, 4, 100, 104, 21, 5, 96, 62, 132, 4, 1, 167, 255, 176, 29, 172]
abbrev dktX19_rowNumber_3 : List UInt8 := dkwX19_rowNumber_3 ++ []
def dkwX19_rowNumber_2 : List UInt8 := [96, 46, 162, 0, 7, 4, 167, 0, 4, 3, 100, 54, 5, 132, 6, 1, 167, 255, 221, 29, 42, 180, 1, 73]
abbrev dktX19_rowNumber_2 : List UInt8 := dkwX19_rowNumber_2 ++ dktX19_rowNumber_3
def dkwX19_rowNumber_1 : List UInt8 := [54, 5, 3, 54, 6, 21, 6, 21, 4, 162, 0, 34, 21, 5, 43, 28, 21, 6, 96, 46, 43, 28, 21, 4]
abbrev dktX19_rowNumber_1 : List UInt8 := dkwX19_rowNumber_1 ++ dktX19_rowNumber_2
def dkwX19_rowNumber_0 : List UInt8 := [3, 62, 3, 54, 4, 21, 4, 42, 180, 1, 73, 180, 1, 1, 162, 0, 74, 43, 28, 21, 4, 96, 46]
abbrev dktX19_rowNumber_0 : List UInt8 := dkwX19_rowNumber_0 ++ dktX19_rowNumber_1
theorem dksX19_rowNumber_0 : cX19_rowNumber.data.toList.drop 0 = dktX19_rowNumber_0 := by decide +kernel
theorem dksX19_rowNumber_1 : cX19_rowNumber.data.toList.drop 23 = dktX19_rowNumber_1 := dk_seg dksX19_rowNumber_0 23 rfl rfl
theorem dksX19_rowNumber_2 : cX19_rowNumber.data.toList.drop 47 = dktX19_rowNumber_2 := dk_seg dksX19_rowNumber_1 24 rfl rfl
theorem dksX19_rowNumber_3 : cX19_rowNumber.data.toList.drop 71 = dktX19_rowNumber_3 := dk_seg dksX19_rowNumber_2 24 rfl rfl
theorem dX19_rowNumber_0 : decode cX19_rowNumber 0 = .ok (.iconst 0, 1) := dk_3 (dk_at dksX19_rowNumber_0 0 rfl rfl)
theorem dX19_rowNumber_1 : decode cX19_rowNumber 1 = .ok (.istore_n 3, 1) := dk_62 (dk_at dksX19_rowNumber_0 1 rfl rfl)
theorem dX19_rowNumber_2 : decode cX19_rowNumber 2 = .ok (.iconst 0, 1) := dk_3 (dk_at dksX19_rowNumber_0 2 rfl rfl)
theorem dX19_rowNumber_3 : decode cX19_rowNumber 3 = .ok (.istore 4, 2) := dk_54 4 (dk_at dksX19_rowNumber_0 3 rfl rfl)
theorem dX19_rowNumber_5 : decode cX19_rowNumber 5 = .ok (.iload 4, 2) := dk_21 4 (dk_at dksX19_rowNumber_0 5 rfl rfl)
theorem dX19_rowNumber_7 : decode cX19_rowNumber 7 = .ok (.aload_n 0, 1) := dk_42 (dk_at dksX19_rowNumber_0 7 rfl rfl)
theorem dX19_rowNumber_8 : decode cX19_rowNumber 8 = .ok (.getfield 329, 3) := dk_180 1 73 (dk_at dksX19_rowNumber_0 8 rfl rfl)
theorem dX19_rowNumber_11 : decode cX19_rowNumber 11 = .ok (.getfield 257, 3) := dk_180 1 1 (dk_at dksX19_rowNumber_0 11 rfl rfl)
theorem dX19_rowNumber_14 : decode cX19_rowNumber 14 = .ok (.if_icmp .ge 74, 3) := dk_162 0 74 (dk_at dksX19_rowNumber_0 14 rfl rfl)
theorem dX19_rowNumber_17 : decode cX19_rowNumber 17 = .ok (.aload_n 1, 1) := dk_43 (dk_at dksX19_rowNumber_0 17 rfl rfl)
theorem dX19_rowNumber_18 : decode cX19_rowNumber 18 = .ok (.iload_n 2, 1) := dk_28 (dk_at dksX19_rowNumber_0 18 rfl rfl)
theorem dX19_rowNumber_19 : decode cX19_rowNumber 19 = .ok (.iload 4, 2) := dk_21 4 (dk_at dksX19_rowNumber_0 19 rfl rfl)
theorem dX19_rowNumber_21 : decode cX19_rowNumber 21 = .ok (.iadd, 1) := dk_96 (dk_at dksX19_rowNumber_0 21 rfl rfl)
theorem dX19_rowNumber_22 : decode cX19_rowNumber 22 = .ok (.iaload, 1) := dk_46 (dk_at dksX19_rowNumber_0 22 rfl rfl)
theorem dX19_rowNumber_23 : decode cX19_rowNumber 23 = .ok (.istore 5, 2) := dk_54 5 (dk_at dksX19_rowNumber_1 0 rfl rfl)
theorem dX19_rowNumber_25 : decode cX19_rowNumber 25 = .ok (.iconst 0, 1) := dk_3 (dk_at dksX19_rowNumber_1 2 rfl rfl)
theorem dX19_rowNumber_26 : decode cX19_rowNumber 26 = .ok (.istore 6, 2) := dk_54 6 (dk_at dksX19_rowNumber_1 3 rfl rfl)
theorem dX19_rowNumber_28 : decode cX19_rowNumber 28 = .ok (.iload 6, 2) := dk_21 6 (dk_at dksX19_rowNumber_1 5 rfl rfl)
theorem dX19_rowNumber_30 : decode cX19_rowNumber 30 = .ok (.iload 4, 2) := dk_21 4 (dk_at dksX19_rowNumber_1 7 rfl rfl)
theorem dX19_rowNumber_32 : decode cX19_rowNumber 32 = .ok (.if_icmp .ge 34, 3) := dk_162 0 34 (dk_at dksX19_rowNumber_1 9 rfl rfl)
theorem dX19_rowNumber_35 : decode cX19_rowNumber 35 = .ok (.iload 5, 2) := dk_21 5 (dk_at dksX19_rowNumber_1 12 rfl rfl)
theorem dX19_rowNumber_37 : decode cX19_rowNumber 37 = .ok (.aload_n 1, 1) := dk_43 (dk_at dksX19_rowNumber_1 14 rfl rfl)
theorem dX19_rowNumber_38 : decode cX19_rowNumber 38 = .ok (.iload_n 2, 1) := dk_28 (dk_at dksX19_rowNumber_1 15 rfl rfl)
theorem dX19_rowNumber_39 : decode cX19_rowNumber 39 = .ok (.iload 6, 2) := dk_21 6 (dk_at dksX19_rowNumber_1 16 rfl rfl)
theorem dX19_rowNumber_41 : decode cX19_rowNumber 41 = .ok (.iadd, 1) := dk_96 (dk_at dksX19_rowNumber_1 18 rfl rfl)
theorem dX19_rowNumber_42 : decode cX19_rowNumber 42 = .ok (.iaload, 1) := dk_46 (dk_at dksX19_rowNumber_1 19 rfl rfl)
theorem dX19_rowNumber_43 : decode cX19_rowNumber 43 = .ok (.aload_n 1, 1) := dk_43 (dk_at dksX19_rowNumber_1 20 rfl rfl)
theorem dX19_rowNumber_44 : decode cX19_rowNumber 44 = .ok (.iload_n 2, 1) := dk_28 (dk_at dksX19_rowNumber_1 21 rfl rfl)
theorem dX19_rowNumber_45 : decode cX19_rowNumber 45 = .ok (.iload 4, 2) := dk_21 4 (dk_at dksX19_rowNumber_1 22 rfl rfl)
theorem dX19_rowNumber_47 : decode cX19_rowNumber 47 = .ok (.iadd, 1) := dk_96 (dk_at dksX19_rowNumber_2 0 rfl rfl)
theorem dX19_rowNumber_48 : decode cX19_rowNumber 48 = .ok (.iaload, 1) := dk_46 (dk_at dksX19_rowNumber_2 1 rfl rfl)
theorem dX19_rowNumber_49 : decode cX19_rowNumber 49 = .ok (.if_icmp .ge 7, 3) := dk_162 0 7 (dk_at dksX19_rowNumber_2 2 rfl rfl)
theorem dX19_rowNumber_52 : decode cX19_rowNumber 52 = .ok (.iconst 1, 1) := dk_4 (dk_at dksX19_rowNumber_2 5 rfl rfl)
theorem dX19_rowNumber_53 : decode cX19_rowNumber 53 = .ok (.goto 4, 3) := dk_167 0 4 (dk_at dksX19_rowNumber_2 6 rfl rfl)
theorem dX19_rowNumber_56 : decode cX19_rowNumber 56 = .ok (.iconst 0, 1) := dk_3 (dk_at dksX19_rowNumber_2 9 rfl rfl)
theorem dX19_rowNumber_57 : decode cX19_rowNumber 57 = .ok (.isub, 1) := dk_100 (dk_at dksX19_rowNumber_2 10 rfl rfl)
theorem dX19_rowNumber_58 : decode cX19_rowNumber 58 = .ok (.istore 5, 2) := dk_54 5 (dk_at dksX19_rowNumber_2 11 rfl rfl)
theorem dX19_rowNumber_60 : decode cX19_rowNumber 60 = .ok (.iinc 6 1, 3) := dk_132 6 1 (dk_at dksX19_rowNumber_2 13 rfl rfl)
theorem dX19_rowNumber_63 : decode cX19_rowNumber 63 = .ok (.goto (-35), 3) := dk_167 255 221 (dk_at dksX19_rowNumber_2 16 rfl rfl)
theorem dX19_rowNumber_66 : decode cX19_rowNumber 66 = .ok (.iload_n 3, 1) := dk_29 (dk_at dksX19_rowNumber_2 19 rfl rfl)
theorem dX19_rowNumber_67 : decode cX19_rowNumber 67 = .ok (.aload_n 0, 1) := dk_42 (dk_at dksX19_rowNumber_2 20 rfl rfl)
theorem dX19_rowNumber_68 : decode cX19_rowNumber 68 = .ok (.getfield 329, 3) := dk_180 1 73 (dk_at dksX19_rowNumber_2 21 rfl rfl)
theorem dX19_rowNumber_71 : decode cX19_rowNumber 71 = .ok (.getfield 194, 3) := dk_180 0 194 (dk_at dksX19_rowNumber_3 0 rfl rfl)
theorem dX19_rowNumber_74 : decode cX19_rowNumber 74 = .ok (.iload 4, 2) := dk_21 4 (dk_at dksX19_rowNumber_3 3 rfl rfl)
theorem dX19_rowNumber_76 : decode cX19_rowNumber 76 = .ok (.isub, 1) := dk_100 (dk_at dksX19_rowNumber_3 5 rfl rfl)
theorem dX19_rowNumber_77 : decode cX19_rowNumber 77 = .ok (.imul, 1) := dk_104 (dk_at dksX19_rowNumber_3 6 rfl rfl)
theorem dX19_rowNumber_78 : decode cX19_rowNumber 78 = .ok (.iload 5, 2) := dk_21 5 (dk_at dksX19_rowNumber_3 7 rfl rfl)
theorem dX19_rowNumber_80 : decode cX19_rowNumber 80 = .ok (.iadd, 1) := dk_96 (dk_at dksX19_rowNumber_3 9 rfl rfl)
theorem dX19_rowNumber_81 : decode cX19_rowNumber 81 = .ok (.istore_n 3, 1) := dk_62 (dk_at dksX19_rowNumber_3 10 rfl rfl)
theorem dX19_rowNumber_82 : decode cX19_rowNumber 82 = .ok (.iinc 4 1, 3) := dk_132 4 1 (dk_at dksX19_rowNumber_3 11 rfl rfl)
theorem dX19_rowNumber_85 : decode cX19_rowNumber 85 = .ok (.goto (-80), 3) := dk_167 255 176 (dk_at dksX19_rowNumber_3 14 rfl rfl)
theorem dX19_rowNumber_88 : decode cX19_rowNumber 88 = .ok (.iload_n 3, 1) := dk_29 (dk_at dksX19_rowNumber_3 17 rfl rfl)
theorem dX19_rowNumber_89 : decode cX19_rowNumber 89 = .ok (.ireturn, 1) := dk_172 (dk_at dksX19_rowNumber_3 18 rfl rfl)
abbrev cX19_good : ByteArray := prog_23_method_5_code
def yX19_good : MethodName := ⟨RX19, "good", "(I)I"⟩
def dkwX19_good_0 : List UInt8 := [42, 3, 181, 0, 89, 42, 2, 181, 0, 9, 27, 172]
abbrev dktX19_good_0 : List UInt8 := dkwX19_good_0 ++ []
theorem dksX19_good_0 : cX19_good.data.toList.drop 0 = dktX19_good_0 := by decide +kernel
theorem dX19_good_0 : decode cX19_good 0 = .ok (.aload_n 0, 1) := dk_42 (dk_at dksX19_good_0 0 rfl rfl)
theorem dX19_good_1 : decode cX19_good 1 = .ok (.iconst 0, 1) := dk_3 (dk_at dksX19_good_0 1 rfl rfl)
theorem dX19_good_2 : decode cX19_good 2 = .ok (.putfield 89, 3) := dk_181 0 89 (dk_at dksX19_good_0 2 rfl rfl)
theorem dX19_good_5 : decode cX19_good 5 = .ok (.aload_n 0, 1) := dk_42 (dk_at dksX19_good_0 5 rfl rfl)
theorem dX19_good_6 : decode cX19_good 6 = .ok (.iconst (-1), 1) := dk_2 (dk_at dksX19_good_0 6 rfl rfl)
theorem dX19_good_7 : decode cX19_good 7 = .ok (.putfield 9, 3) := dk_181 0 9 (dk_at dksX19_good_0 7 rfl rfl)
theorem dX19_good_10 : decode cX19_good 10 = .ok (.iload_n 1, 1) := dk_27 (dk_at dksX19_good_0 10 rfl rfl)
theorem dX19_good_11 : decode cX19_good 11 = .ok (.ireturn, 1) := dk_172 (dk_at dksX19_good_0 11 rfl rfl)
abbrev cX19_fault : ByteArray := prog_23_method_36_code
def yX19_fault : MethodName := ⟨RX19, "fault", "()I"⟩
def dkwX19_fault_0 : List UInt8 := [42, 3, 181, 0, 86, 42, 180, 0, 147, 172]
abbrev dktX19_fault_0 : List UInt8 := dkwX19_fault_0 ++ []
theorem dksX19_fault_0 : cX19_fault.data.toList.drop 0 = dktX19_fault_0 := by decide +kernel
theorem dX19_fault_0 : decode cX19_fault 0 = .ok (.aload_n 0, 1) := dk_42 (dk_at dksX19_fault_0 0 rfl rfl)
theorem dX19_fault_1 : decode cX19_fault 1 = .ok (.iconst 0, 1) := dk_3 (dk_at dksX19_fault_0 1 rfl rfl)
theorem dX19_fault_2 : decode cX19_fault 2 = .ok (.putfield 86, 3) := dk_181 0 86 (dk_at dksX19_fault_0 2 rfl rfl)
theorem dX19_fault_5 : decode cX19_fault 5 = .ok (.aload_n 0, 1) := dk_42 (dk_at dksX19_fault_0 5 rfl rfl)
theorem dX19_fault_6 : decode cX19_fault 6 = .ok (.getfield 147, 3) := dk_180 0 147 (dk_at dksX19_fault_0 6 rfl rfl)
theorem dX19_fault_9 : decode cX19_fault 9 = .ok (.ireturn, 1) := dk_172 (dk_at dksX19_fault_0 9 rfl rfl)
abbrev cX19_where : ByteArray := prog_23_method_37_code
def yX19_where : MethodName := ⟨RX19, "where", "()I"⟩
def dkwX19_where_0 : List UInt8 := [42, 3, 181, 0, 86, 42, 180, 0, 9, 172]
abbrev dktX19_where_0 : List UInt8 := dkwX19_where_0 ++ []
theorem dksX19_where_0 : cX19_where.data.toList.drop 0 = dktX19_where_0 := by decide +kernel
theorem dX19_where_0 : decode cX19_where 0 = .ok (.aload_n 0, 1) := dk_42 (dk_at dksX19_where_0 0 rfl rfl)
theorem dX19_where_1 : decode cX19_where 1 = .ok (.iconst 0, 1) := dk_3 (dk_at dksX19_where_0 1 rfl rfl)
theorem dX19_where_2 : decode cX19_where 2 = .ok (.putfield 86, 3) := dk_181 0 86 (dk_at dksX19_where_0 2 rfl rfl)
theorem dX19_where_5 : decode cX19_where 5 = .ok (.aload_n 0, 1) := dk_42 (dk_at dksX19_where_0 5 rfl rfl)
theorem dX19_where_6 : decode cX19_where 6 = .ok (.getfield 9, 3) := dk_180 0 9 (dk_at dksX19_where_0 6 rfl rfl)
theorem dX19_where_9 : decode cX19_where 9 = .ok (.ireturn, 1) := dk_172 (dk_at dksX19_where_0 9 rfl rfl)
abbrev cX19_hands : ByteArray := prog_23_method_49_code
def yX19_hands : MethodName := ⟨RX19, "hands", "()I"⟩
def dkwX19_hands_1 : List UInt8 := [180, 1, 100, 182, 0, 96, 172]
abbrev dktX19_hands_1 : List UInt8 := dkwX19_hands_1 ++ []
def dkwX19_hands_0 : List UInt8 := [42, 3, 181, 0, 86, 42, 180, 1, 73, 199, 0, 11, 42, 4, 182, 0, 92, 167, 0, 11, 42, 42]
abbrev dktX19_hands_0 : List UInt8 := dkwX19_hands_0 ++ dktX19_hands_1
theorem dksX19_hands_0 : cX19_hands.data.toList.drop 0 = dktX19_hands_0 := by decide +kernel
theorem dksX19_hands_1 : cX19_hands.data.toList.drop 22 = dktX19_hands_1 := dk_seg dksX19_hands_0 22 rfl rfl
theorem dX19_hands_0 : decode cX19_hands 0 = .ok (.aload_n 0, 1) := dk_42 (dk_at dksX19_hands_0 0 rfl rfl)
theorem dX19_hands_1 : decode cX19_hands 1 = .ok (.iconst 0, 1) := dk_3 (dk_at dksX19_hands_0 1 rfl rfl)
theorem dX19_hands_2 : decode cX19_hands 2 = .ok (.putfield 86, 3) := dk_181 0 86 (dk_at dksX19_hands_0 2 rfl rfl)
theorem dX19_hands_5 : decode cX19_hands 5 = .ok (.aload_n 0, 1) := dk_42 (dk_at dksX19_hands_0 5 rfl rfl)
theorem dX19_hands_6 : decode cX19_hands 6 = .ok (.getfield 329, 3) := dk_180 1 73 (dk_at dksX19_hands_0 6 rfl rfl)
theorem dX19_hands_9 : decode cX19_hands 9 = .ok (.ifnonnull 11, 3) := dk_199 0 11 (dk_at dksX19_hands_0 9 rfl rfl)
theorem dX19_hands_12 : decode cX19_hands 12 = .ok (.aload_n 0, 1) := dk_42 (dk_at dksX19_hands_0 12 rfl rfl)
theorem dX19_hands_13 : decode cX19_hands 13 = .ok (.iconst 1, 1) := dk_4 (dk_at dksX19_hands_0 13 rfl rfl)
theorem dX19_hands_14 : decode cX19_hands 14 = .ok (.invokevirtual 92, 3) := dk_182 0 92 (dk_at dksX19_hands_0 14 rfl rfl)
theorem dX19_hands_17 : decode cX19_hands 17 = .ok (.goto 11, 3) := dk_167 0 11 (dk_at dksX19_hands_0 17 rfl rfl)
theorem dX19_hands_20 : decode cX19_hands 20 = .ok (.aload_n 0, 1) := dk_42 (dk_at dksX19_hands_0 20 rfl rfl)
theorem dX19_hands_21 : decode cX19_hands 21 = .ok (.aload_n 0, 1) := dk_42 (dk_at dksX19_hands_0 21 rfl rfl)
theorem dX19_hands_22 : decode cX19_hands 22 = .ok (.getfield 356, 3) := dk_180 1 100 (dk_at dksX19_hands_1 0 rfl rfl)
theorem dX19_hands_25 : decode cX19_hands 25 = .ok (.invokevirtual 96, 3) := dk_182 0 96 (dk_at dksX19_hands_1 3 rfl rfl)
theorem dX19_hands_28 : decode cX19_hands 28 = .ok (.ireturn, 1) := dk_172 (dk_at dksX19_hands_1 6 rfl rfl)
abbrev cX19_rows : ByteArray := prog_23_method_50_code
def yX19_rows : MethodName := ⟨RX19, "rows", "()I"⟩
def dkwX19_rows_1 : List UInt8 := [182, 1, 116, 182, 0, 96, 172]
abbrev dktX19_rows_1 : List UInt8 := dkwX19_rows_1 ++ []
def dkwX19_rows_0 : List UInt8 := [42, 3, 181, 0, 86, 42, 180, 1, 73, 199, 0, 11, 42, 4, 182, 0, 92, 167, 0, 11, 42, 42]
abbrev dktX19_rows_0 : List UInt8 := dkwX19_rows_0 ++ dktX19_rows_1
theorem dksX19_rows_0 : cX19_rows.data.toList.drop 0 = dktX19_rows_0 := by decide +kernel
theorem dksX19_rows_1 : cX19_rows.data.toList.drop 22 = dktX19_rows_1 := dk_seg dksX19_rows_0 22 rfl rfl
theorem dX19_rows_0 : decode cX19_rows 0 = .ok (.aload_n 0, 1) := dk_42 (dk_at dksX19_rows_0 0 rfl rfl)
theorem dX19_rows_1 : decode cX19_rows 1 = .ok (.iconst 0, 1) := dk_3 (dk_at dksX19_rows_0 1 rfl rfl)
theorem dX19_rows_2 : decode cX19_rows 2 = .ok (.putfield 86, 3) := dk_181 0 86 (dk_at dksX19_rows_0 2 rfl rfl)
theorem dX19_rows_5 : decode cX19_rows 5 = .ok (.aload_n 0, 1) := dk_42 (dk_at dksX19_rows_0 5 rfl rfl)
theorem dX19_rows_6 : decode cX19_rows 6 = .ok (.getfield 329, 3) := dk_180 1 73 (dk_at dksX19_rows_0 6 rfl rfl)
theorem dX19_rows_9 : decode cX19_rows 9 = .ok (.ifnonnull 11, 3) := dk_199 0 11 (dk_at dksX19_rows_0 9 rfl rfl)
theorem dX19_rows_12 : decode cX19_rows 12 = .ok (.aload_n 0, 1) := dk_42 (dk_at dksX19_rows_0 12 rfl rfl)
theorem dX19_rows_13 : decode cX19_rows 13 = .ok (.iconst 1, 1) := dk_4 (dk_at dksX19_rows_0 13 rfl rfl)
theorem dX19_rows_14 : decode cX19_rows 14 = .ok (.invokevirtual 92, 3) := dk_182 0 92 (dk_at dksX19_rows_0 14 rfl rfl)
theorem dX19_rows_17 : decode cX19_rows 17 = .ok (.goto 11, 3) := dk_167 0 11 (dk_at dksX19_rows_0 17 rfl rfl)
theorem dX19_rows_20 : decode cX19_rows 20 = .ok (.aload_n 0, 1) := dk_42 (dk_at dksX19_rows_0 20 rfl rfl)
theorem dX19_rows_21 : decode cX19_rows 21 = .ok (.aload_n 0, 1) := dk_42 (dk_at dksX19_rows_0 21 rfl rfl)
theorem dX19_rows_22 : decode cX19_rows 22 = .ok (.invokevirtual 372, 3) := dk_182 1 116 (dk_at dksX19_rows_1 0 rfl rfl)
theorem dX19_rows_25 : decode cX19_rows 25 = .ok (.invokevirtual 96, 3) := dk_182 0 96 (dk_at dksX19_rows_1 3 rfl rfl)
theorem dX19_rows_28 : decode cX19_rows 28 = .ok (.ireturn, 1) := dk_172 (dk_at dksX19_rows_1 6 rfl rfl)
abbrev cX19_rowMany : ByteArray := prog_23_method_46_code
def yX19_rowMany : MethodName := ⟨RX19, "rowMany", "()I"⟩
def dkwX19_rowMany_1 : List UInt8 := [182, 1, 98, 104, 172]
abbrev dktX19_rowMany_1 : List UInt8 := dkwX19_rowMany_1 ++ []
def dkwX19_rowMany_0 : List UInt8 := [42, 180, 1, 73, 180, 0, 194, 42, 180, 1, 73, 180, 1, 1, 184, 0, 99, 136, 42, 180, 1, 73]
abbrev dktX19_rowMany_0 : List UInt8 := dkwX19_rowMany_0 ++ dktX19_rowMany_1
theorem dksX19_rowMany_0 : cX19_rowMany.data.toList.drop 0 = dktX19_rowMany_0 := by decide +kernel
theorem dksX19_rowMany_1 : cX19_rowMany.data.toList.drop 22 = dktX19_rowMany_1 := dk_seg dksX19_rowMany_0 22 rfl rfl
theorem dX19_rowMany_0 : decode cX19_rowMany 0 = .ok (.aload_n 0, 1) := dk_42 (dk_at dksX19_rowMany_0 0 rfl rfl)
theorem dX19_rowMany_1 : decode cX19_rowMany 1 = .ok (.getfield 329, 3) := dk_180 1 73 (dk_at dksX19_rowMany_0 1 rfl rfl)
theorem dX19_rowMany_4 : decode cX19_rowMany 4 = .ok (.getfield 194, 3) := dk_180 0 194 (dk_at dksX19_rowMany_0 4 rfl rfl)
theorem dX19_rowMany_7 : decode cX19_rowMany 7 = .ok (.aload_n 0, 1) := dk_42 (dk_at dksX19_rowMany_0 7 rfl rfl)
theorem dX19_rowMany_8 : decode cX19_rowMany 8 = .ok (.getfield 329, 3) := dk_180 1 73 (dk_at dksX19_rowMany_0 8 rfl rfl)
theorem dX19_rowMany_11 : decode cX19_rowMany 11 = .ok (.getfield 257, 3) := dk_180 1 1 (dk_at dksX19_rowMany_0 11 rfl rfl)
theorem dX19_rowMany_14 : decode cX19_rowMany 14 = .ok (.invokestatic 99, 3) := dk_184 0 99 (dk_at dksX19_rowMany_0 14 rfl rfl)
theorem dX19_rowMany_17 : decode cX19_rowMany 17 = .ok (.l2i, 1) := dk_136 (dk_at dksX19_rowMany_0 17 rfl rfl)
theorem dX19_rowMany_18 : decode cX19_rowMany 18 = .ok (.aload_n 0, 1) := dk_42 (dk_at dksX19_rowMany_0 18 rfl rfl)
theorem dX19_rowMany_19 : decode cX19_rowMany 19 = .ok (.getfield 329, 3) := dk_180 1 73 (dk_at dksX19_rowMany_0 19 rfl rfl)
theorem dX19_rowMany_22 : decode cX19_rowMany 22 = .ok (.invokevirtual 354, 3) := dk_182 1 98 (dk_at dksX19_rowMany_1 0 rfl rfl)
theorem dX19_rowMany_25 : decode cX19_rowMany 25 = .ok (.imul, 1) := dk_104 (dk_at dksX19_rowMany_1 3 rfl rfl)
theorem dX19_rowMany_26 : decode cX19_rowMany 26 = .ok (.ireturn, 1) := dk_172 (dk_at dksX19_rowMany_1 4 rfl rfl)
abbrev cX19_hand : ByteArray := prog_23_method_51_code
def yX19_hand : MethodName := ⟨RX19, "hand", "(II)I"⟩
def dkwX19_hand_2 : List UInt8 := [172]
abbrev dktX19_hand_2 : List UInt8 := dkwX19_hand_2 ++ []
def dkwX19_hand_1 : List UInt8 := [184, 0, 168, 153, 0, 16, 42, 42, 27, 28, 182, 1, 110, 182, 0, 96, 167, 0, 8, 42, 4, 182, 0, 92]
abbrev dktX19_hand_1 : List UInt8 := dkwX19_hand_1 ++ dktX19_hand_2
def dkwX19_hand_0 : List UInt8 := [42, 3, 181, 0, 86, 42, 27, 182, 1, 119, 153, 0, 33, 28, 3, 42, 180, 1, 73, 180, 0, 232, 4, 100]
abbrev dktX19_hand_0 : List UInt8 := dkwX19_hand_0 ++ dktX19_hand_1
theorem dksX19_hand_0 : cX19_hand.data.toList.drop 0 = dktX19_hand_0 := by decide +kernel
theorem dksX19_hand_1 : cX19_hand.data.toList.drop 24 = dktX19_hand_1 := dk_seg dksX19_hand_0 24 rfl rfl
theorem dksX19_hand_2 : cX19_hand.data.toList.drop 48 = dktX19_hand_2 := dk_seg dksX19_hand_1 24 rfl rfl
theorem dX19_hand_0 : decode cX19_hand 0 = .ok (.aload_n 0, 1) := dk_42 (dk_at dksX19_hand_0 0 rfl rfl)
theorem dX19_hand_1 : decode cX19_hand 1 = .ok (.iconst 0, 1) := dk_3 (dk_at dksX19_hand_0 1 rfl rfl)
theorem dX19_hand_2 : decode cX19_hand 2 = .ok (.putfield 86, 3) := dk_181 0 86 (dk_at dksX19_hand_0 2 rfl rfl)
theorem dX19_hand_5 : decode cX19_hand 5 = .ok (.aload_n 0, 1) := dk_42 (dk_at dksX19_hand_0 5 rfl rfl)
theorem dX19_hand_6 : decode cX19_hand 6 = .ok (.iload_n 1, 1) := dk_27 (dk_at dksX19_hand_0 6 rfl rfl)
theorem dX19_hand_7 : decode cX19_hand 7 = .ok (.invokevirtual 375, 3) := dk_182 1 119 (dk_at dksX19_hand_0 7 rfl rfl)
theorem dX19_hand_10 : decode cX19_hand 10 = .ok (.ifCond .eq 33, 3) := dk_153 0 33 (dk_at dksX19_hand_0 10 rfl rfl)
theorem dX19_hand_13 : decode cX19_hand 13 = .ok (.iload_n 2, 1) := dk_28 (dk_at dksX19_hand_0 13 rfl rfl)
theorem dX19_hand_14 : decode cX19_hand 14 = .ok (.iconst 0, 1) := dk_3 (dk_at dksX19_hand_0 14 rfl rfl)
theorem dX19_hand_15 : decode cX19_hand 15 = .ok (.aload_n 0, 1) := dk_42 (dk_at dksX19_hand_0 15 rfl rfl)
theorem dX19_hand_16 : decode cX19_hand 16 = .ok (.getfield 329, 3) := dk_180 1 73 (dk_at dksX19_hand_0 16 rfl rfl)
theorem dX19_hand_19 : decode cX19_hand 19 = .ok (.getfield 232, 3) := dk_180 0 232 (dk_at dksX19_hand_0 19 rfl rfl)
theorem dX19_hand_22 : decode cX19_hand 22 = .ok (.iconst 1, 1) := dk_4 (dk_at dksX19_hand_0 22 rfl rfl)
theorem dX19_hand_23 : decode cX19_hand 23 = .ok (.isub, 1) := dk_100 (dk_at dksX19_hand_0 23 rfl rfl)
theorem dX19_hand_24 : decode cX19_hand 24 = .ok (.invokestatic 168, 3) := dk_184 0 168 (dk_at dksX19_hand_1 0 rfl rfl)
theorem dX19_hand_27 : decode cX19_hand 27 = .ok (.ifCond .eq 16, 3) := dk_153 0 16 (dk_at dksX19_hand_1 3 rfl rfl)
theorem dX19_hand_30 : decode cX19_hand 30 = .ok (.aload_n 0, 1) := dk_42 (dk_at dksX19_hand_1 6 rfl rfl)
theorem dX19_hand_31 : decode cX19_hand 31 = .ok (.aload_n 0, 1) := dk_42 (dk_at dksX19_hand_1 7 rfl rfl)
theorem dX19_hand_32 : decode cX19_hand 32 = .ok (.iload_n 1, 1) := dk_27 (dk_at dksX19_hand_1 8 rfl rfl)
theorem dX19_hand_33 : decode cX19_hand 33 = .ok (.iload_n 2, 1) := dk_28 (dk_at dksX19_hand_1 9 rfl rfl)
theorem dX19_hand_34 : decode cX19_hand 34 = .ok (.invokevirtual 366, 3) := dk_182 1 110 (dk_at dksX19_hand_1 10 rfl rfl)
theorem dX19_hand_37 : decode cX19_hand 37 = .ok (.invokevirtual 96, 3) := dk_182 0 96 (dk_at dksX19_hand_1 13 rfl rfl)
theorem dX19_hand_40 : decode cX19_hand 40 = .ok (.goto 8, 3) := dk_167 0 8 (dk_at dksX19_hand_1 16 rfl rfl)
theorem dX19_hand_43 : decode cX19_hand 43 = .ok (.aload_n 0, 1) := dk_42 (dk_at dksX19_hand_1 19 rfl rfl)
theorem dX19_hand_44 : decode cX19_hand 44 = .ok (.iconst 1, 1) := dk_4 (dk_at dksX19_hand_1 20 rfl rfl)
theorem dX19_hand_45 : decode cX19_hand 45 = .ok (.invokevirtual 92, 3) := dk_182 0 92 (dk_at dksX19_hand_1 21 rfl rfl)
theorem dX19_hand_48 : decode cX19_hand 48 = .ok (.ireturn, 1) := dk_172 (dk_at dksX19_hand_2 0 rfl rfl)
abbrev cX19_isHand : ByteArray := prog_23_method_47_code
def yX19_isHand : MethodName := ⟨RX19, "isHand", "(I)Z"⟩
def dkwX19_isHand_1 : List UInt8 := [172]
abbrev dktX19_isHand_1 : List UInt8 := dkwX19_isHand_1 ++ []
def dkwX19_isHand_0 : List UInt8 := [42, 180, 1, 73, 198, 0, 19, 27, 155, 0, 15, 27, 42, 180, 1, 100, 162, 0, 7, 4, 167, 0, 4, 3]
abbrev dktX19_isHand_0 : List UInt8 := dkwX19_isHand_0 ++ dktX19_isHand_1
theorem dksX19_isHand_0 : cX19_isHand.data.toList.drop 0 = dktX19_isHand_0 := by decide +kernel
theorem dksX19_isHand_1 : cX19_isHand.data.toList.drop 24 = dktX19_isHand_1 := dk_seg dksX19_isHand_0 24 rfl rfl
theorem dX19_isHand_0 : decode cX19_isHand 0 = .ok (.aload_n 0, 1) := dk_42 (dk_at dksX19_isHand_0 0 rfl rfl)
theorem dX19_isHand_1 : decode cX19_isHand 1 = .ok (.getfield 329, 3) := dk_180 1 73 (dk_at dksX19_isHand_0 1 rfl rfl)
theorem dX19_isHand_4 : decode cX19_isHand 4 = .ok (.ifnull 19, 3) := dk_198 0 19 (dk_at dksX19_isHand_0 4 rfl rfl)
theorem dX19_isHand_7 : decode cX19_isHand 7 = .ok (.iload_n 1, 1) := dk_27 (dk_at dksX19_isHand_0 7 rfl rfl)
theorem dX19_isHand_8 : decode cX19_isHand 8 = .ok (.ifCond .lt 15, 3) := dk_155 0 15 (dk_at dksX19_isHand_0 8 rfl rfl)
theorem dX19_isHand_11 : decode cX19_isHand 11 = .ok (.iload_n 1, 1) := dk_27 (dk_at dksX19_isHand_0 11 rfl rfl)
theorem dX19_isHand_12 : decode cX19_isHand 12 = .ok (.aload_n 0, 1) := dk_42 (dk_at dksX19_isHand_0 12 rfl rfl)
theorem dX19_isHand_13 : decode cX19_isHand 13 = .ok (.getfield 356, 3) := dk_180 1 100 (dk_at dksX19_isHand_0 13 rfl rfl)
theorem dX19_isHand_16 : decode cX19_isHand 16 = .ok (.if_icmp .ge 7, 3) := dk_162 0 7 (dk_at dksX19_isHand_0 16 rfl rfl)
theorem dX19_isHand_19 : decode cX19_isHand 19 = .ok (.iconst 1, 1) := dk_4 (dk_at dksX19_isHand_0 19 rfl rfl)
theorem dX19_isHand_20 : decode cX19_isHand 20 = .ok (.goto 4, 3) := dk_167 0 4 (dk_at dksX19_isHand_0 20 rfl rfl)
theorem dX19_isHand_23 : decode cX19_isHand 23 = .ok (.iconst 0, 1) := dk_3 (dk_at dksX19_isHand_0 23 rfl rfl)
theorem dX19_isHand_24 : decode cX19_isHand 24 = .ok (.ireturn, 1) := dk_172 (dk_at dksX19_isHand_1 0 rfl rfl)
abbrev cX19_handOf : ByteArray := prog_23_method_52_code
def yX19_handOf : MethodName := ⟨RX19, "handOf", "(IIIII)I"⟩
def dkwX19_handOf_7 : List UInt8 := [25, 6, 3, 182, 1, 91, 182, 0, 96, 172]
abbrev dktX19_handOf_7 : List UInt8 := dkwX19_handOf_7 ++ []
def dkwX19_handOf_6 : List UInt8 := [46, 160, 0, 9, 42, 5, 182, 0, 92, 172, 132, 8, 1, 167, 255, 215, 132, 7, 1, 167, 255, 149, 42, 42]
abbrev dktX19_handOf_6 : List UInt8 := dkwX19_handOf_6 ++ dktX19_handOf_7
def dkwX19_handOf_5 : List UInt8 := [162, 0, 40, 21, 7, 42, 180, 1, 73, 180, 0, 232, 162, 0, 28, 25, 6, 21, 8, 46, 25, 6, 21, 7]
abbrev dktX19_handOf_5 : List UInt8 := dkwX19_handOf_5 ++ dktX19_handOf_6
def dkwX19_handOf_4 : List UInt8 := [25, 6, 21, 7, 46, 2, 159, 0, 9, 42, 5, 182, 0, 92, 172, 3, 54, 8, 21, 8, 21, 7]
abbrev dktX19_handOf_4 : List UInt8 := dkwX19_handOf_4 ++ dktX19_handOf_5
def dkwX19_handOf_3 : List UInt8 := [25, 6, 21, 7, 46, 3, 42, 180, 1, 73, 180, 0, 194, 4, 100, 184, 0, 168, 154, 0, 21, 167, 0, 12]
abbrev dktX19_handOf_3 : List UInt8 := dkwX19_handOf_3 ++ dktX19_handOf_4
def dkwX19_handOf_2 : List UInt8 := [21, 5, 79, 3, 54, 7, 21, 7, 8, 162, 0, 107, 21, 7, 42, 180, 1, 73, 180, 0, 232, 162, 0, 27]
abbrev dktX19_handOf_2 : List UInt8 := dkwX19_handOf_2 ++ dktX19_handOf_3
def dkwX19_handOf_1 : List UInt8 := [25, 6, 3, 27, 79, 25, 6, 4, 28, 79, 25, 6, 5, 29, 79, 25, 6, 6, 21, 4, 79, 25, 6, 7]
abbrev dktX19_handOf_1 : List UInt8 := dkwX19_handOf_1 ++ dktX19_handOf_2
def dkwX19_handOf_0 : List UInt8 := [42, 3, 181, 0, 86, 42, 180, 1, 73, 199, 0, 9, 42, 4, 182, 0, 92, 172, 42, 180, 0, 20, 58, 6]
abbrev dktX19_handOf_0 : List UInt8 := dkwX19_handOf_0 ++ dktX19_handOf_1
theorem dksX19_handOf_0 : cX19_handOf.data.toList.drop 0 = dktX19_handOf_0 := by decide +kernel
theorem dksX19_handOf_1 : cX19_handOf.data.toList.drop 24 = dktX19_handOf_1 := dk_seg dksX19_handOf_0 24 rfl rfl
theorem dksX19_handOf_2 : cX19_handOf.data.toList.drop 48 = dktX19_handOf_2 := dk_seg dksX19_handOf_1 24 rfl rfl
theorem dksX19_handOf_3 : cX19_handOf.data.toList.drop 72 = dktX19_handOf_3 := dk_seg dksX19_handOf_2 24 rfl rfl
theorem dksX19_handOf_4 : cX19_handOf.data.toList.drop 96 = dktX19_handOf_4 := dk_seg dksX19_handOf_3 24 rfl rfl
theorem dksX19_handOf_5 : cX19_handOf.data.toList.drop 118 = dktX19_handOf_5 := dk_seg dksX19_handOf_4 22 rfl rfl
theorem dksX19_handOf_6 : cX19_handOf.data.toList.drop 142 = dktX19_handOf_6 := dk_seg dksX19_handOf_5 24 rfl rfl
theorem dksX19_handOf_7 : cX19_handOf.data.toList.drop 166 = dktX19_handOf_7 := dk_seg dksX19_handOf_6 24 rfl rfl
theorem dX19_handOf_0 : decode cX19_handOf 0 = .ok (.aload_n 0, 1) := dk_42 (dk_at dksX19_handOf_0 0 rfl rfl)
theorem dX19_handOf_1 : decode cX19_handOf 1 = .ok (.iconst 0, 1) := dk_3 (dk_at dksX19_handOf_0 1 rfl rfl)
theorem dX19_handOf_2 : decode cX19_handOf 2 = .ok (.putfield 86, 3) := dk_181 0 86 (dk_at dksX19_handOf_0 2 rfl rfl)
theorem dX19_handOf_5 : decode cX19_handOf 5 = .ok (.aload_n 0, 1) := dk_42 (dk_at dksX19_handOf_0 5 rfl rfl)
theorem dX19_handOf_6 : decode cX19_handOf 6 = .ok (.getfield 329, 3) := dk_180 1 73 (dk_at dksX19_handOf_0 6 rfl rfl)
theorem dX19_handOf_9 : decode cX19_handOf 9 = .ok (.ifnonnull 9, 3) := dk_199 0 9 (dk_at dksX19_handOf_0 9 rfl rfl)
theorem dX19_handOf_12 : decode cX19_handOf 12 = .ok (.aload_n 0, 1) := dk_42 (dk_at dksX19_handOf_0 12 rfl rfl)
theorem dX19_handOf_13 : decode cX19_handOf 13 = .ok (.iconst 1, 1) := dk_4 (dk_at dksX19_handOf_0 13 rfl rfl)
theorem dX19_handOf_14 : decode cX19_handOf 14 = .ok (.invokevirtual 92, 3) := dk_182 0 92 (dk_at dksX19_handOf_0 14 rfl rfl)
theorem dX19_handOf_17 : decode cX19_handOf 17 = .ok (.ireturn, 1) := dk_172 (dk_at dksX19_handOf_0 17 rfl rfl)
theorem dX19_handOf_18 : decode cX19_handOf 18 = .ok (.aload_n 0, 1) := dk_42 (dk_at dksX19_handOf_0 18 rfl rfl)
theorem dX19_handOf_19 : decode cX19_handOf 19 = .ok (.getfield 20, 3) := dk_180 0 20 (dk_at dksX19_handOf_0 19 rfl rfl)
theorem dX19_handOf_22 : decode cX19_handOf 22 = .ok (.astore 6, 2) := dk_58 6 (dk_at dksX19_handOf_0 22 rfl rfl)
theorem dX19_handOf_24 : decode cX19_handOf 24 = .ok (.aload 6, 2) := dk_25 6 (dk_at dksX19_handOf_1 0 rfl rfl)
theorem dX19_handOf_26 : decode cX19_handOf 26 = .ok (.iconst 0, 1) := dk_3 (dk_at dksX19_handOf_1 2 rfl rfl)
theorem dX19_handOf_27 : decode cX19_handOf 27 = .ok (.iload_n 1, 1) := dk_27 (dk_at dksX19_handOf_1 3 rfl rfl)
theorem dX19_handOf_28 : decode cX19_handOf 28 = .ok (.iastore, 1) := dk_79 (dk_at dksX19_handOf_1 4 rfl rfl)
theorem dX19_handOf_29 : decode cX19_handOf 29 = .ok (.aload 6, 2) := dk_25 6 (dk_at dksX19_handOf_1 5 rfl rfl)
theorem dX19_handOf_31 : decode cX19_handOf 31 = .ok (.iconst 1, 1) := dk_4 (dk_at dksX19_handOf_1 7 rfl rfl)
theorem dX19_handOf_32 : decode cX19_handOf 32 = .ok (.iload_n 2, 1) := dk_28 (dk_at dksX19_handOf_1 8 rfl rfl)
theorem dX19_handOf_33 : decode cX19_handOf 33 = .ok (.iastore, 1) := dk_79 (dk_at dksX19_handOf_1 9 rfl rfl)
theorem dX19_handOf_34 : decode cX19_handOf 34 = .ok (.aload 6, 2) := dk_25 6 (dk_at dksX19_handOf_1 10 rfl rfl)
theorem dX19_handOf_36 : decode cX19_handOf 36 = .ok (.iconst 2, 1) := dk_5 (dk_at dksX19_handOf_1 12 rfl rfl)
theorem dX19_handOf_37 : decode cX19_handOf 37 = .ok (.iload_n 3, 1) := dk_29 (dk_at dksX19_handOf_1 13 rfl rfl)
theorem dX19_handOf_38 : decode cX19_handOf 38 = .ok (.iastore, 1) := dk_79 (dk_at dksX19_handOf_1 14 rfl rfl)
theorem dX19_handOf_39 : decode cX19_handOf 39 = .ok (.aload 6, 2) := dk_25 6 (dk_at dksX19_handOf_1 15 rfl rfl)
theorem dX19_handOf_41 : decode cX19_handOf 41 = .ok (.iconst 3, 1) := dk_6 (dk_at dksX19_handOf_1 17 rfl rfl)
theorem dX19_handOf_42 : decode cX19_handOf 42 = .ok (.iload 4, 2) := dk_21 4 (dk_at dksX19_handOf_1 18 rfl rfl)
theorem dX19_handOf_44 : decode cX19_handOf 44 = .ok (.iastore, 1) := dk_79 (dk_at dksX19_handOf_1 20 rfl rfl)
theorem dX19_handOf_45 : decode cX19_handOf 45 = .ok (.aload 6, 2) := dk_25 6 (dk_at dksX19_handOf_1 21 rfl rfl)
theorem dX19_handOf_47 : decode cX19_handOf 47 = .ok (.iconst 4, 1) := dk_7 (dk_at dksX19_handOf_1 23 rfl rfl)
theorem dX19_handOf_48 : decode cX19_handOf 48 = .ok (.iload 5, 2) := dk_21 5 (dk_at dksX19_handOf_2 0 rfl rfl)
theorem dX19_handOf_50 : decode cX19_handOf 50 = .ok (.iastore, 1) := dk_79 (dk_at dksX19_handOf_2 2 rfl rfl)
theorem dX19_handOf_51 : decode cX19_handOf 51 = .ok (.iconst 0, 1) := dk_3 (dk_at dksX19_handOf_2 3 rfl rfl)
theorem dX19_handOf_52 : decode cX19_handOf 52 = .ok (.istore 7, 2) := dk_54 7 (dk_at dksX19_handOf_2 4 rfl rfl)
theorem dX19_handOf_54 : decode cX19_handOf 54 = .ok (.iload 7, 2) := dk_21 7 (dk_at dksX19_handOf_2 6 rfl rfl)
theorem dX19_handOf_56 : decode cX19_handOf 56 = .ok (.iconst 5, 1) := dk_8 (dk_at dksX19_handOf_2 8 rfl rfl)
theorem dX19_handOf_57 : decode cX19_handOf 57 = .ok (.if_icmp .ge 107, 3) := dk_162 0 107 (dk_at dksX19_handOf_2 9 rfl rfl)
theorem dX19_handOf_60 : decode cX19_handOf 60 = .ok (.iload 7, 2) := dk_21 7 (dk_at dksX19_handOf_2 12 rfl rfl)
theorem dX19_handOf_62 : decode cX19_handOf 62 = .ok (.aload_n 0, 1) := dk_42 (dk_at dksX19_handOf_2 14 rfl rfl)
theorem dX19_handOf_63 : decode cX19_handOf 63 = .ok (.getfield 329, 3) := dk_180 1 73 (dk_at dksX19_handOf_2 15 rfl rfl)
theorem dX19_handOf_66 : decode cX19_handOf 66 = .ok (.getfield 232, 3) := dk_180 0 232 (dk_at dksX19_handOf_2 18 rfl rfl)
theorem dX19_handOf_69 : decode cX19_handOf 69 = .ok (.if_icmp .ge 27, 3) := dk_162 0 27 (dk_at dksX19_handOf_2 21 rfl rfl)
theorem dX19_handOf_72 : decode cX19_handOf 72 = .ok (.aload 6, 2) := dk_25 6 (dk_at dksX19_handOf_3 0 rfl rfl)
theorem dX19_handOf_74 : decode cX19_handOf 74 = .ok (.iload 7, 2) := dk_21 7 (dk_at dksX19_handOf_3 2 rfl rfl)
theorem dX19_handOf_76 : decode cX19_handOf 76 = .ok (.iaload, 1) := dk_46 (dk_at dksX19_handOf_3 4 rfl rfl)
theorem dX19_handOf_77 : decode cX19_handOf 77 = .ok (.iconst 0, 1) := dk_3 (dk_at dksX19_handOf_3 5 rfl rfl)
theorem dX19_handOf_78 : decode cX19_handOf 78 = .ok (.aload_n 0, 1) := dk_42 (dk_at dksX19_handOf_3 6 rfl rfl)
theorem dX19_handOf_79 : decode cX19_handOf 79 = .ok (.getfield 329, 3) := dk_180 1 73 (dk_at dksX19_handOf_3 7 rfl rfl)
theorem dX19_handOf_82 : decode cX19_handOf 82 = .ok (.getfield 194, 3) := dk_180 0 194 (dk_at dksX19_handOf_3 10 rfl rfl)
theorem dX19_handOf_85 : decode cX19_handOf 85 = .ok (.iconst 1, 1) := dk_4 (dk_at dksX19_handOf_3 13 rfl rfl)
theorem dX19_handOf_86 : decode cX19_handOf 86 = .ok (.isub, 1) := dk_100 (dk_at dksX19_handOf_3 14 rfl rfl)
theorem dX19_handOf_87 : decode cX19_handOf 87 = .ok (.invokestatic 168, 3) := dk_184 0 168 (dk_at dksX19_handOf_3 15 rfl rfl)
theorem dX19_handOf_90 : decode cX19_handOf 90 = .ok (.ifCond .ne 21, 3) := dk_154 0 21 (dk_at dksX19_handOf_3 18 rfl rfl)
theorem dX19_handOf_93 : decode cX19_handOf 93 = .ok (.goto 12, 3) := dk_167 0 12 (dk_at dksX19_handOf_3 21 rfl rfl)
theorem dX19_handOf_96 : decode cX19_handOf 96 = .ok (.aload 6, 2) := dk_25 6 (dk_at dksX19_handOf_4 0 rfl rfl)
theorem dX19_handOf_98 : decode cX19_handOf 98 = .ok (.iload 7, 2) := dk_21 7 (dk_at dksX19_handOf_4 2 rfl rfl)
theorem dX19_handOf_100 : decode cX19_handOf 100 = .ok (.iaload, 1) := dk_46 (dk_at dksX19_handOf_4 4 rfl rfl)
theorem dX19_handOf_101 : decode cX19_handOf 101 = .ok (.iconst (-1), 1) := dk_2 (dk_at dksX19_handOf_4 5 rfl rfl)
theorem dX19_handOf_102 : decode cX19_handOf 102 = .ok (.if_icmp .eq 9, 3) := dk_159 0 9 (dk_at dksX19_handOf_4 6 rfl rfl)
theorem dX19_handOf_105 : decode cX19_handOf 105 = .ok (.aload_n 0, 1) := dk_42 (dk_at dksX19_handOf_4 9 rfl rfl)
theorem dX19_handOf_106 : decode cX19_handOf 106 = .ok (.iconst 2, 1) := dk_5 (dk_at dksX19_handOf_4 10 rfl rfl)
theorem dX19_handOf_107 : decode cX19_handOf 107 = .ok (.invokevirtual 92, 3) := dk_182 0 92 (dk_at dksX19_handOf_4 11 rfl rfl)
theorem dX19_handOf_110 : decode cX19_handOf 110 = .ok (.ireturn, 1) := dk_172 (dk_at dksX19_handOf_4 14 rfl rfl)
theorem dX19_handOf_111 : decode cX19_handOf 111 = .ok (.iconst 0, 1) := dk_3 (dk_at dksX19_handOf_4 15 rfl rfl)
theorem dX19_handOf_112 : decode cX19_handOf 112 = .ok (.istore 8, 2) := dk_54 8 (dk_at dksX19_handOf_4 16 rfl rfl)
theorem dX19_handOf_114 : decode cX19_handOf 114 = .ok (.iload 8, 2) := dk_21 8 (dk_at dksX19_handOf_4 18 rfl rfl)
theorem dX19_handOf_116 : decode cX19_handOf 116 = .ok (.iload 7, 2) := dk_21 7 (dk_at dksX19_handOf_4 20 rfl rfl)
theorem dX19_handOf_118 : decode cX19_handOf 118 = .ok (.if_icmp .ge 40, 3) := dk_162 0 40 (dk_at dksX19_handOf_5 0 rfl rfl)
theorem dX19_handOf_121 : decode cX19_handOf 121 = .ok (.iload 7, 2) := dk_21 7 (dk_at dksX19_handOf_5 3 rfl rfl)
theorem dX19_handOf_123 : decode cX19_handOf 123 = .ok (.aload_n 0, 1) := dk_42 (dk_at dksX19_handOf_5 5 rfl rfl)
theorem dX19_handOf_124 : decode cX19_handOf 124 = .ok (.getfield 329, 3) := dk_180 1 73 (dk_at dksX19_handOf_5 6 rfl rfl)
theorem dX19_handOf_127 : decode cX19_handOf 127 = .ok (.getfield 232, 3) := dk_180 0 232 (dk_at dksX19_handOf_5 9 rfl rfl)
theorem dX19_handOf_130 : decode cX19_handOf 130 = .ok (.if_icmp .ge 28, 3) := dk_162 0 28 (dk_at dksX19_handOf_5 12 rfl rfl)
theorem dX19_handOf_133 : decode cX19_handOf 133 = .ok (.aload 6, 2) := dk_25 6 (dk_at dksX19_handOf_5 15 rfl rfl)
theorem dX19_handOf_135 : decode cX19_handOf 135 = .ok (.iload 8, 2) := dk_21 8 (dk_at dksX19_handOf_5 17 rfl rfl)
theorem dX19_handOf_137 : decode cX19_handOf 137 = .ok (.iaload, 1) := dk_46 (dk_at dksX19_handOf_5 19 rfl rfl)
theorem dX19_handOf_138 : decode cX19_handOf 138 = .ok (.aload 6, 2) := dk_25 6 (dk_at dksX19_handOf_5 20 rfl rfl)
theorem dX19_handOf_140 : decode cX19_handOf 140 = .ok (.iload 7, 2) := dk_21 7 (dk_at dksX19_handOf_5 22 rfl rfl)
theorem dX19_handOf_142 : decode cX19_handOf 142 = .ok (.iaload, 1) := dk_46 (dk_at dksX19_handOf_6 0 rfl rfl)
theorem dX19_handOf_143 : decode cX19_handOf 143 = .ok (.if_icmp .ne 9, 3) := dk_160 0 9 (dk_at dksX19_handOf_6 1 rfl rfl)
theorem dX19_handOf_146 : decode cX19_handOf 146 = .ok (.aload_n 0, 1) := dk_42 (dk_at dksX19_handOf_6 4 rfl rfl)
theorem dX19_handOf_147 : decode cX19_handOf 147 = .ok (.iconst 2, 1) := dk_5 (dk_at dksX19_handOf_6 5 rfl rfl)
theorem dX19_handOf_148 : decode cX19_handOf 148 = .ok (.invokevirtual 92, 3) := dk_182 0 92 (dk_at dksX19_handOf_6 6 rfl rfl)
theorem dX19_handOf_151 : decode cX19_handOf 151 = .ok (.ireturn, 1) := dk_172 (dk_at dksX19_handOf_6 9 rfl rfl)
theorem dX19_handOf_152 : decode cX19_handOf 152 = .ok (.iinc 8 1, 3) := dk_132 8 1 (dk_at dksX19_handOf_6 10 rfl rfl)
theorem dX19_handOf_155 : decode cX19_handOf 155 = .ok (.goto (-41), 3) := dk_167 255 215 (dk_at dksX19_handOf_6 13 rfl rfl)
theorem dX19_handOf_158 : decode cX19_handOf 158 = .ok (.iinc 7 1, 3) := dk_132 7 1 (dk_at dksX19_handOf_6 16 rfl rfl)
theorem dX19_handOf_161 : decode cX19_handOf 161 = .ok (.goto (-107), 3) := dk_167 255 149 (dk_at dksX19_handOf_6 19 rfl rfl)
theorem dX19_handOf_164 : decode cX19_handOf 164 = .ok (.aload_n 0, 1) := dk_42 (dk_at dksX19_handOf_6 22 rfl rfl)
theorem dX19_handOf_165 : decode cX19_handOf 165 = .ok (.aload_n 0, 1) := dk_42 (dk_at dksX19_handOf_6 23 rfl rfl)
theorem dX19_handOf_166 : decode cX19_handOf 166 = .ok (.aload 6, 2) := dk_25 6 (dk_at dksX19_handOf_7 0 rfl rfl)
theorem dX19_handOf_168 : decode cX19_handOf 168 = .ok (.iconst 0, 1) := dk_3 (dk_at dksX19_handOf_7 2 rfl rfl)
theorem dX19_handOf_169 : decode cX19_handOf 169 = .ok (.invokevirtual 347, 3) := dk_182 1 91 (dk_at dksX19_handOf_7 3 rfl rfl)
theorem dX19_handOf_172 : decode cX19_handOf 172 = .ok (.invokevirtual 96, 3) := dk_182 0 96 (dk_at dksX19_handOf_7 6 rfl rfl)
theorem dX19_handOf_175 : decode cX19_handOf 175 = .ok (.ireturn, 1) := dk_172 (dk_at dksX19_handOf_7 9 rfl rfl)
abbrev cX19_row : ByteArray := prog_23_method_53_code
def yX19_row : MethodName := ⟨RX19, "row", "(II)I"⟩
def dkwX19_row_2 : List UInt8 := [180, 0, 24, 28, 46, 182, 0, 96, 172]
abbrev dktX19_row_2 : List UInt8 := dkwX19_row_2 ++ []
def dkwX19_row_1 : List UInt8 := [184, 0, 168, 154, 0, 9, 42, 4, 182, 0, 92, 172, 42, 27, 42, 180, 0, 24, 182, 1, 125, 42, 42]
abbrev dktX19_row_1 : List UInt8 := dkwX19_row_1 ++ dktX19_row_2
def dkwX19_row_0 : List UInt8 := [42, 3, 181, 0, 86, 42, 27, 182, 1, 122, 153, 0, 20, 28, 3, 42, 180, 1, 73, 180, 1, 1, 4, 100]
abbrev dktX19_row_0 : List UInt8 := dkwX19_row_0 ++ dktX19_row_1
theorem dksX19_row_0 : cX19_row.data.toList.drop 0 = dktX19_row_0 := by decide +kernel
theorem dksX19_row_1 : cX19_row.data.toList.drop 24 = dktX19_row_1 := dk_seg dksX19_row_0 24 rfl rfl
theorem dksX19_row_2 : cX19_row.data.toList.drop 47 = dktX19_row_2 := dk_seg dksX19_row_1 23 rfl rfl
theorem dX19_row_0 : decode cX19_row 0 = .ok (.aload_n 0, 1) := dk_42 (dk_at dksX19_row_0 0 rfl rfl)
theorem dX19_row_1 : decode cX19_row 1 = .ok (.iconst 0, 1) := dk_3 (dk_at dksX19_row_0 1 rfl rfl)
theorem dX19_row_2 : decode cX19_row 2 = .ok (.putfield 86, 3) := dk_181 0 86 (dk_at dksX19_row_0 2 rfl rfl)
theorem dX19_row_5 : decode cX19_row 5 = .ok (.aload_n 0, 1) := dk_42 (dk_at dksX19_row_0 5 rfl rfl)
theorem dX19_row_6 : decode cX19_row 6 = .ok (.iload_n 1, 1) := dk_27 (dk_at dksX19_row_0 6 rfl rfl)
theorem dX19_row_7 : decode cX19_row 7 = .ok (.invokevirtual 378, 3) := dk_182 1 122 (dk_at dksX19_row_0 7 rfl rfl)
theorem dX19_row_10 : decode cX19_row 10 = .ok (.ifCond .eq 20, 3) := dk_153 0 20 (dk_at dksX19_row_0 10 rfl rfl)
theorem dX19_row_13 : decode cX19_row 13 = .ok (.iload_n 2, 1) := dk_28 (dk_at dksX19_row_0 13 rfl rfl)
theorem dX19_row_14 : decode cX19_row 14 = .ok (.iconst 0, 1) := dk_3 (dk_at dksX19_row_0 14 rfl rfl)
theorem dX19_row_15 : decode cX19_row 15 = .ok (.aload_n 0, 1) := dk_42 (dk_at dksX19_row_0 15 rfl rfl)
theorem dX19_row_16 : decode cX19_row 16 = .ok (.getfield 329, 3) := dk_180 1 73 (dk_at dksX19_row_0 16 rfl rfl)
theorem dX19_row_19 : decode cX19_row 19 = .ok (.getfield 257, 3) := dk_180 1 1 (dk_at dksX19_row_0 19 rfl rfl)
theorem dX19_row_22 : decode cX19_row 22 = .ok (.iconst 1, 1) := dk_4 (dk_at dksX19_row_0 22 rfl rfl)
theorem dX19_row_23 : decode cX19_row 23 = .ok (.isub, 1) := dk_100 (dk_at dksX19_row_0 23 rfl rfl)
theorem dX19_row_24 : decode cX19_row 24 = .ok (.invokestatic 168, 3) := dk_184 0 168 (dk_at dksX19_row_1 0 rfl rfl)
theorem dX19_row_27 : decode cX19_row 27 = .ok (.ifCond .ne 9, 3) := dk_154 0 9 (dk_at dksX19_row_1 3 rfl rfl)
theorem dX19_row_30 : decode cX19_row 30 = .ok (.aload_n 0, 1) := dk_42 (dk_at dksX19_row_1 6 rfl rfl)
theorem dX19_row_31 : decode cX19_row 31 = .ok (.iconst 1, 1) := dk_4 (dk_at dksX19_row_1 7 rfl rfl)
theorem dX19_row_32 : decode cX19_row 32 = .ok (.invokevirtual 92, 3) := dk_182 0 92 (dk_at dksX19_row_1 8 rfl rfl)
theorem dX19_row_35 : decode cX19_row 35 = .ok (.ireturn, 1) := dk_172 (dk_at dksX19_row_1 11 rfl rfl)
theorem dX19_row_36 : decode cX19_row 36 = .ok (.aload_n 0, 1) := dk_42 (dk_at dksX19_row_1 12 rfl rfl)
theorem dX19_row_37 : decode cX19_row 37 = .ok (.iload_n 1, 1) := dk_27 (dk_at dksX19_row_1 13 rfl rfl)
theorem dX19_row_38 : decode cX19_row 38 = .ok (.aload_n 0, 1) := dk_42 (dk_at dksX19_row_1 14 rfl rfl)
theorem dX19_row_39 : decode cX19_row 39 = .ok (.getfield 24, 3) := dk_180 0 24 (dk_at dksX19_row_1 15 rfl rfl)
theorem dX19_row_42 : decode cX19_row 42 = .ok (.invokevirtual 381, 3) := dk_182 1 125 (dk_at dksX19_row_1 18 rfl rfl)
theorem dX19_row_45 : decode cX19_row 45 = .ok (.aload_n 0, 1) := dk_42 (dk_at dksX19_row_1 21 rfl rfl)
theorem dX19_row_46 : decode cX19_row 46 = .ok (.aload_n 0, 1) := dk_42 (dk_at dksX19_row_1 22 rfl rfl)
theorem dX19_row_47 : decode cX19_row 47 = .ok (.getfield 24, 3) := dk_180 0 24 (dk_at dksX19_row_2 0 rfl rfl)
theorem dX19_row_50 : decode cX19_row 50 = .ok (.iload_n 2, 1) := dk_28 (dk_at dksX19_row_2 3 rfl rfl)
theorem dX19_row_51 : decode cX19_row 51 = .ok (.iaload, 1) := dk_46 (dk_at dksX19_row_2 4 rfl rfl)
theorem dX19_row_52 : decode cX19_row 52 = .ok (.invokevirtual 96, 3) := dk_182 0 96 (dk_at dksX19_row_2 5 rfl rfl)
theorem dX19_row_55 : decode cX19_row 55 = .ok (.ireturn, 1) := dk_172 (dk_at dksX19_row_2 8 rfl rfl)
abbrev cX19_isRow : ByteArray := prog_23_method_48_code
def yX19_isRow : MethodName := ⟨RX19, "isRow", "(I)Z"⟩
def dkwX19_isRow_1 : List UInt8 := [172]
abbrev dktX19_isRow_1 : List UInt8 := dkwX19_isRow_1 ++ []
def dkwX19_isRow_0 : List UInt8 := [42, 180, 1, 73, 198, 0, 19, 27, 155, 0, 15, 27, 42, 182, 1, 116, 162, 0, 7, 4, 167, 0, 4, 3]
abbrev dktX19_isRow_0 : List UInt8 := dkwX19_isRow_0 ++ dktX19_isRow_1
theorem dksX19_isRow_0 : cX19_isRow.data.toList.drop 0 = dktX19_isRow_0 := by decide +kernel
theorem dksX19_isRow_1 : cX19_isRow.data.toList.drop 24 = dktX19_isRow_1 := dk_seg dksX19_isRow_0 24 rfl rfl
theorem dX19_isRow_0 : decode cX19_isRow 0 = .ok (.aload_n 0, 1) := dk_42 (dk_at dksX19_isRow_0 0 rfl rfl)
theorem dX19_isRow_1 : decode cX19_isRow 1 = .ok (.getfield 329, 3) := dk_180 1 73 (dk_at dksX19_isRow_0 1 rfl rfl)
theorem dX19_isRow_4 : decode cX19_isRow 4 = .ok (.ifnull 19, 3) := dk_198 0 19 (dk_at dksX19_isRow_0 4 rfl rfl)
theorem dX19_isRow_7 : decode cX19_isRow 7 = .ok (.iload_n 1, 1) := dk_27 (dk_at dksX19_isRow_0 7 rfl rfl)
theorem dX19_isRow_8 : decode cX19_isRow 8 = .ok (.ifCond .lt 15, 3) := dk_155 0 15 (dk_at dksX19_isRow_0 8 rfl rfl)
theorem dX19_isRow_11 : decode cX19_isRow 11 = .ok (.iload_n 1, 1) := dk_27 (dk_at dksX19_isRow_0 11 rfl rfl)
theorem dX19_isRow_12 : decode cX19_isRow 12 = .ok (.aload_n 0, 1) := dk_42 (dk_at dksX19_isRow_0 12 rfl rfl)
theorem dX19_isRow_13 : decode cX19_isRow 13 = .ok (.invokevirtual 372, 3) := dk_182 1 116 (dk_at dksX19_isRow_0 13 rfl rfl)
theorem dX19_isRow_16 : decode cX19_isRow 16 = .ok (.if_icmp .ge 7, 3) := dk_162 0 7 (dk_at dksX19_isRow_0 16 rfl rfl)
theorem dX19_isRow_19 : decode cX19_isRow 19 = .ok (.iconst 1, 1) := dk_4 (dk_at dksX19_isRow_0 19 rfl rfl)
theorem dX19_isRow_20 : decode cX19_isRow 20 = .ok (.goto 4, 3) := dk_167 0 4 (dk_at dksX19_isRow_0 20 rfl rfl)
theorem dX19_isRow_23 : decode cX19_isRow 23 = .ok (.iconst 0, 1) := dk_3 (dk_at dksX19_isRow_0 23 rfl rfl)
theorem dX19_isRow_24 : decode cX19_isRow 24 = .ok (.ireturn, 1) := dk_172 (dk_at dksX19_isRow_1 0 rfl rfl)
abbrev cX19_rowCards : ByteArray := prog_23_method_45_code
def yX19_rowCards : MethodName := ⟨RX19, "rowCards", "(I[I)V"⟩
def dkwX19_rowCards_6 : List UInt8 := [21, 7, 79, 132, 6, 1, 167, 255, 181, 177]
abbrev dktX19_rowCards_6 : List UInt8 := dkwX19_rowCards_6 ++ []
def dkwX19_rowCards_5 : List UInt8 := [154, 0, 6, 132, 8, 255, 132, 7, 1, 167, 255, 224, 21, 5, 4, 21, 7, 120, 128, 54, 5, 44, 21, 6]
abbrev dktX19_rowCards_5 : List UInt8 := dkwX19_rowCards_5 ++ dktX19_rowCards_6
def dkwX19_rowCards_4 : List UInt8 := [21, 5, 21, 7, 122, 4, 126, 4, 159, 0, 8, 21, 8, 158, 0, 22, 21, 5, 21, 7, 122, 4, 126]
abbrev dktX19_rowCards_4 : List UInt8 := dkwX19_rowCards_4 ++ dktX19_rowCards_5
def dkwX19_rowCards_3 : List UInt8 := [54, 6, 21, 6, 42, 180, 1, 73, 180, 1, 1, 162, 0, 69, 3, 54, 7, 25, 4, 21, 6, 46, 54, 8]
abbrev dktX19_rowCards_3 : List UInt8 := dkwX19_rowCards_3 ++ dktX19_rowCards_4
def dkwX19_rowCards_2 : List UInt8 := [79, 29, 42, 180, 1, 73, 180, 0, 194, 21, 5, 100, 108, 62, 132, 5, 255, 167, 255, 218, 3, 54, 5, 3]
abbrev dktX19_rowCards_2 : List UInt8 := dkwX19_rowCards_2 ++ dktX19_rowCards_3
def dkwX19_rowCards_1 : List UInt8 := [100, 54, 5, 21, 5, 155, 0, 39, 25, 4, 21, 5, 29, 42, 180, 1, 73, 180, 0, 194, 21, 5, 100, 112]
abbrev dktX19_rowCards_1 : List UInt8 := dkwX19_rowCards_1 ++ dktX19_rowCards_2
def dkwX19_rowCards_0 : List UInt8 := [27, 42, 180, 1, 73, 182, 1, 98, 108, 62, 42, 180, 0, 27, 58, 4, 42, 180, 1, 73, 180, 1, 1, 4]
abbrev dktX19_rowCards_0 : List UInt8 := dkwX19_rowCards_0 ++ dktX19_rowCards_1
theorem dksX19_rowCards_0 : cX19_rowCards.data.toList.drop 0 = dktX19_rowCards_0 := by decide +kernel
theorem dksX19_rowCards_1 : cX19_rowCards.data.toList.drop 24 = dktX19_rowCards_1 := dk_seg dksX19_rowCards_0 24 rfl rfl
theorem dksX19_rowCards_2 : cX19_rowCards.data.toList.drop 48 = dktX19_rowCards_2 := dk_seg dksX19_rowCards_1 24 rfl rfl
theorem dksX19_rowCards_3 : cX19_rowCards.data.toList.drop 72 = dktX19_rowCards_3 := dk_seg dksX19_rowCards_2 24 rfl rfl
theorem dksX19_rowCards_4 : cX19_rowCards.data.toList.drop 96 = dktX19_rowCards_4 := dk_seg dksX19_rowCards_3 24 rfl rfl
theorem dksX19_rowCards_5 : cX19_rowCards.data.toList.drop 119 = dktX19_rowCards_5 := dk_seg dksX19_rowCards_4 23 rfl rfl
theorem dksX19_rowCards_6 : cX19_rowCards.data.toList.drop 143 = dktX19_rowCards_6 := dk_seg dksX19_rowCards_5 24 rfl rfl
theorem dX19_rowCards_0 : decode cX19_rowCards 0 = .ok (.iload_n 1, 1) := dk_27 (dk_at dksX19_rowCards_0 0 rfl rfl)
theorem dX19_rowCards_1 : decode cX19_rowCards 1 = .ok (.aload_n 0, 1) := dk_42 (dk_at dksX19_rowCards_0 1 rfl rfl)
theorem dX19_rowCards_2 : decode cX19_rowCards 2 = .ok (.getfield 329, 3) := dk_180 1 73 (dk_at dksX19_rowCards_0 2 rfl rfl)
theorem dX19_rowCards_5 : decode cX19_rowCards 5 = .ok (.invokevirtual 354, 3) := dk_182 1 98 (dk_at dksX19_rowCards_0 5 rfl rfl)
theorem dX19_rowCards_8 : decode cX19_rowCards 8 = .ok (.idiv, 1) := dk_108 (dk_at dksX19_rowCards_0 8 rfl rfl)
theorem dX19_rowCards_9 : decode cX19_rowCards 9 = .ok (.istore_n 3, 1) := dk_62 (dk_at dksX19_rowCards_0 9 rfl rfl)
theorem dX19_rowCards_10 : decode cX19_rowCards 10 = .ok (.aload_n 0, 1) := dk_42 (dk_at dksX19_rowCards_0 10 rfl rfl)
theorem dX19_rowCards_11 : decode cX19_rowCards 11 = .ok (.getfield 27, 3) := dk_180 0 27 (dk_at dksX19_rowCards_0 11 rfl rfl)
theorem dX19_rowCards_14 : decode cX19_rowCards 14 = .ok (.astore 4, 2) := dk_58 4 (dk_at dksX19_rowCards_0 14 rfl rfl)
theorem dX19_rowCards_16 : decode cX19_rowCards 16 = .ok (.aload_n 0, 1) := dk_42 (dk_at dksX19_rowCards_0 16 rfl rfl)
theorem dX19_rowCards_17 : decode cX19_rowCards 17 = .ok (.getfield 329, 3) := dk_180 1 73 (dk_at dksX19_rowCards_0 17 rfl rfl)
theorem dX19_rowCards_20 : decode cX19_rowCards 20 = .ok (.getfield 257, 3) := dk_180 1 1 (dk_at dksX19_rowCards_0 20 rfl rfl)
theorem dX19_rowCards_23 : decode cX19_rowCards 23 = .ok (.iconst 1, 1) := dk_4 (dk_at dksX19_rowCards_0 23 rfl rfl)
theorem dX19_rowCards_24 : decode cX19_rowCards 24 = .ok (.isub, 1) := dk_100 (dk_at dksX19_rowCards_1 0 rfl rfl)
theorem dX19_rowCards_25 : decode cX19_rowCards 25 = .ok (.istore 5, 2) := dk_54 5 (dk_at dksX19_rowCards_1 1 rfl rfl)
theorem dX19_rowCards_27 : decode cX19_rowCards 27 = .ok (.iload 5, 2) := dk_21 5 (dk_at dksX19_rowCards_1 3 rfl rfl)
theorem dX19_rowCards_29 : decode cX19_rowCards 29 = .ok (.ifCond .lt 39, 3) := dk_155 0 39 (dk_at dksX19_rowCards_1 5 rfl rfl)
theorem dX19_rowCards_32 : decode cX19_rowCards 32 = .ok (.aload 4, 2) := dk_25 4 (dk_at dksX19_rowCards_1 8 rfl rfl)
theorem dX19_rowCards_34 : decode cX19_rowCards 34 = .ok (.iload 5, 2) := dk_21 5 (dk_at dksX19_rowCards_1 10 rfl rfl)
theorem dX19_rowCards_36 : decode cX19_rowCards 36 = .ok (.iload_n 3, 1) := dk_29 (dk_at dksX19_rowCards_1 12 rfl rfl)
theorem dX19_rowCards_37 : decode cX19_rowCards 37 = .ok (.aload_n 0, 1) := dk_42 (dk_at dksX19_rowCards_1 13 rfl rfl)
theorem dX19_rowCards_38 : decode cX19_rowCards 38 = .ok (.getfield 329, 3) := dk_180 1 73 (dk_at dksX19_rowCards_1 14 rfl rfl)
theorem dX19_rowCards_41 : decode cX19_rowCards 41 = .ok (.getfield 194, 3) := dk_180 0 194 (dk_at dksX19_rowCards_1 17 rfl rfl)
theorem dX19_rowCards_44 : decode cX19_rowCards 44 = .ok (.iload 5, 2) := dk_21 5 (dk_at dksX19_rowCards_1 20 rfl rfl)
theorem dX19_rowCards_46 : decode cX19_rowCards 46 = .ok (.isub, 1) := dk_100 (dk_at dksX19_rowCards_1 22 rfl rfl)
theorem dX19_rowCards_47 : decode cX19_rowCards 47 = .ok (.irem, 1) := dk_112 (dk_at dksX19_rowCards_1 23 rfl rfl)
theorem dX19_rowCards_48 : decode cX19_rowCards 48 = .ok (.iastore, 1) := dk_79 (dk_at dksX19_rowCards_2 0 rfl rfl)
theorem dX19_rowCards_49 : decode cX19_rowCards 49 = .ok (.iload_n 3, 1) := dk_29 (dk_at dksX19_rowCards_2 1 rfl rfl)
theorem dX19_rowCards_50 : decode cX19_rowCards 50 = .ok (.aload_n 0, 1) := dk_42 (dk_at dksX19_rowCards_2 2 rfl rfl)
theorem dX19_rowCards_51 : decode cX19_rowCards 51 = .ok (.getfield 329, 3) := dk_180 1 73 (dk_at dksX19_rowCards_2 3 rfl rfl)
theorem dX19_rowCards_54 : decode cX19_rowCards 54 = .ok (.getfield 194, 3) := dk_180 0 194 (dk_at dksX19_rowCards_2 6 rfl rfl)
theorem dX19_rowCards_57 : decode cX19_rowCards 57 = .ok (.iload 5, 2) := dk_21 5 (dk_at dksX19_rowCards_2 9 rfl rfl)
theorem dX19_rowCards_59 : decode cX19_rowCards 59 = .ok (.isub, 1) := dk_100 (dk_at dksX19_rowCards_2 11 rfl rfl)
theorem dX19_rowCards_60 : decode cX19_rowCards 60 = .ok (.idiv, 1) := dk_108 (dk_at dksX19_rowCards_2 12 rfl rfl)
theorem dX19_rowCards_61 : decode cX19_rowCards 61 = .ok (.istore_n 3, 1) := dk_62 (dk_at dksX19_rowCards_2 13 rfl rfl)
theorem dX19_rowCards_62 : decode cX19_rowCards 62 = .ok (.iinc 5 (-1), 3) := dk_132 5 255 (dk_at dksX19_rowCards_2 14 rfl rfl)
theorem dX19_rowCards_65 : decode cX19_rowCards 65 = .ok (.goto (-38), 3) := dk_167 255 218 (dk_at dksX19_rowCards_2 17 rfl rfl)
theorem dX19_rowCards_68 : decode cX19_rowCards 68 = .ok (.iconst 0, 1) := dk_3 (dk_at dksX19_rowCards_2 20 rfl rfl)
theorem dX19_rowCards_69 : decode cX19_rowCards 69 = .ok (.istore 5, 2) := dk_54 5 (dk_at dksX19_rowCards_2 21 rfl rfl)
theorem dX19_rowCards_71 : decode cX19_rowCards 71 = .ok (.iconst 0, 1) := dk_3 (dk_at dksX19_rowCards_2 23 rfl rfl)
theorem dX19_rowCards_72 : decode cX19_rowCards 72 = .ok (.istore 6, 2) := dk_54 6 (dk_at dksX19_rowCards_3 0 rfl rfl)
theorem dX19_rowCards_74 : decode cX19_rowCards 74 = .ok (.iload 6, 2) := dk_21 6 (dk_at dksX19_rowCards_3 2 rfl rfl)
theorem dX19_rowCards_76 : decode cX19_rowCards 76 = .ok (.aload_n 0, 1) := dk_42 (dk_at dksX19_rowCards_3 4 rfl rfl)
theorem dX19_rowCards_77 : decode cX19_rowCards 77 = .ok (.getfield 329, 3) := dk_180 1 73 (dk_at dksX19_rowCards_3 5 rfl rfl)
theorem dX19_rowCards_80 : decode cX19_rowCards 80 = .ok (.getfield 257, 3) := dk_180 1 1 (dk_at dksX19_rowCards_3 8 rfl rfl)
theorem dX19_rowCards_83 : decode cX19_rowCards 83 = .ok (.if_icmp .ge 69, 3) := dk_162 0 69 (dk_at dksX19_rowCards_3 11 rfl rfl)
theorem dX19_rowCards_86 : decode cX19_rowCards 86 = .ok (.iconst 0, 1) := dk_3 (dk_at dksX19_rowCards_3 14 rfl rfl)
theorem dX19_rowCards_87 : decode cX19_rowCards 87 = .ok (.istore 7, 2) := dk_54 7 (dk_at dksX19_rowCards_3 15 rfl rfl)
theorem dX19_rowCards_89 : decode cX19_rowCards 89 = .ok (.aload 4, 2) := dk_25 4 (dk_at dksX19_rowCards_3 17 rfl rfl)
theorem dX19_rowCards_91 : decode cX19_rowCards 91 = .ok (.iload 6, 2) := dk_21 6 (dk_at dksX19_rowCards_3 19 rfl rfl)
theorem dX19_rowCards_93 : decode cX19_rowCards 93 = .ok (.iaload, 1) := dk_46 (dk_at dksX19_rowCards_3 21 rfl rfl)
theorem dX19_rowCards_94 : decode cX19_rowCards 94 = .ok (.istore 8, 2) := dk_54 8 (dk_at dksX19_rowCards_3 22 rfl rfl)
theorem dX19_rowCards_96 : decode cX19_rowCards 96 = .ok (.iload 5, 2) := dk_21 5 (dk_at dksX19_rowCards_4 0 rfl rfl)
theorem dX19_rowCards_98 : decode cX19_rowCards 98 = .ok (.iload 7, 2) := dk_21 7 (dk_at dksX19_rowCards_4 2 rfl rfl)
theorem dX19_rowCards_100 : decode cX19_rowCards 100 = .ok (.ishr, 1) := dk_122 (dk_at dksX19_rowCards_4 4 rfl rfl)
theorem dX19_rowCards_101 : decode cX19_rowCards 101 = .ok (.iconst 1, 1) := dk_4 (dk_at dksX19_rowCards_4 5 rfl rfl)
theorem dX19_rowCards_102 : decode cX19_rowCards 102 = .ok (.iand, 1) := dk_126 (dk_at dksX19_rowCards_4 6 rfl rfl)
theorem dX19_rowCards_103 : decode cX19_rowCards 103 = .ok (.iconst 1, 1) := dk_4 (dk_at dksX19_rowCards_4 7 rfl rfl)
theorem dX19_rowCards_104 : decode cX19_rowCards 104 = .ok (.if_icmp .eq 8, 3) := dk_159 0 8 (dk_at dksX19_rowCards_4 8 rfl rfl)
theorem dX19_rowCards_107 : decode cX19_rowCards 107 = .ok (.iload 8, 2) := dk_21 8 (dk_at dksX19_rowCards_4 11 rfl rfl)
theorem dX19_rowCards_109 : decode cX19_rowCards 109 = .ok (.ifCond .le 22, 3) := dk_158 0 22 (dk_at dksX19_rowCards_4 13 rfl rfl)
theorem dX19_rowCards_112 : decode cX19_rowCards 112 = .ok (.iload 5, 2) := dk_21 5 (dk_at dksX19_rowCards_4 16 rfl rfl)
theorem dX19_rowCards_114 : decode cX19_rowCards 114 = .ok (.iload 7, 2) := dk_21 7 (dk_at dksX19_rowCards_4 18 rfl rfl)
theorem dX19_rowCards_116 : decode cX19_rowCards 116 = .ok (.ishr, 1) := dk_122 (dk_at dksX19_rowCards_4 20 rfl rfl)
theorem dX19_rowCards_117 : decode cX19_rowCards 117 = .ok (.iconst 1, 1) := dk_4 (dk_at dksX19_rowCards_4 21 rfl rfl)
theorem dX19_rowCards_118 : decode cX19_rowCards 118 = .ok (.iand, 1) := dk_126 (dk_at dksX19_rowCards_4 22 rfl rfl)
theorem dX19_rowCards_119 : decode cX19_rowCards 119 = .ok (.ifCond .ne 6, 3) := dk_154 0 6 (dk_at dksX19_rowCards_5 0 rfl rfl)
theorem dX19_rowCards_122 : decode cX19_rowCards 122 = .ok (.iinc 8 (-1), 3) := dk_132 8 255 (dk_at dksX19_rowCards_5 3 rfl rfl)
theorem dX19_rowCards_125 : decode cX19_rowCards 125 = .ok (.iinc 7 1, 3) := dk_132 7 1 (dk_at dksX19_rowCards_5 6 rfl rfl)
theorem dX19_rowCards_128 : decode cX19_rowCards 128 = .ok (.goto (-32), 3) := dk_167 255 224 (dk_at dksX19_rowCards_5 9 rfl rfl)
theorem dX19_rowCards_131 : decode cX19_rowCards 131 = .ok (.iload 5, 2) := dk_21 5 (dk_at dksX19_rowCards_5 12 rfl rfl)
theorem dX19_rowCards_133 : decode cX19_rowCards 133 = .ok (.iconst 1, 1) := dk_4 (dk_at dksX19_rowCards_5 14 rfl rfl)
theorem dX19_rowCards_134 : decode cX19_rowCards 134 = .ok (.iload 7, 2) := dk_21 7 (dk_at dksX19_rowCards_5 15 rfl rfl)
theorem dX19_rowCards_136 : decode cX19_rowCards 136 = .ok (.ishl, 1) := dk_120 (dk_at dksX19_rowCards_5 17 rfl rfl)
theorem dX19_rowCards_137 : decode cX19_rowCards 137 = .ok (.ior, 1) := dk_128 (dk_at dksX19_rowCards_5 18 rfl rfl)
theorem dX19_rowCards_138 : decode cX19_rowCards 138 = .ok (.istore 5, 2) := dk_54 5 (dk_at dksX19_rowCards_5 19 rfl rfl)
theorem dX19_rowCards_140 : decode cX19_rowCards 140 = .ok (.aload_n 2, 1) := dk_44 (dk_at dksX19_rowCards_5 21 rfl rfl)
theorem dX19_rowCards_141 : decode cX19_rowCards 141 = .ok (.iload 6, 2) := dk_21 6 (dk_at dksX19_rowCards_5 22 rfl rfl)
theorem dX19_rowCards_143 : decode cX19_rowCards 143 = .ok (.iload 7, 2) := dk_21 7 (dk_at dksX19_rowCards_6 0 rfl rfl)
theorem dX19_rowCards_145 : decode cX19_rowCards 145 = .ok (.iastore, 1) := dk_79 (dk_at dksX19_rowCards_6 2 rfl rfl)
theorem dX19_rowCards_146 : decode cX19_rowCards 146 = .ok (.iinc 6 1, 3) := dk_132 6 1 (dk_at dksX19_rowCards_6 3 rfl rfl)
theorem dX19_rowCards_149 : decode cX19_rowCards 149 = .ok (.goto (-75), 3) := dk_167 255 181 (dk_at dksX19_rowCards_6 6 rfl rfl)
theorem dX19_rowCards_152 : decode cX19_rowCards 152 = .ok (.return_, 1) := dk_177 (dk_at dksX19_rowCards_6 9 rfl rfl)
abbrev cX19_tilted : ByteArray := prog_23_method_54_code
def yX19_tilted : MethodName := ⟨RX19, "tilted", "(I)I"⟩
def dkwX19_tilted_1 : List UInt8 := [182, 0, 96, 167, 0, 8, 42, 4, 182, 0, 92, 172]
abbrev dktX19_tilted_1 : List UInt8 := dkwX19_tilted_1 ++ []
def dkwX19_tilted_0 : List UInt8 := [42, 3, 181, 0, 86, 42, 27, 182, 1, 122, 153, 0, 19, 42, 27, 42, 180, 1, 73, 182, 1, 98, 112]
abbrev dktX19_tilted_0 : List UInt8 := dkwX19_tilted_0 ++ dktX19_tilted_1
theorem dksX19_tilted_0 : cX19_tilted.data.toList.drop 0 = dktX19_tilted_0 := by decide +kernel
theorem dksX19_tilted_1 : cX19_tilted.data.toList.drop 23 = dktX19_tilted_1 := dk_seg dksX19_tilted_0 23 rfl rfl
theorem dX19_tilted_0 : decode cX19_tilted 0 = .ok (.aload_n 0, 1) := dk_42 (dk_at dksX19_tilted_0 0 rfl rfl)
theorem dX19_tilted_1 : decode cX19_tilted 1 = .ok (.iconst 0, 1) := dk_3 (dk_at dksX19_tilted_0 1 rfl rfl)
theorem dX19_tilted_2 : decode cX19_tilted 2 = .ok (.putfield 86, 3) := dk_181 0 86 (dk_at dksX19_tilted_0 2 rfl rfl)
theorem dX19_tilted_5 : decode cX19_tilted 5 = .ok (.aload_n 0, 1) := dk_42 (dk_at dksX19_tilted_0 5 rfl rfl)
theorem dX19_tilted_6 : decode cX19_tilted 6 = .ok (.iload_n 1, 1) := dk_27 (dk_at dksX19_tilted_0 6 rfl rfl)
theorem dX19_tilted_7 : decode cX19_tilted 7 = .ok (.invokevirtual 378, 3) := dk_182 1 122 (dk_at dksX19_tilted_0 7 rfl rfl)
theorem dX19_tilted_10 : decode cX19_tilted 10 = .ok (.ifCond .eq 19, 3) := dk_153 0 19 (dk_at dksX19_tilted_0 10 rfl rfl)
theorem dX19_tilted_13 : decode cX19_tilted 13 = .ok (.aload_n 0, 1) := dk_42 (dk_at dksX19_tilted_0 13 rfl rfl)
theorem dX19_tilted_14 : decode cX19_tilted 14 = .ok (.iload_n 1, 1) := dk_27 (dk_at dksX19_tilted_0 14 rfl rfl)
theorem dX19_tilted_15 : decode cX19_tilted 15 = .ok (.aload_n 0, 1) := dk_42 (dk_at dksX19_tilted_0 15 rfl rfl)
theorem dX19_tilted_16 : decode cX19_tilted 16 = .ok (.getfield 329, 3) := dk_180 1 73 (dk_at dksX19_tilted_0 16 rfl rfl)
theorem dX19_tilted_19 : decode cX19_tilted 19 = .ok (.invokevirtual 354, 3) := dk_182 1 98 (dk_at dksX19_tilted_0 19 rfl rfl)
theorem dX19_tilted_22 : decode cX19_tilted 22 = .ok (.irem, 1) := dk_112 (dk_at dksX19_tilted_0 22 rfl rfl)
theorem dX19_tilted_23 : decode cX19_tilted 23 = .ok (.invokevirtual 96, 3) := dk_182 0 96 (dk_at dksX19_tilted_1 0 rfl rfl)
theorem dX19_tilted_26 : decode cX19_tilted 26 = .ok (.goto 8, 3) := dk_167 0 8 (dk_at dksX19_tilted_1 3 rfl rfl)
theorem dX19_tilted_29 : decode cX19_tilted 29 = .ok (.aload_n 0, 1) := dk_42 (dk_at dksX19_tilted_1 6 rfl rfl)
theorem dX19_tilted_30 : decode cX19_tilted 30 = .ok (.iconst 1, 1) := dk_4 (dk_at dksX19_tilted_1 7 rfl rfl)
theorem dX19_tilted_31 : decode cX19_tilted 31 = .ok (.invokevirtual 92, 3) := dk_182 0 92 (dk_at dksX19_tilted_1 8 rfl rfl)
theorem dX19_tilted_34 : decode cX19_tilted 34 = .ok (.ireturn, 1) := dk_172 (dk_at dksX19_tilted_1 11 rfl rfl)
abbrev cX19_fits : ByteArray := prog_23_method_56_code
def yX19_fits : MethodName := ⟨RX19, "fits", "(II)I"⟩
def dkwX19_fits_1 : List UInt8 := [28, 182, 1, 129, 153, 0, 7, 4, 167, 0, 4, 3, 182, 0, 96, 167, 0, 8, 42, 4, 182, 0, 92, 172]
abbrev dktX19_fits_1 : List UInt8 := dkwX19_fits_1 ++ []
def dkwX19_fits_0 : List UInt8 := [42, 3, 181, 0, 86, 42, 27, 182, 1, 119, 153, 0, 32, 42, 28, 182, 1, 122, 153, 0, 24, 42, 42, 27]
abbrev dktX19_fits_0 : List UInt8 := dkwX19_fits_0 ++ dktX19_fits_1
theorem dksX19_fits_0 : cX19_fits.data.toList.drop 0 = dktX19_fits_0 := by decide +kernel
theorem dksX19_fits_1 : cX19_fits.data.toList.drop 24 = dktX19_fits_1 := dk_seg dksX19_fits_0 24 rfl rfl
theorem dX19_fits_0 : decode cX19_fits 0 = .ok (.aload_n 0, 1) := dk_42 (dk_at dksX19_fits_0 0 rfl rfl)
theorem dX19_fits_1 : decode cX19_fits 1 = .ok (.iconst 0, 1) := dk_3 (dk_at dksX19_fits_0 1 rfl rfl)
theorem dX19_fits_2 : decode cX19_fits 2 = .ok (.putfield 86, 3) := dk_181 0 86 (dk_at dksX19_fits_0 2 rfl rfl)
theorem dX19_fits_5 : decode cX19_fits 5 = .ok (.aload_n 0, 1) := dk_42 (dk_at dksX19_fits_0 5 rfl rfl)
theorem dX19_fits_6 : decode cX19_fits 6 = .ok (.iload_n 1, 1) := dk_27 (dk_at dksX19_fits_0 6 rfl rfl)
theorem dX19_fits_7 : decode cX19_fits 7 = .ok (.invokevirtual 375, 3) := dk_182 1 119 (dk_at dksX19_fits_0 7 rfl rfl)
theorem dX19_fits_10 : decode cX19_fits 10 = .ok (.ifCond .eq 32, 3) := dk_153 0 32 (dk_at dksX19_fits_0 10 rfl rfl)
theorem dX19_fits_13 : decode cX19_fits 13 = .ok (.aload_n 0, 1) := dk_42 (dk_at dksX19_fits_0 13 rfl rfl)
theorem dX19_fits_14 : decode cX19_fits 14 = .ok (.iload_n 2, 1) := dk_28 (dk_at dksX19_fits_0 14 rfl rfl)
theorem dX19_fits_15 : decode cX19_fits 15 = .ok (.invokevirtual 378, 3) := dk_182 1 122 (dk_at dksX19_fits_0 15 rfl rfl)
theorem dX19_fits_18 : decode cX19_fits 18 = .ok (.ifCond .eq 24, 3) := dk_153 0 24 (dk_at dksX19_fits_0 18 rfl rfl)
theorem dX19_fits_21 : decode cX19_fits 21 = .ok (.aload_n 0, 1) := dk_42 (dk_at dksX19_fits_0 21 rfl rfl)
theorem dX19_fits_22 : decode cX19_fits 22 = .ok (.aload_n 0, 1) := dk_42 (dk_at dksX19_fits_0 22 rfl rfl)
theorem dX19_fits_23 : decode cX19_fits 23 = .ok (.iload_n 1, 1) := dk_27 (dk_at dksX19_fits_0 23 rfl rfl)
theorem dX19_fits_24 : decode cX19_fits 24 = .ok (.iload_n 2, 1) := dk_28 (dk_at dksX19_fits_1 0 rfl rfl)
theorem dX19_fits_25 : decode cX19_fits 25 = .ok (.invokevirtual 385, 3) := dk_182 1 129 (dk_at dksX19_fits_1 1 rfl rfl)
theorem dX19_fits_28 : decode cX19_fits 28 = .ok (.ifCond .eq 7, 3) := dk_153 0 7 (dk_at dksX19_fits_1 4 rfl rfl)
theorem dX19_fits_31 : decode cX19_fits 31 = .ok (.iconst 1, 1) := dk_4 (dk_at dksX19_fits_1 7 rfl rfl)
theorem dX19_fits_32 : decode cX19_fits 32 = .ok (.goto 4, 3) := dk_167 0 4 (dk_at dksX19_fits_1 8 rfl rfl)
theorem dX19_fits_35 : decode cX19_fits 35 = .ok (.iconst 0, 1) := dk_3 (dk_at dksX19_fits_1 11 rfl rfl)
theorem dX19_fits_36 : decode cX19_fits 36 = .ok (.invokevirtual 96, 3) := dk_182 0 96 (dk_at dksX19_fits_1 12 rfl rfl)
theorem dX19_fits_39 : decode cX19_fits 39 = .ok (.goto 8, 3) := dk_167 0 8 (dk_at dksX19_fits_1 15 rfl rfl)
theorem dX19_fits_42 : decode cX19_fits 42 = .ok (.aload_n 0, 1) := dk_42 (dk_at dksX19_fits_1 18 rfl rfl)
theorem dX19_fits_43 : decode cX19_fits 43 = .ok (.iconst 1, 1) := dk_4 (dk_at dksX19_fits_1 19 rfl rfl)
theorem dX19_fits_44 : decode cX19_fits 44 = .ok (.invokevirtual 92, 3) := dk_182 0 92 (dk_at dksX19_fits_1 20 rfl rfl)
theorem dX19_fits_47 : decode cX19_fits 47 = .ok (.ireturn, 1) := dk_172 (dk_at dksX19_fits_1 23 rfl rfl)
abbrev cX19_rowFits : ByteArray := prog_23_method_55_code
def yX19_rowFits : MethodName := ⟨RX19, "rowFits", "(II)Z"⟩
def dkwX19_rowFits_6 : List UInt8 := [132, 4, 1, 167, 255, 131, 4, 172]
abbrev dktX19_rowFits_6 : List UInt8 := dkwX19_rowFits_6 ++ []
def dkwX19_rowFits_5 : List UInt8 := [159, 0, 9, 132, 3, 1, 167, 255, 226, 29, 42, 180, 1, 73, 180, 0, 232, 160, 0, 5, 3, 172]
abbrev dktX19_rowFits_5 : List UInt8 := dkwX19_rowFits_5 ++ dktX19_rowFits_6
def dkwX19_rowFits_4 : List UInt8 := [180, 1, 73, 180, 0, 232, 162, 0, 25, 42, 27, 29, 182, 1, 110, 42, 180, 0, 24, 21, 4, 46]
abbrev dktX19_rowFits_4 : List UInt8 := dkwX19_rowFits_4 ++ dktX19_rowFits_5
def dkwX19_rowFits_3 : List UInt8 := [4, 100, 46, 162, 0, 5, 3, 172, 42, 180, 1, 73, 180, 0, 228, 154, 0, 6, 167, 0, 49, 29, 42]
abbrev dktX19_rowFits_3 : List UInt8 := dkwX19_rowFits_3 ++ dktX19_rowFits_4
def dkwX19_rowFits_2 : List UInt8 := [180, 0, 245, 153, 0, 29, 21, 4, 158, 0, 24, 42, 180, 0, 24, 21, 4, 46, 42, 180, 0, 24, 21, 4]
abbrev dktX19_rowFits_2 : List UInt8 := dkwX19_rowFits_2 ++ dktX19_rowFits_3
def dkwX19_rowFits_1 : List UInt8 := [162, 0, 119, 42, 27, 42, 180, 0, 24, 21, 4, 46, 182, 1, 113, 153, 0, 37, 42, 180, 1, 73]
abbrev dktX19_rowFits_1 : List UInt8 := dkwX19_rowFits_1 ++ dktX19_rowFits_2
def dkwX19_rowFits_0 : List UInt8 := [42, 28, 42, 180, 0, 24, 182, 1, 125, 3, 62, 3, 54, 4, 21, 4, 42, 180, 1, 73, 180, 1, 1]
abbrev dktX19_rowFits_0 : List UInt8 := dkwX19_rowFits_0 ++ dktX19_rowFits_1
theorem dksX19_rowFits_0 : cX19_rowFits.data.toList.drop 0 = dktX19_rowFits_0 := by decide +kernel
theorem dksX19_rowFits_1 : cX19_rowFits.data.toList.drop 23 = dktX19_rowFits_1 := dk_seg dksX19_rowFits_0 23 rfl rfl
theorem dksX19_rowFits_2 : cX19_rowFits.data.toList.drop 45 = dktX19_rowFits_2 := dk_seg dksX19_rowFits_1 22 rfl rfl
theorem dksX19_rowFits_3 : cX19_rowFits.data.toList.drop 69 = dktX19_rowFits_3 := dk_seg dksX19_rowFits_2 24 rfl rfl
theorem dksX19_rowFits_4 : cX19_rowFits.data.toList.drop 92 = dktX19_rowFits_4 := dk_seg dksX19_rowFits_3 23 rfl rfl
theorem dksX19_rowFits_5 : cX19_rowFits.data.toList.drop 114 = dktX19_rowFits_5 := dk_seg dksX19_rowFits_4 22 rfl rfl
theorem dksX19_rowFits_6 : cX19_rowFits.data.toList.drop 136 = dktX19_rowFits_6 := dk_seg dksX19_rowFits_5 22 rfl rfl
theorem dX19_rowFits_0 : decode cX19_rowFits 0 = .ok (.aload_n 0, 1) := dk_42 (dk_at dksX19_rowFits_0 0 rfl rfl)
theorem dX19_rowFits_1 : decode cX19_rowFits 1 = .ok (.iload_n 2, 1) := dk_28 (dk_at dksX19_rowFits_0 1 rfl rfl)
theorem dX19_rowFits_2 : decode cX19_rowFits 2 = .ok (.aload_n 0, 1) := dk_42 (dk_at dksX19_rowFits_0 2 rfl rfl)
theorem dX19_rowFits_3 : decode cX19_rowFits 3 = .ok (.getfield 24, 3) := dk_180 0 24 (dk_at dksX19_rowFits_0 3 rfl rfl)
theorem dX19_rowFits_6 : decode cX19_rowFits 6 = .ok (.invokevirtual 381, 3) := dk_182 1 125 (dk_at dksX19_rowFits_0 6 rfl rfl)
theorem dX19_rowFits_9 : decode cX19_rowFits 9 = .ok (.iconst 0, 1) := dk_3 (dk_at dksX19_rowFits_0 9 rfl rfl)
theorem dX19_rowFits_10 : decode cX19_rowFits 10 = .ok (.istore_n 3, 1) := dk_62 (dk_at dksX19_rowFits_0 10 rfl rfl)
theorem dX19_rowFits_11 : decode cX19_rowFits 11 = .ok (.iconst 0, 1) := dk_3 (dk_at dksX19_rowFits_0 11 rfl rfl)
theorem dX19_rowFits_12 : decode cX19_rowFits 12 = .ok (.istore 4, 2) := dk_54 4 (dk_at dksX19_rowFits_0 12 rfl rfl)
theorem dX19_rowFits_14 : decode cX19_rowFits 14 = .ok (.iload 4, 2) := dk_21 4 (dk_at dksX19_rowFits_0 14 rfl rfl)
theorem dX19_rowFits_16 : decode cX19_rowFits 16 = .ok (.aload_n 0, 1) := dk_42 (dk_at dksX19_rowFits_0 16 rfl rfl)
theorem dX19_rowFits_17 : decode cX19_rowFits 17 = .ok (.getfield 329, 3) := dk_180 1 73 (dk_at dksX19_rowFits_0 17 rfl rfl)
theorem dX19_rowFits_20 : decode cX19_rowFits 20 = .ok (.getfield 257, 3) := dk_180 1 1 (dk_at dksX19_rowFits_0 20 rfl rfl)
theorem dX19_rowFits_23 : decode cX19_rowFits 23 = .ok (.if_icmp .ge 119, 3) := dk_162 0 119 (dk_at dksX19_rowFits_1 0 rfl rfl)
theorem dX19_rowFits_26 : decode cX19_rowFits 26 = .ok (.aload_n 0, 1) := dk_42 (dk_at dksX19_rowFits_1 3 rfl rfl)
theorem dX19_rowFits_27 : decode cX19_rowFits 27 = .ok (.iload_n 1, 1) := dk_27 (dk_at dksX19_rowFits_1 4 rfl rfl)
theorem dX19_rowFits_28 : decode cX19_rowFits 28 = .ok (.aload_n 0, 1) := dk_42 (dk_at dksX19_rowFits_1 5 rfl rfl)
theorem dX19_rowFits_29 : decode cX19_rowFits 29 = .ok (.getfield 24, 3) := dk_180 0 24 (dk_at dksX19_rowFits_1 6 rfl rfl)
theorem dX19_rowFits_32 : decode cX19_rowFits 32 = .ok (.iload 4, 2) := dk_21 4 (dk_at dksX19_rowFits_1 9 rfl rfl)
theorem dX19_rowFits_34 : decode cX19_rowFits 34 = .ok (.iaload, 1) := dk_46 (dk_at dksX19_rowFits_1 11 rfl rfl)
theorem dX19_rowFits_35 : decode cX19_rowFits 35 = .ok (.invokevirtual 369, 3) := dk_182 1 113 (dk_at dksX19_rowFits_1 12 rfl rfl)
theorem dX19_rowFits_38 : decode cX19_rowFits 38 = .ok (.ifCond .eq 37, 3) := dk_153 0 37 (dk_at dksX19_rowFits_1 15 rfl rfl)
theorem dX19_rowFits_41 : decode cX19_rowFits 41 = .ok (.aload_n 0, 1) := dk_42 (dk_at dksX19_rowFits_1 18 rfl rfl)
theorem dX19_rowFits_42 : decode cX19_rowFits 42 = .ok (.getfield 329, 3) := dk_180 1 73 (dk_at dksX19_rowFits_1 19 rfl rfl)
theorem dX19_rowFits_45 : decode cX19_rowFits 45 = .ok (.getfield 245, 3) := dk_180 0 245 (dk_at dksX19_rowFits_2 0 rfl rfl)
theorem dX19_rowFits_48 : decode cX19_rowFits 48 = .ok (.ifCond .eq 29, 3) := dk_153 0 29 (dk_at dksX19_rowFits_2 3 rfl rfl)
theorem dX19_rowFits_51 : decode cX19_rowFits 51 = .ok (.iload 4, 2) := dk_21 4 (dk_at dksX19_rowFits_2 6 rfl rfl)
theorem dX19_rowFits_53 : decode cX19_rowFits 53 = .ok (.ifCond .le 24, 3) := dk_158 0 24 (dk_at dksX19_rowFits_2 8 rfl rfl)
theorem dX19_rowFits_56 : decode cX19_rowFits 56 = .ok (.aload_n 0, 1) := dk_42 (dk_at dksX19_rowFits_2 11 rfl rfl)
theorem dX19_rowFits_57 : decode cX19_rowFits 57 = .ok (.getfield 24, 3) := dk_180 0 24 (dk_at dksX19_rowFits_2 12 rfl rfl)
theorem dX19_rowFits_60 : decode cX19_rowFits 60 = .ok (.iload 4, 2) := dk_21 4 (dk_at dksX19_rowFits_2 15 rfl rfl)
theorem dX19_rowFits_62 : decode cX19_rowFits 62 = .ok (.iaload, 1) := dk_46 (dk_at dksX19_rowFits_2 17 rfl rfl)
theorem dX19_rowFits_63 : decode cX19_rowFits 63 = .ok (.aload_n 0, 1) := dk_42 (dk_at dksX19_rowFits_2 18 rfl rfl)
theorem dX19_rowFits_64 : decode cX19_rowFits 64 = .ok (.getfield 24, 3) := dk_180 0 24 (dk_at dksX19_rowFits_2 19 rfl rfl)
theorem dX19_rowFits_67 : decode cX19_rowFits 67 = .ok (.iload 4, 2) := dk_21 4 (dk_at dksX19_rowFits_2 22 rfl rfl)
theorem dX19_rowFits_69 : decode cX19_rowFits 69 = .ok (.iconst 1, 1) := dk_4 (dk_at dksX19_rowFits_3 0 rfl rfl)
theorem dX19_rowFits_70 : decode cX19_rowFits 70 = .ok (.isub, 1) := dk_100 (dk_at dksX19_rowFits_3 1 rfl rfl)
theorem dX19_rowFits_71 : decode cX19_rowFits 71 = .ok (.iaload, 1) := dk_46 (dk_at dksX19_rowFits_3 2 rfl rfl)
theorem dX19_rowFits_72 : decode cX19_rowFits 72 = .ok (.if_icmp .ge 5, 3) := dk_162 0 5 (dk_at dksX19_rowFits_3 3 rfl rfl)
theorem dX19_rowFits_75 : decode cX19_rowFits 75 = .ok (.iconst 0, 1) := dk_3 (dk_at dksX19_rowFits_3 6 rfl rfl)
theorem dX19_rowFits_76 : decode cX19_rowFits 76 = .ok (.ireturn, 1) := dk_172 (dk_at dksX19_rowFits_3 7 rfl rfl)
theorem dX19_rowFits_77 : decode cX19_rowFits 77 = .ok (.aload_n 0, 1) := dk_42 (dk_at dksX19_rowFits_3 8 rfl rfl)
theorem dX19_rowFits_78 : decode cX19_rowFits 78 = .ok (.getfield 329, 3) := dk_180 1 73 (dk_at dksX19_rowFits_3 9 rfl rfl)
theorem dX19_rowFits_81 : decode cX19_rowFits 81 = .ok (.getfield 228, 3) := dk_180 0 228 (dk_at dksX19_rowFits_3 12 rfl rfl)
theorem dX19_rowFits_84 : decode cX19_rowFits 84 = .ok (.ifCond .ne 6, 3) := dk_154 0 6 (dk_at dksX19_rowFits_3 15 rfl rfl)
theorem dX19_rowFits_87 : decode cX19_rowFits 87 = .ok (.goto 49, 3) := dk_167 0 49 (dk_at dksX19_rowFits_3 18 rfl rfl)
theorem dX19_rowFits_90 : decode cX19_rowFits 90 = .ok (.iload_n 3, 1) := dk_29 (dk_at dksX19_rowFits_3 21 rfl rfl)
theorem dX19_rowFits_91 : decode cX19_rowFits 91 = .ok (.aload_n 0, 1) := dk_42 (dk_at dksX19_rowFits_3 22 rfl rfl)
theorem dX19_rowFits_92 : decode cX19_rowFits 92 = .ok (.getfield 329, 3) := dk_180 1 73 (dk_at dksX19_rowFits_4 0 rfl rfl)
theorem dX19_rowFits_95 : decode cX19_rowFits 95 = .ok (.getfield 232, 3) := dk_180 0 232 (dk_at dksX19_rowFits_4 3 rfl rfl)
theorem dX19_rowFits_98 : decode cX19_rowFits 98 = .ok (.if_icmp .ge 25, 3) := dk_162 0 25 (dk_at dksX19_rowFits_4 6 rfl rfl)
theorem dX19_rowFits_101 : decode cX19_rowFits 101 = .ok (.aload_n 0, 1) := dk_42 (dk_at dksX19_rowFits_4 9 rfl rfl)
theorem dX19_rowFits_102 : decode cX19_rowFits 102 = .ok (.iload_n 1, 1) := dk_27 (dk_at dksX19_rowFits_4 10 rfl rfl)
theorem dX19_rowFits_103 : decode cX19_rowFits 103 = .ok (.iload_n 3, 1) := dk_29 (dk_at dksX19_rowFits_4 11 rfl rfl)
theorem dX19_rowFits_104 : decode cX19_rowFits 104 = .ok (.invokevirtual 366, 3) := dk_182 1 110 (dk_at dksX19_rowFits_4 12 rfl rfl)
theorem dX19_rowFits_107 : decode cX19_rowFits 107 = .ok (.aload_n 0, 1) := dk_42 (dk_at dksX19_rowFits_4 15 rfl rfl)
theorem dX19_rowFits_108 : decode cX19_rowFits 108 = .ok (.getfield 24, 3) := dk_180 0 24 (dk_at dksX19_rowFits_4 16 rfl rfl)
theorem dX19_rowFits_111 : decode cX19_rowFits 111 = .ok (.iload 4, 2) := dk_21 4 (dk_at dksX19_rowFits_4 19 rfl rfl)
theorem dX19_rowFits_113 : decode cX19_rowFits 113 = .ok (.iaload, 1) := dk_46 (dk_at dksX19_rowFits_4 21 rfl rfl)
theorem dX19_rowFits_114 : decode cX19_rowFits 114 = .ok (.if_icmp .eq 9, 3) := dk_159 0 9 (dk_at dksX19_rowFits_5 0 rfl rfl)
theorem dX19_rowFits_117 : decode cX19_rowFits 117 = .ok (.iinc 3 1, 3) := dk_132 3 1 (dk_at dksX19_rowFits_5 3 rfl rfl)
theorem dX19_rowFits_120 : decode cX19_rowFits 120 = .ok (.goto (-30), 3) := dk_167 255 226 (dk_at dksX19_rowFits_5 6 rfl rfl)
theorem dX19_rowFits_123 : decode cX19_rowFits 123 = .ok (.iload_n 3, 1) := dk_29 (dk_at dksX19_rowFits_5 9 rfl rfl)
theorem dX19_rowFits_124 : decode cX19_rowFits 124 = .ok (.aload_n 0, 1) := dk_42 (dk_at dksX19_rowFits_5 10 rfl rfl)
theorem dX19_rowFits_125 : decode cX19_rowFits 125 = .ok (.getfield 329, 3) := dk_180 1 73 (dk_at dksX19_rowFits_5 11 rfl rfl)
theorem dX19_rowFits_128 : decode cX19_rowFits 128 = .ok (.getfield 232, 3) := dk_180 0 232 (dk_at dksX19_rowFits_5 14 rfl rfl)
theorem dX19_rowFits_131 : decode cX19_rowFits 131 = .ok (.if_icmp .ne 5, 3) := dk_160 0 5 (dk_at dksX19_rowFits_5 17 rfl rfl)
theorem dX19_rowFits_134 : decode cX19_rowFits 134 = .ok (.iconst 0, 1) := dk_3 (dk_at dksX19_rowFits_5 20 rfl rfl)
theorem dX19_rowFits_135 : decode cX19_rowFits 135 = .ok (.ireturn, 1) := dk_172 (dk_at dksX19_rowFits_5 21 rfl rfl)
theorem dX19_rowFits_136 : decode cX19_rowFits 136 = .ok (.iinc 4 1, 3) := dk_132 4 1 (dk_at dksX19_rowFits_6 0 rfl rfl)
theorem dX19_rowFits_139 : decode cX19_rowFits 139 = .ok (.goto (-125), 3) := dk_167 255 131 (dk_at dksX19_rowFits_6 3 rfl rfl)
theorem dX19_rowFits_142 : decode cX19_rowFits 142 = .ok (.iconst 1, 1) := dk_4 (dk_at dksX19_rowFits_6 6 rfl rfl)
theorem dX19_rowFits_143 : decode cX19_rowFits 143 = .ok (.ireturn, 1) := dk_172 (dk_at dksX19_rowFits_6 7 rfl rfl)
abbrev cX19_fitting : ByteArray := prog_23_method_59_code
def yX19_fitting : MethodName := ⟨RX19, "fitting", "()I"⟩
def dkwX19_fitting_1 : List UInt8 := [182, 1, 138, 182, 0, 96, 172]
abbrev dktX19_fitting_1 : List UInt8 := dkwX19_fitting_1 ++ []
def dkwX19_fitting_0 : List UInt8 := [42, 3, 181, 0, 86, 42, 180, 1, 73, 199, 0, 11, 42, 4, 182, 0, 92, 167, 0, 11, 42, 42]
abbrev dktX19_fitting_0 : List UInt8 := dkwX19_fitting_0 ++ dktX19_fitting_1
theorem dksX19_fitting_0 : cX19_fitting.data.toList.drop 0 = dktX19_fitting_0 := by decide +kernel
theorem dksX19_fitting_1 : cX19_fitting.data.toList.drop 22 = dktX19_fitting_1 := dk_seg dksX19_fitting_0 22 rfl rfl
theorem dX19_fitting_0 : decode cX19_fitting 0 = .ok (.aload_n 0, 1) := dk_42 (dk_at dksX19_fitting_0 0 rfl rfl)
theorem dX19_fitting_1 : decode cX19_fitting 1 = .ok (.iconst 0, 1) := dk_3 (dk_at dksX19_fitting_0 1 rfl rfl)
theorem dX19_fitting_2 : decode cX19_fitting 2 = .ok (.putfield 86, 3) := dk_181 0 86 (dk_at dksX19_fitting_0 2 rfl rfl)
theorem dX19_fitting_5 : decode cX19_fitting 5 = .ok (.aload_n 0, 1) := dk_42 (dk_at dksX19_fitting_0 5 rfl rfl)
theorem dX19_fitting_6 : decode cX19_fitting 6 = .ok (.getfield 329, 3) := dk_180 1 73 (dk_at dksX19_fitting_0 6 rfl rfl)
theorem dX19_fitting_9 : decode cX19_fitting 9 = .ok (.ifnonnull 11, 3) := dk_199 0 11 (dk_at dksX19_fitting_0 9 rfl rfl)
theorem dX19_fitting_12 : decode cX19_fitting 12 = .ok (.aload_n 0, 1) := dk_42 (dk_at dksX19_fitting_0 12 rfl rfl)
theorem dX19_fitting_13 : decode cX19_fitting 13 = .ok (.iconst 1, 1) := dk_4 (dk_at dksX19_fitting_0 13 rfl rfl)
theorem dX19_fitting_14 : decode cX19_fitting 14 = .ok (.invokevirtual 92, 3) := dk_182 0 92 (dk_at dksX19_fitting_0 14 rfl rfl)
theorem dX19_fitting_17 : decode cX19_fitting 17 = .ok (.goto 11, 3) := dk_167 0 11 (dk_at dksX19_fitting_0 17 rfl rfl)
theorem dX19_fitting_20 : decode cX19_fitting 20 = .ok (.aload_n 0, 1) := dk_42 (dk_at dksX19_fitting_0 20 rfl rfl)
theorem dX19_fitting_21 : decode cX19_fitting 21 = .ok (.aload_n 0, 1) := dk_42 (dk_at dksX19_fitting_0 21 rfl rfl)
theorem dX19_fitting_22 : decode cX19_fitting 22 = .ok (.invokevirtual 394, 3) := dk_182 1 138 (dk_at dksX19_fitting_1 0 rfl rfl)
theorem dX19_fitting_25 : decode cX19_fitting 25 = .ok (.invokevirtual 96, 3) := dk_182 0 96 (dk_at dksX19_fitting_1 3 rfl rfl)
theorem dX19_fitting_28 : decode cX19_fitting 28 = .ok (.ireturn, 1) := dk_172 (dk_at dksX19_fitting_1 6 rfl rfl)
abbrev cX19_fittingMany : ByteArray := prog_23_method_58_code
def yX19_fittingMany : MethodName := ⟨RX19, "fittingMany", "()I"⟩
def dkwX19_fittingMany_2 : List UInt8 := [180, 1, 73, 182, 1, 98, 104, 172]
abbrev dktX19_fittingMany_2 : List UInt8 := dkwX19_fittingMany_2 ++ []
def dkwX19_fittingMany_1 : List UInt8 := [167, 0, 20, 42, 180, 1, 73, 180, 0, 232, 42, 180, 1, 73, 180, 1, 1, 184, 0, 99, 136, 42]
abbrev dktX19_fittingMany_1 : List UInt8 := dkwX19_fittingMany_1 ++ dktX19_fittingMany_2
def dkwX19_fittingMany_0 : List UInt8 := [42, 182, 1, 132, 153, 0, 23, 42, 180, 1, 73, 180, 0, 232, 42, 180, 1, 73, 180, 1, 1, 184, 1, 135]
abbrev dktX19_fittingMany_0 : List UInt8 := dkwX19_fittingMany_0 ++ dktX19_fittingMany_1
theorem dksX19_fittingMany_0 : cX19_fittingMany.data.toList.drop 0 = dktX19_fittingMany_0 := by decide +kernel
theorem dksX19_fittingMany_1 : cX19_fittingMany.data.toList.drop 24 = dktX19_fittingMany_1 := dk_seg dksX19_fittingMany_0 24 rfl rfl
theorem dksX19_fittingMany_2 : cX19_fittingMany.data.toList.drop 46 = dktX19_fittingMany_2 := dk_seg dksX19_fittingMany_1 22 rfl rfl
theorem dX19_fittingMany_0 : decode cX19_fittingMany 0 = .ok (.aload_n 0, 1) := dk_42 (dk_at dksX19_fittingMany_0 0 rfl rfl)
theorem dX19_fittingMany_1 : decode cX19_fittingMany 1 = .ok (.invokevirtual 388, 3) := dk_182 1 132 (dk_at dksX19_fittingMany_0 1 rfl rfl)
theorem dX19_fittingMany_4 : decode cX19_fittingMany 4 = .ok (.ifCond .eq 23, 3) := dk_153 0 23 (dk_at dksX19_fittingMany_0 4 rfl rfl)
theorem dX19_fittingMany_7 : decode cX19_fittingMany 7 = .ok (.aload_n 0, 1) := dk_42 (dk_at dksX19_fittingMany_0 7 rfl rfl)
theorem dX19_fittingMany_8 : decode cX19_fittingMany 8 = .ok (.getfield 329, 3) := dk_180 1 73 (dk_at dksX19_fittingMany_0 8 rfl rfl)
theorem dX19_fittingMany_11 : decode cX19_fittingMany 11 = .ok (.getfield 232, 3) := dk_180 0 232 (dk_at dksX19_fittingMany_0 11 rfl rfl)
theorem dX19_fittingMany_14 : decode cX19_fittingMany 14 = .ok (.aload_n 0, 1) := dk_42 (dk_at dksX19_fittingMany_0 14 rfl rfl)
theorem dX19_fittingMany_15 : decode cX19_fittingMany 15 = .ok (.getfield 329, 3) := dk_180 1 73 (dk_at dksX19_fittingMany_0 15 rfl rfl)
theorem dX19_fittingMany_18 : decode cX19_fittingMany 18 = .ok (.getfield 257, 3) := dk_180 1 1 (dk_at dksX19_fittingMany_0 18 rfl rfl)
theorem dX19_fittingMany_21 : decode cX19_fittingMany 21 = .ok (.invokestatic 391, 3) := dk_184 1 135 (dk_at dksX19_fittingMany_0 21 rfl rfl)
theorem dX19_fittingMany_24 : decode cX19_fittingMany 24 = .ok (.goto 20, 3) := dk_167 0 20 (dk_at dksX19_fittingMany_1 0 rfl rfl)
theorem dX19_fittingMany_27 : decode cX19_fittingMany 27 = .ok (.aload_n 0, 1) := dk_42 (dk_at dksX19_fittingMany_1 3 rfl rfl)
theorem dX19_fittingMany_28 : decode cX19_fittingMany 28 = .ok (.getfield 329, 3) := dk_180 1 73 (dk_at dksX19_fittingMany_1 4 rfl rfl)
theorem dX19_fittingMany_31 : decode cX19_fittingMany 31 = .ok (.getfield 232, 3) := dk_180 0 232 (dk_at dksX19_fittingMany_1 7 rfl rfl)
theorem dX19_fittingMany_34 : decode cX19_fittingMany 34 = .ok (.aload_n 0, 1) := dk_42 (dk_at dksX19_fittingMany_1 10 rfl rfl)
theorem dX19_fittingMany_35 : decode cX19_fittingMany 35 = .ok (.getfield 329, 3) := dk_180 1 73 (dk_at dksX19_fittingMany_1 11 rfl rfl)
theorem dX19_fittingMany_38 : decode cX19_fittingMany 38 = .ok (.getfield 257, 3) := dk_180 1 1 (dk_at dksX19_fittingMany_1 14 rfl rfl)
theorem dX19_fittingMany_41 : decode cX19_fittingMany 41 = .ok (.invokestatic 99, 3) := dk_184 0 99 (dk_at dksX19_fittingMany_1 17 rfl rfl)
theorem dX19_fittingMany_44 : decode cX19_fittingMany 44 = .ok (.l2i, 1) := dk_136 (dk_at dksX19_fittingMany_1 20 rfl rfl)
theorem dX19_fittingMany_45 : decode cX19_fittingMany 45 = .ok (.aload_n 0, 1) := dk_42 (dk_at dksX19_fittingMany_1 21 rfl rfl)
theorem dX19_fittingMany_46 : decode cX19_fittingMany 46 = .ok (.getfield 329, 3) := dk_180 1 73 (dk_at dksX19_fittingMany_2 0 rfl rfl)
theorem dX19_fittingMany_49 : decode cX19_fittingMany 49 = .ok (.invokevirtual 354, 3) := dk_182 1 98 (dk_at dksX19_fittingMany_2 3 rfl rfl)
theorem dX19_fittingMany_52 : decode cX19_fittingMany 52 = .ok (.imul, 1) := dk_104 (dk_at dksX19_fittingMany_2 6 rfl rfl)
theorem dX19_fittingMany_53 : decode cX19_fittingMany 53 = .ok (.ireturn, 1) := dk_172 (dk_at dksX19_fittingMany_2 7 rfl rfl)
abbrev cX19_lays : ByteArray := prog_23_method_71_code
def yX19_lays : MethodName := ⟨RX19, "lays", "(II)I"⟩
def dkwX19_lays_1 : List UInt8 := [28, 182, 1, 177, 182, 0, 96, 167, 0, 8, 42, 4, 182, 0, 92, 172]
abbrev dktX19_lays_1 : List UInt8 := dkwX19_lays_1 ++ []
def dkwX19_lays_0 : List UInt8 := [42, 3, 181, 0, 86, 42, 27, 182, 1, 174, 153, 0, 24, 42, 28, 182, 1, 119, 153, 0, 16, 42, 42, 27]
abbrev dktX19_lays_0 : List UInt8 := dkwX19_lays_0 ++ dktX19_lays_1
theorem dksX19_lays_0 : cX19_lays.data.toList.drop 0 = dktX19_lays_0 := by decide +kernel
theorem dksX19_lays_1 : cX19_lays.data.toList.drop 24 = dktX19_lays_1 := dk_seg dksX19_lays_0 24 rfl rfl
theorem dX19_lays_0 : decode cX19_lays 0 = .ok (.aload_n 0, 1) := dk_42 (dk_at dksX19_lays_0 0 rfl rfl)
theorem dX19_lays_1 : decode cX19_lays 1 = .ok (.iconst 0, 1) := dk_3 (dk_at dksX19_lays_0 1 rfl rfl)
theorem dX19_lays_2 : decode cX19_lays 2 = .ok (.putfield 86, 3) := dk_181 0 86 (dk_at dksX19_lays_0 2 rfl rfl)
theorem dX19_lays_5 : decode cX19_lays 5 = .ok (.aload_n 0, 1) := dk_42 (dk_at dksX19_lays_0 5 rfl rfl)
theorem dX19_lays_6 : decode cX19_lays 6 = .ok (.iload_n 1, 1) := dk_27 (dk_at dksX19_lays_0 6 rfl rfl)
theorem dX19_lays_7 : decode cX19_lays 7 = .ok (.invokevirtual 430, 3) := dk_182 1 174 (dk_at dksX19_lays_0 7 rfl rfl)
theorem dX19_lays_10 : decode cX19_lays 10 = .ok (.ifCond .eq 24, 3) := dk_153 0 24 (dk_at dksX19_lays_0 10 rfl rfl)
theorem dX19_lays_13 : decode cX19_lays 13 = .ok (.aload_n 0, 1) := dk_42 (dk_at dksX19_lays_0 13 rfl rfl)
theorem dX19_lays_14 : decode cX19_lays 14 = .ok (.iload_n 2, 1) := dk_28 (dk_at dksX19_lays_0 14 rfl rfl)
theorem dX19_lays_15 : decode cX19_lays 15 = .ok (.invokevirtual 375, 3) := dk_182 1 119 (dk_at dksX19_lays_0 15 rfl rfl)
theorem dX19_lays_18 : decode cX19_lays 18 = .ok (.ifCond .eq 16, 3) := dk_153 0 16 (dk_at dksX19_lays_0 18 rfl rfl)
theorem dX19_lays_21 : decode cX19_lays 21 = .ok (.aload_n 0, 1) := dk_42 (dk_at dksX19_lays_0 21 rfl rfl)
theorem dX19_lays_22 : decode cX19_lays 22 = .ok (.aload_n 0, 1) := dk_42 (dk_at dksX19_lays_0 22 rfl rfl)
theorem dX19_lays_23 : decode cX19_lays 23 = .ok (.iload_n 1, 1) := dk_27 (dk_at dksX19_lays_0 23 rfl rfl)
theorem dX19_lays_24 : decode cX19_lays 24 = .ok (.iload_n 2, 1) := dk_28 (dk_at dksX19_lays_1 0 rfl rfl)
theorem dX19_lays_25 : decode cX19_lays 25 = .ok (.invokevirtual 433, 3) := dk_182 1 177 (dk_at dksX19_lays_1 1 rfl rfl)
theorem dX19_lays_28 : decode cX19_lays 28 = .ok (.invokevirtual 96, 3) := dk_182 0 96 (dk_at dksX19_lays_1 4 rfl rfl)
theorem dX19_lays_31 : decode cX19_lays 31 = .ok (.goto 8, 3) := dk_167 0 8 (dk_at dksX19_lays_1 7 rfl rfl)
theorem dX19_lays_34 : decode cX19_lays 34 = .ok (.aload_n 0, 1) := dk_42 (dk_at dksX19_lays_1 10 rfl rfl)
theorem dX19_lays_35 : decode cX19_lays 35 = .ok (.iconst 1, 1) := dk_4 (dk_at dksX19_lays_1 11 rfl rfl)
theorem dX19_lays_36 : decode cX19_lays 36 = .ok (.invokevirtual 92, 3) := dk_182 0 92 (dk_at dksX19_lays_1 12 rfl rfl)
theorem dX19_lays_39 : decode cX19_lays 39 = .ok (.ireturn, 1) := dk_172 (dk_at dksX19_lays_1 15 rfl rfl)
abbrev cX19_isRule : ByteArray := prog_23_method_70_code
def yX19_isRule : MethodName := ⟨RX19, "isRule", "(I)Z"⟩
def dkwX19_isRule_1 : List UInt8 := [167, 0, 4, 3, 172]
abbrev dktX19_isRule_1 : List UInt8 := dkwX19_isRule_1 ++ []
def dkwX19_isRule_0 : List UInt8 := [42, 180, 1, 73, 198, 0, 22, 27, 155, 0, 18, 27, 42, 180, 1, 73, 180, 1, 3, 162, 0, 7, 4]
abbrev dktX19_isRule_0 : List UInt8 := dkwX19_isRule_0 ++ dktX19_isRule_1
theorem dksX19_isRule_0 : cX19_isRule.data.toList.drop 0 = dktX19_isRule_0 := by decide +kernel
theorem dksX19_isRule_1 : cX19_isRule.data.toList.drop 23 = dktX19_isRule_1 := dk_seg dksX19_isRule_0 23 rfl rfl
theorem dX19_isRule_0 : decode cX19_isRule 0 = .ok (.aload_n 0, 1) := dk_42 (dk_at dksX19_isRule_0 0 rfl rfl)
theorem dX19_isRule_1 : decode cX19_isRule 1 = .ok (.getfield 329, 3) := dk_180 1 73 (dk_at dksX19_isRule_0 1 rfl rfl)
theorem dX19_isRule_4 : decode cX19_isRule 4 = .ok (.ifnull 22, 3) := dk_198 0 22 (dk_at dksX19_isRule_0 4 rfl rfl)
theorem dX19_isRule_7 : decode cX19_isRule 7 = .ok (.iload_n 1, 1) := dk_27 (dk_at dksX19_isRule_0 7 rfl rfl)
theorem dX19_isRule_8 : decode cX19_isRule 8 = .ok (.ifCond .lt 18, 3) := dk_155 0 18 (dk_at dksX19_isRule_0 8 rfl rfl)
theorem dX19_isRule_11 : decode cX19_isRule 11 = .ok (.iload_n 1, 1) := dk_27 (dk_at dksX19_isRule_0 11 rfl rfl)
theorem dX19_isRule_12 : decode cX19_isRule 12 = .ok (.aload_n 0, 1) := dk_42 (dk_at dksX19_isRule_0 12 rfl rfl)
theorem dX19_isRule_13 : decode cX19_isRule 13 = .ok (.getfield 329, 3) := dk_180 1 73 (dk_at dksX19_isRule_0 13 rfl rfl)
theorem dX19_isRule_16 : decode cX19_isRule 16 = .ok (.getfield 259, 3) := dk_180 1 3 (dk_at dksX19_isRule_0 16 rfl rfl)
theorem dX19_isRule_19 : decode cX19_isRule 19 = .ok (.if_icmp .ge 7, 3) := dk_162 0 7 (dk_at dksX19_isRule_0 19 rfl rfl)
theorem dX19_isRule_22 : decode cX19_isRule 22 = .ok (.iconst 1, 1) := dk_4 (dk_at dksX19_isRule_0 22 rfl rfl)
theorem dX19_isRule_23 : decode cX19_isRule 23 = .ok (.goto 4, 3) := dk_167 0 4 (dk_at dksX19_isRule_1 0 rfl rfl)
theorem dX19_isRule_26 : decode cX19_isRule 26 = .ok (.iconst 0, 1) := dk_3 (dk_at dksX19_isRule_1 3 rfl rfl)
theorem dX19_isRule_27 : decode cX19_isRule 27 = .ok (.ireturn, 1) := dk_172 (dk_at dksX19_isRule_1 4 rfl rfl)
abbrev cX19_laysNow : ByteArray := prog_23_method_69_code
def yX19_laysNow : MethodName := ⟨RX19, "laysNow", "(II)I"⟩
def dkwX19_laysNow_2 : List UInt8 := [172, 42, 182, 1, 168, 42, 180, 1, 171, 153, 0, 12, 42, 180, 0, 62, 28, 46, 167, 0, 5, 16, 254, 172]
abbrev dktX19_laysNow_2 : List UInt8 := dkwX19_laysNow_2 ++ []
def dkwX19_laysNow_1 : List UInt8 := [16, 21, 159, 0, 10, 42, 29, 28, 182, 1, 165, 172, 42, 180, 1, 100, 17, 1, 44, 164, 0, 6, 16, 254]
abbrev dktX19_laysNow_1 : List UInt8 := dkwX19_laysNow_1 ++ dktX19_laysNow_2
def dkwX19_laysNow_0 : List UInt8 := [42, 180, 1, 73, 180, 1, 27, 27, 46, 62, 29, 16, 20, 160, 0, 9, 42, 28, 182, 1, 162, 172, 29]
abbrev dktX19_laysNow_0 : List UInt8 := dkwX19_laysNow_0 ++ dktX19_laysNow_1
theorem dksX19_laysNow_0 : cX19_laysNow.data.toList.drop 0 = dktX19_laysNow_0 := by decide +kernel
theorem dksX19_laysNow_1 : cX19_laysNow.data.toList.drop 23 = dktX19_laysNow_1 := dk_seg dksX19_laysNow_0 23 rfl rfl
theorem dksX19_laysNow_2 : cX19_laysNow.data.toList.drop 47 = dktX19_laysNow_2 := dk_seg dksX19_laysNow_1 24 rfl rfl
theorem dX19_laysNow_0 : decode cX19_laysNow 0 = .ok (.aload_n 0, 1) := dk_42 (dk_at dksX19_laysNow_0 0 rfl rfl)
theorem dX19_laysNow_1 : decode cX19_laysNow 1 = .ok (.getfield 329, 3) := dk_180 1 73 (dk_at dksX19_laysNow_0 1 rfl rfl)
theorem dX19_laysNow_4 : decode cX19_laysNow 4 = .ok (.getfield 283, 3) := dk_180 1 27 (dk_at dksX19_laysNow_0 4 rfl rfl)
theorem dX19_laysNow_7 : decode cX19_laysNow 7 = .ok (.iload_n 1, 1) := dk_27 (dk_at dksX19_laysNow_0 7 rfl rfl)
theorem dX19_laysNow_8 : decode cX19_laysNow 8 = .ok (.iaload, 1) := dk_46 (dk_at dksX19_laysNow_0 8 rfl rfl)
theorem dX19_laysNow_9 : decode cX19_laysNow 9 = .ok (.istore_n 3, 1) := dk_62 (dk_at dksX19_laysNow_0 9 rfl rfl)
theorem dX19_laysNow_10 : decode cX19_laysNow 10 = .ok (.iload_n 3, 1) := dk_29 (dk_at dksX19_laysNow_0 10 rfl rfl)
theorem dX19_laysNow_11 : decode cX19_laysNow 11 = .ok (.bipush 20, 2) := dk_16 20 (dk_at dksX19_laysNow_0 11 rfl rfl)
theorem dX19_laysNow_13 : decode cX19_laysNow 13 = .ok (.if_icmp .ne 9, 3) := dk_160 0 9 (dk_at dksX19_laysNow_0 13 rfl rfl)
theorem dX19_laysNow_16 : decode cX19_laysNow 16 = .ok (.aload_n 0, 1) := dk_42 (dk_at dksX19_laysNow_0 16 rfl rfl)
theorem dX19_laysNow_17 : decode cX19_laysNow 17 = .ok (.iload_n 2, 1) := dk_28 (dk_at dksX19_laysNow_0 17 rfl rfl)
theorem dX19_laysNow_18 : decode cX19_laysNow 18 = .ok (.invokevirtual 418, 3) := dk_182 1 162 (dk_at dksX19_laysNow_0 18 rfl rfl)
theorem dX19_laysNow_21 : decode cX19_laysNow 21 = .ok (.ireturn, 1) := dk_172 (dk_at dksX19_laysNow_0 21 rfl rfl)
theorem dX19_laysNow_22 : decode cX19_laysNow 22 = .ok (.iload_n 3, 1) := dk_29 (dk_at dksX19_laysNow_0 22 rfl rfl)
theorem dX19_laysNow_23 : decode cX19_laysNow 23 = .ok (.bipush 21, 2) := dk_16 21 (dk_at dksX19_laysNow_1 0 rfl rfl)
theorem dX19_laysNow_25 : decode cX19_laysNow 25 = .ok (.if_icmp .eq 10, 3) := dk_159 0 10 (dk_at dksX19_laysNow_1 2 rfl rfl)
theorem dX19_laysNow_28 : decode cX19_laysNow 28 = .ok (.aload_n 0, 1) := dk_42 (dk_at dksX19_laysNow_1 5 rfl rfl)
theorem dX19_laysNow_29 : decode cX19_laysNow 29 = .ok (.iload_n 3, 1) := dk_29 (dk_at dksX19_laysNow_1 6 rfl rfl)
theorem dX19_laysNow_30 : decode cX19_laysNow 30 = .ok (.iload_n 2, 1) := dk_28 (dk_at dksX19_laysNow_1 7 rfl rfl)
theorem dX19_laysNow_31 : decode cX19_laysNow 31 = .ok (.invokevirtual 421, 3) := dk_182 1 165 (dk_at dksX19_laysNow_1 8 rfl rfl)
theorem dX19_laysNow_34 : decode cX19_laysNow 34 = .ok (.ireturn, 1) := dk_172 (dk_at dksX19_laysNow_1 11 rfl rfl)
theorem dX19_laysNow_35 : decode cX19_laysNow 35 = .ok (.aload_n 0, 1) := dk_42 (dk_at dksX19_laysNow_1 12 rfl rfl)
theorem dX19_laysNow_36 : decode cX19_laysNow 36 = .ok (.getfield 356, 3) := dk_180 1 100 (dk_at dksX19_laysNow_1 13 rfl rfl)
theorem dX19_laysNow_39 : decode cX19_laysNow 39 = .ok (.sipush 300, 3) := dk_17 1 44 (dk_at dksX19_laysNow_1 16 rfl rfl)
theorem dX19_laysNow_42 : decode cX19_laysNow 42 = .ok (.if_icmp .le 6, 3) := dk_164 0 6 (dk_at dksX19_laysNow_1 19 rfl rfl)
theorem dX19_laysNow_45 : decode cX19_laysNow 45 = .ok (.bipush (-2), 2) := dk_16 254 (dk_at dksX19_laysNow_1 22 rfl rfl)
theorem dX19_laysNow_47 : decode cX19_laysNow 47 = .ok (.ireturn, 1) := dk_172 (dk_at dksX19_laysNow_2 0 rfl rfl)
theorem dX19_laysNow_48 : decode cX19_laysNow 48 = .ok (.aload_n 0, 1) := dk_42 (dk_at dksX19_laysNow_2 1 rfl rfl)
theorem dX19_laysNow_49 : decode cX19_laysNow 49 = .ok (.invokevirtual 424, 3) := dk_182 1 168 (dk_at dksX19_laysNow_2 2 rfl rfl)
theorem dX19_laysNow_52 : decode cX19_laysNow 52 = .ok (.aload_n 0, 1) := dk_42 (dk_at dksX19_laysNow_2 5 rfl rfl)
theorem dX19_laysNow_53 : decode cX19_laysNow 53 = .ok (.getfield 427, 3) := dk_180 1 171 (dk_at dksX19_laysNow_2 6 rfl rfl)
theorem dX19_laysNow_56 : decode cX19_laysNow 56 = .ok (.ifCond .eq 12, 3) := dk_153 0 12 (dk_at dksX19_laysNow_2 9 rfl rfl)
theorem dX19_laysNow_59 : decode cX19_laysNow 59 = .ok (.aload_n 0, 1) := dk_42 (dk_at dksX19_laysNow_2 12 rfl rfl)
theorem dX19_laysNow_60 : decode cX19_laysNow 60 = .ok (.getfield 62, 3) := dk_180 0 62 (dk_at dksX19_laysNow_2 13 rfl rfl)
theorem dX19_laysNow_63 : decode cX19_laysNow 63 = .ok (.iload_n 2, 1) := dk_28 (dk_at dksX19_laysNow_2 16 rfl rfl)
theorem dX19_laysNow_64 : decode cX19_laysNow 64 = .ok (.iaload, 1) := dk_46 (dk_at dksX19_laysNow_2 17 rfl rfl)
theorem dX19_laysNow_65 : decode cX19_laysNow 65 = .ok (.goto 5, 3) := dk_167 0 5 (dk_at dksX19_laysNow_2 18 rfl rfl)
theorem dX19_laysNow_68 : decode cX19_laysNow 68 = .ok (.bipush (-2), 2) := dk_16 254 (dk_at dksX19_laysNow_2 21 rfl rfl)
theorem dX19_laysNow_70 : decode cX19_laysNow 70 = .ok (.ireturn, 1) := dk_172 (dk_at dksX19_laysNow_2 23 rfl rfl)
abbrev cX19_laysSuit : ByteArray := prog_23_method_68_code
def yX19_laysSuit : MethodName := ⟨RX19, "laysSuit", "(I)I"⟩
def dkwX19_laysSuit_12 : List UInt8 := [167, 255, 35, 132, 3, 1, 167, 255, 13, 16, 254, 172]
abbrev dktX19_laysSuit_12 : List UInt8 := dkwX19_laysSuit_12 ++ []
def dkwX19_laysSuit_11 : List UInt8 := [182, 1, 159, 42, 42, 180, 0, 24, 3, 182, 1, 95, 42, 180, 1, 73, 182, 1, 98, 104, 172, 132, 4, 1]
abbrev dktX19_laysSuit_11 : List UInt8 := dkwX19_laysSuit_11 ++ dktX19_laysSuit_12
def dkwX19_laysSuit_10 : List UInt8 := [21, 11, 42, 27, 21, 12, 182, 1, 110, 79, 132, 11, 1, 132, 12, 1, 167, 255, 208, 42, 21, 10, 4]
abbrev dktX19_laysSuit_10 : List UInt8 := dkwX19_laysSuit_10 ++ dktX19_laysSuit_11
def dkwX19_laysSuit_9 : List UInt8 := [162, 0, 42, 21, 12, 29, 159, 0, 30, 21, 12, 21, 4, 160, 0, 6, 167, 0, 20, 42, 180, 0, 24]
abbrev dktX19_laysSuit_9 : List UInt8 := dkwX19_laysSuit_9 ++ dktX19_laysSuit_10
def dkwX19_laysSuit_8 : List UInt8 := [42, 180, 0, 24, 3, 21, 9, 79, 4, 54, 11, 3, 54, 12, 21, 12, 42, 180, 1, 73, 180, 0, 232]
abbrev dktX19_laysSuit_8 : List UInt8 := dkwX19_laysSuit_8 ++ dktX19_laysSuit_9
def dkwX19_laysSuit_7 : List UInt8 := [180, 1, 1, 4, 100, 42, 180, 1, 73, 180, 1, 1, 4, 100, 184, 0, 99, 148, 155, 0, 6, 16, 254, 172]
abbrev dktX19_laysSuit_7 : List UInt8 := dkwX19_laysSuit_7 ++ dktX19_laysSuit_8
def dkwX19_laysSuit_6 : List UInt8 := [153, 0, 8, 21, 7, 167, 0, 7, 28, 21, 7, 100, 4, 100, 54, 10, 21, 10, 133, 42, 180, 1, 73]
abbrev dktX19_laysSuit_6 : List UInt8 := dkwX19_laysSuit_6 ++ dktX19_laysSuit_7
def dkwX19_laysSuit_5 : List UInt8 := [167, 0, 4, 3, 54, 8, 21, 8, 153, 0, 8, 21, 5, 167, 0, 5, 21, 6, 54, 9, 21, 8]
abbrev dktX19_laysSuit_5 : List UInt8 := dkwX19_laysSuit_5 ++ dktX19_laysSuit_6
def dkwX19_laysSuit_4 : List UInt8 := [159, 0, 6, 167, 0, 178, 21, 6, 21, 5, 100, 54, 7, 5, 21, 7, 104, 28, 163, 0, 7, 4]
abbrev dktX19_laysSuit_4 : List UInt8 := dkwX19_laysSuit_4 ++ dktX19_laysSuit_5
def dkwX19_laysSuit_3 : List UInt8 := [27, 29, 182, 1, 110, 54, 5, 42, 27, 21, 4, 182, 1, 110, 54, 6, 21, 5, 28, 108, 21, 6, 28, 108]
abbrev dktX19_laysSuit_3 : List UInt8 := dkwX19_laysSuit_3 ++ dktX19_laysSuit_4
def dkwX19_laysSuit_2 : List UInt8 := [180, 0, 232, 162, 0, 238, 29, 4, 96, 54, 4, 21, 4, 42, 180, 1, 73, 180, 0, 232, 162, 0, 215, 42]
abbrev dktX19_laysSuit_2 : List UInt8 := dkwX19_laysSuit_2 ++ dktX19_laysSuit_3
def dkwX19_laysSuit_1 : List UInt8 := [180, 1, 73, 180, 0, 194, 42, 180, 1, 73, 180, 0, 253, 108, 61, 3, 62, 29, 42, 180, 1, 73]
abbrev dktX19_laysSuit_1 : List UInt8 := dkwX19_laysSuit_1 ++ dktX19_laysSuit_2
def dkwX19_laysSuit_0 : List UInt8 := [42, 182, 1, 132, 154, 0, 14, 42, 180, 1, 73, 180, 0, 255, 4, 159, 0, 6, 16, 254, 172, 42]
abbrev dktX19_laysSuit_0 : List UInt8 := dkwX19_laysSuit_0 ++ dktX19_laysSuit_1
theorem dksX19_laysSuit_0 : cX19_laysSuit.data.toList.drop 0 = dktX19_laysSuit_0 := by decide +kernel
theorem dksX19_laysSuit_1 : cX19_laysSuit.data.toList.drop 22 = dktX19_laysSuit_1 := dk_seg dksX19_laysSuit_0 22 rfl rfl
theorem dksX19_laysSuit_2 : cX19_laysSuit.data.toList.drop 44 = dktX19_laysSuit_2 := dk_seg dksX19_laysSuit_1 22 rfl rfl
theorem dksX19_laysSuit_3 : cX19_laysSuit.data.toList.drop 68 = dktX19_laysSuit_3 := dk_seg dksX19_laysSuit_2 24 rfl rfl
theorem dksX19_laysSuit_4 : cX19_laysSuit.data.toList.drop 92 = dktX19_laysSuit_4 := dk_seg dksX19_laysSuit_3 24 rfl rfl
theorem dksX19_laysSuit_5 : cX19_laysSuit.data.toList.drop 114 = dktX19_laysSuit_5 := dk_seg dksX19_laysSuit_4 22 rfl rfl
theorem dksX19_laysSuit_6 : cX19_laysSuit.data.toList.drop 136 = dktX19_laysSuit_6 := dk_seg dksX19_laysSuit_5 22 rfl rfl
theorem dksX19_laysSuit_7 : cX19_laysSuit.data.toList.drop 159 = dktX19_laysSuit_7 := dk_seg dksX19_laysSuit_6 23 rfl rfl
theorem dksX19_laysSuit_8 : cX19_laysSuit.data.toList.drop 183 = dktX19_laysSuit_8 := dk_seg dksX19_laysSuit_7 24 rfl rfl
theorem dksX19_laysSuit_9 : cX19_laysSuit.data.toList.drop 206 = dktX19_laysSuit_9 := dk_seg dksX19_laysSuit_8 23 rfl rfl
theorem dksX19_laysSuit_10 : cX19_laysSuit.data.toList.drop 229 = dktX19_laysSuit_10 := dk_seg dksX19_laysSuit_9 23 rfl rfl
theorem dksX19_laysSuit_11 : cX19_laysSuit.data.toList.drop 252 = dktX19_laysSuit_11 := dk_seg dksX19_laysSuit_10 23 rfl rfl
theorem dksX19_laysSuit_12 : cX19_laysSuit.data.toList.drop 276 = dktX19_laysSuit_12 := dk_seg dksX19_laysSuit_11 24 rfl rfl
theorem dX19_laysSuit_0 : decode cX19_laysSuit 0 = .ok (.aload_n 0, 1) := dk_42 (dk_at dksX19_laysSuit_0 0 rfl rfl)
theorem dX19_laysSuit_1 : decode cX19_laysSuit 1 = .ok (.invokevirtual 388, 3) := dk_182 1 132 (dk_at dksX19_laysSuit_0 1 rfl rfl)
theorem dX19_laysSuit_4 : decode cX19_laysSuit 4 = .ok (.ifCond .ne 14, 3) := dk_154 0 14 (dk_at dksX19_laysSuit_0 4 rfl rfl)
theorem dX19_laysSuit_7 : decode cX19_laysSuit 7 = .ok (.aload_n 0, 1) := dk_42 (dk_at dksX19_laysSuit_0 7 rfl rfl)
theorem dX19_laysSuit_8 : decode cX19_laysSuit 8 = .ok (.getfield 329, 3) := dk_180 1 73 (dk_at dksX19_laysSuit_0 8 rfl rfl)
theorem dX19_laysSuit_11 : decode cX19_laysSuit 11 = .ok (.getfield 255, 3) := dk_180 0 255 (dk_at dksX19_laysSuit_0 11 rfl rfl)
theorem dX19_laysSuit_14 : decode cX19_laysSuit 14 = .ok (.iconst 1, 1) := dk_4 (dk_at dksX19_laysSuit_0 14 rfl rfl)
theorem dX19_laysSuit_15 : decode cX19_laysSuit 15 = .ok (.if_icmp .eq 6, 3) := dk_159 0 6 (dk_at dksX19_laysSuit_0 15 rfl rfl)
theorem dX19_laysSuit_18 : decode cX19_laysSuit 18 = .ok (.bipush (-2), 2) := dk_16 254 (dk_at dksX19_laysSuit_0 18 rfl rfl)
theorem dX19_laysSuit_20 : decode cX19_laysSuit 20 = .ok (.ireturn, 1) := dk_172 (dk_at dksX19_laysSuit_0 20 rfl rfl)
theorem dX19_laysSuit_21 : decode cX19_laysSuit 21 = .ok (.aload_n 0, 1) := dk_42 (dk_at dksX19_laysSuit_0 21 rfl rfl)
theorem dX19_laysSuit_22 : decode cX19_laysSuit 22 = .ok (.getfield 329, 3) := dk_180 1 73 (dk_at dksX19_laysSuit_1 0 rfl rfl)
theorem dX19_laysSuit_25 : decode cX19_laysSuit 25 = .ok (.getfield 194, 3) := dk_180 0 194 (dk_at dksX19_laysSuit_1 3 rfl rfl)
theorem dX19_laysSuit_28 : decode cX19_laysSuit 28 = .ok (.aload_n 0, 1) := dk_42 (dk_at dksX19_laysSuit_1 6 rfl rfl)
theorem dX19_laysSuit_29 : decode cX19_laysSuit 29 = .ok (.getfield 329, 3) := dk_180 1 73 (dk_at dksX19_laysSuit_1 7 rfl rfl)
theorem dX19_laysSuit_32 : decode cX19_laysSuit 32 = .ok (.getfield 253, 3) := dk_180 0 253 (dk_at dksX19_laysSuit_1 10 rfl rfl)
theorem dX19_laysSuit_35 : decode cX19_laysSuit 35 = .ok (.idiv, 1) := dk_108 (dk_at dksX19_laysSuit_1 13 rfl rfl)
theorem dX19_laysSuit_36 : decode cX19_laysSuit 36 = .ok (.istore_n 2, 1) := dk_61 (dk_at dksX19_laysSuit_1 14 rfl rfl)
theorem dX19_laysSuit_37 : decode cX19_laysSuit 37 = .ok (.iconst 0, 1) := dk_3 (dk_at dksX19_laysSuit_1 15 rfl rfl)
theorem dX19_laysSuit_38 : decode cX19_laysSuit 38 = .ok (.istore_n 3, 1) := dk_62 (dk_at dksX19_laysSuit_1 16 rfl rfl)
theorem dX19_laysSuit_39 : decode cX19_laysSuit 39 = .ok (.iload_n 3, 1) := dk_29 (dk_at dksX19_laysSuit_1 17 rfl rfl)
theorem dX19_laysSuit_40 : decode cX19_laysSuit 40 = .ok (.aload_n 0, 1) := dk_42 (dk_at dksX19_laysSuit_1 18 rfl rfl)
theorem dX19_laysSuit_41 : decode cX19_laysSuit 41 = .ok (.getfield 329, 3) := dk_180 1 73 (dk_at dksX19_laysSuit_1 19 rfl rfl)
theorem dX19_laysSuit_44 : decode cX19_laysSuit 44 = .ok (.getfield 232, 3) := dk_180 0 232 (dk_at dksX19_laysSuit_2 0 rfl rfl)
theorem dX19_laysSuit_47 : decode cX19_laysSuit 47 = .ok (.if_icmp .ge 238, 3) := dk_162 0 238 (dk_at dksX19_laysSuit_2 3 rfl rfl)
theorem dX19_laysSuit_50 : decode cX19_laysSuit 50 = .ok (.iload_n 3, 1) := dk_29 (dk_at dksX19_laysSuit_2 6 rfl rfl)
theorem dX19_laysSuit_51 : decode cX19_laysSuit 51 = .ok (.iconst 1, 1) := dk_4 (dk_at dksX19_laysSuit_2 7 rfl rfl)
theorem dX19_laysSuit_52 : decode cX19_laysSuit 52 = .ok (.iadd, 1) := dk_96 (dk_at dksX19_laysSuit_2 8 rfl rfl)
theorem dX19_laysSuit_53 : decode cX19_laysSuit 53 = .ok (.istore 4, 2) := dk_54 4 (dk_at dksX19_laysSuit_2 9 rfl rfl)
theorem dX19_laysSuit_55 : decode cX19_laysSuit 55 = .ok (.iload 4, 2) := dk_21 4 (dk_at dksX19_laysSuit_2 11 rfl rfl)
theorem dX19_laysSuit_57 : decode cX19_laysSuit 57 = .ok (.aload_n 0, 1) := dk_42 (dk_at dksX19_laysSuit_2 13 rfl rfl)
theorem dX19_laysSuit_58 : decode cX19_laysSuit 58 = .ok (.getfield 329, 3) := dk_180 1 73 (dk_at dksX19_laysSuit_2 14 rfl rfl)
theorem dX19_laysSuit_61 : decode cX19_laysSuit 61 = .ok (.getfield 232, 3) := dk_180 0 232 (dk_at dksX19_laysSuit_2 17 rfl rfl)
theorem dX19_laysSuit_64 : decode cX19_laysSuit 64 = .ok (.if_icmp .ge 215, 3) := dk_162 0 215 (dk_at dksX19_laysSuit_2 20 rfl rfl)
theorem dX19_laysSuit_67 : decode cX19_laysSuit 67 = .ok (.aload_n 0, 1) := dk_42 (dk_at dksX19_laysSuit_2 23 rfl rfl)
theorem dX19_laysSuit_68 : decode cX19_laysSuit 68 = .ok (.iload_n 1, 1) := dk_27 (dk_at dksX19_laysSuit_3 0 rfl rfl)
theorem dX19_laysSuit_69 : decode cX19_laysSuit 69 = .ok (.iload_n 3, 1) := dk_29 (dk_at dksX19_laysSuit_3 1 rfl rfl)
theorem dX19_laysSuit_70 : decode cX19_laysSuit 70 = .ok (.invokevirtual 366, 3) := dk_182 1 110 (dk_at dksX19_laysSuit_3 2 rfl rfl)
theorem dX19_laysSuit_73 : decode cX19_laysSuit 73 = .ok (.istore 5, 2) := dk_54 5 (dk_at dksX19_laysSuit_3 5 rfl rfl)
theorem dX19_laysSuit_75 : decode cX19_laysSuit 75 = .ok (.aload_n 0, 1) := dk_42 (dk_at dksX19_laysSuit_3 7 rfl rfl)
theorem dX19_laysSuit_76 : decode cX19_laysSuit 76 = .ok (.iload_n 1, 1) := dk_27 (dk_at dksX19_laysSuit_3 8 rfl rfl)
theorem dX19_laysSuit_77 : decode cX19_laysSuit 77 = .ok (.iload 4, 2) := dk_21 4 (dk_at dksX19_laysSuit_3 9 rfl rfl)
theorem dX19_laysSuit_79 : decode cX19_laysSuit 79 = .ok (.invokevirtual 366, 3) := dk_182 1 110 (dk_at dksX19_laysSuit_3 11 rfl rfl)
theorem dX19_laysSuit_82 : decode cX19_laysSuit 82 = .ok (.istore 6, 2) := dk_54 6 (dk_at dksX19_laysSuit_3 14 rfl rfl)
theorem dX19_laysSuit_84 : decode cX19_laysSuit 84 = .ok (.iload 5, 2) := dk_21 5 (dk_at dksX19_laysSuit_3 16 rfl rfl)
theorem dX19_laysSuit_86 : decode cX19_laysSuit 86 = .ok (.iload_n 2, 1) := dk_28 (dk_at dksX19_laysSuit_3 18 rfl rfl)
theorem dX19_laysSuit_87 : decode cX19_laysSuit 87 = .ok (.idiv, 1) := dk_108 (dk_at dksX19_laysSuit_3 19 rfl rfl)
theorem dX19_laysSuit_88 : decode cX19_laysSuit 88 = .ok (.iload 6, 2) := dk_21 6 (dk_at dksX19_laysSuit_3 20 rfl rfl)
theorem dX19_laysSuit_90 : decode cX19_laysSuit 90 = .ok (.iload_n 2, 1) := dk_28 (dk_at dksX19_laysSuit_3 22 rfl rfl)
theorem dX19_laysSuit_91 : decode cX19_laysSuit 91 = .ok (.idiv, 1) := dk_108 (dk_at dksX19_laysSuit_3 23 rfl rfl)
theorem dX19_laysSuit_92 : decode cX19_laysSuit 92 = .ok (.if_icmp .eq 6, 3) := dk_159 0 6 (dk_at dksX19_laysSuit_4 0 rfl rfl)
theorem dX19_laysSuit_95 : decode cX19_laysSuit 95 = .ok (.goto 178, 3) := dk_167 0 178 (dk_at dksX19_laysSuit_4 3 rfl rfl)
theorem dX19_laysSuit_98 : decode cX19_laysSuit 98 = .ok (.iload 6, 2) := dk_21 6 (dk_at dksX19_laysSuit_4 6 rfl rfl)
theorem dX19_laysSuit_100 : decode cX19_laysSuit 100 = .ok (.iload 5, 2) := dk_21 5 (dk_at dksX19_laysSuit_4 8 rfl rfl)
theorem dX19_laysSuit_102 : decode cX19_laysSuit 102 = .ok (.isub, 1) := dk_100 (dk_at dksX19_laysSuit_4 10 rfl rfl)
theorem dX19_laysSuit_103 : decode cX19_laysSuit 103 = .ok (.istore 7, 2) := dk_54 7 (dk_at dksX19_laysSuit_4 11 rfl rfl)
theorem dX19_laysSuit_105 : decode cX19_laysSuit 105 = .ok (.iconst 2, 1) := dk_5 (dk_at dksX19_laysSuit_4 13 rfl rfl)
theorem dX19_laysSuit_106 : decode cX19_laysSuit 106 = .ok (.iload 7, 2) := dk_21 7 (dk_at dksX19_laysSuit_4 14 rfl rfl)
theorem dX19_laysSuit_108 : decode cX19_laysSuit 108 = .ok (.imul, 1) := dk_104 (dk_at dksX19_laysSuit_4 16 rfl rfl)
theorem dX19_laysSuit_109 : decode cX19_laysSuit 109 = .ok (.iload_n 2, 1) := dk_28 (dk_at dksX19_laysSuit_4 17 rfl rfl)
theorem dX19_laysSuit_110 : decode cX19_laysSuit 110 = .ok (.if_icmp .gt 7, 3) := dk_163 0 7 (dk_at dksX19_laysSuit_4 18 rfl rfl)
theorem dX19_laysSuit_113 : decode cX19_laysSuit 113 = .ok (.iconst 1, 1) := dk_4 (dk_at dksX19_laysSuit_4 21 rfl rfl)
theorem dX19_laysSuit_114 : decode cX19_laysSuit 114 = .ok (.goto 4, 3) := dk_167 0 4 (dk_at dksX19_laysSuit_5 0 rfl rfl)
theorem dX19_laysSuit_117 : decode cX19_laysSuit 117 = .ok (.iconst 0, 1) := dk_3 (dk_at dksX19_laysSuit_5 3 rfl rfl)
theorem dX19_laysSuit_118 : decode cX19_laysSuit 118 = .ok (.istore 8, 2) := dk_54 8 (dk_at dksX19_laysSuit_5 4 rfl rfl)
theorem dX19_laysSuit_120 : decode cX19_laysSuit 120 = .ok (.iload 8, 2) := dk_21 8 (dk_at dksX19_laysSuit_5 6 rfl rfl)
theorem dX19_laysSuit_122 : decode cX19_laysSuit 122 = .ok (.ifCond .eq 8, 3) := dk_153 0 8 (dk_at dksX19_laysSuit_5 8 rfl rfl)
theorem dX19_laysSuit_125 : decode cX19_laysSuit 125 = .ok (.iload 5, 2) := dk_21 5 (dk_at dksX19_laysSuit_5 11 rfl rfl)
theorem dX19_laysSuit_127 : decode cX19_laysSuit 127 = .ok (.goto 5, 3) := dk_167 0 5 (dk_at dksX19_laysSuit_5 13 rfl rfl)
theorem dX19_laysSuit_130 : decode cX19_laysSuit 130 = .ok (.iload 6, 2) := dk_21 6 (dk_at dksX19_laysSuit_5 16 rfl rfl)
theorem dX19_laysSuit_132 : decode cX19_laysSuit 132 = .ok (.istore 9, 2) := dk_54 9 (dk_at dksX19_laysSuit_5 18 rfl rfl)
theorem dX19_laysSuit_134 : decode cX19_laysSuit 134 = .ok (.iload 8, 2) := dk_21 8 (dk_at dksX19_laysSuit_5 20 rfl rfl)
theorem dX19_laysSuit_136 : decode cX19_laysSuit 136 = .ok (.ifCond .eq 8, 3) := dk_153 0 8 (dk_at dksX19_laysSuit_6 0 rfl rfl)
theorem dX19_laysSuit_139 : decode cX19_laysSuit 139 = .ok (.iload 7, 2) := dk_21 7 (dk_at dksX19_laysSuit_6 3 rfl rfl)
theorem dX19_laysSuit_141 : decode cX19_laysSuit 141 = .ok (.goto 7, 3) := dk_167 0 7 (dk_at dksX19_laysSuit_6 5 rfl rfl)
theorem dX19_laysSuit_144 : decode cX19_laysSuit 144 = .ok (.iload_n 2, 1) := dk_28 (dk_at dksX19_laysSuit_6 8 rfl rfl)
theorem dX19_laysSuit_145 : decode cX19_laysSuit 145 = .ok (.iload 7, 2) := dk_21 7 (dk_at dksX19_laysSuit_6 9 rfl rfl)
theorem dX19_laysSuit_147 : decode cX19_laysSuit 147 = .ok (.isub, 1) := dk_100 (dk_at dksX19_laysSuit_6 11 rfl rfl)
theorem dX19_laysSuit_148 : decode cX19_laysSuit 148 = .ok (.iconst 1, 1) := dk_4 (dk_at dksX19_laysSuit_6 12 rfl rfl)
theorem dX19_laysSuit_149 : decode cX19_laysSuit 149 = .ok (.isub, 1) := dk_100 (dk_at dksX19_laysSuit_6 13 rfl rfl)
theorem dX19_laysSuit_150 : decode cX19_laysSuit 150 = .ok (.istore 10, 2) := dk_54 10 (dk_at dksX19_laysSuit_6 14 rfl rfl)
theorem dX19_laysSuit_152 : decode cX19_laysSuit 152 = .ok (.iload 10, 2) := dk_21 10 (dk_at dksX19_laysSuit_6 16 rfl rfl)
theorem dX19_laysSuit_154 : decode cX19_laysSuit 154 = .ok (.i2l, 1) := dk_133 (dk_at dksX19_laysSuit_6 18 rfl rfl)
theorem dX19_laysSuit_155 : decode cX19_laysSuit 155 = .ok (.aload_n 0, 1) := dk_42 (dk_at dksX19_laysSuit_6 19 rfl rfl)
theorem dX19_laysSuit_156 : decode cX19_laysSuit 156 = .ok (.getfield 329, 3) := dk_180 1 73 (dk_at dksX19_laysSuit_6 20 rfl rfl)
theorem dX19_laysSuit_159 : decode cX19_laysSuit 159 = .ok (.getfield 257, 3) := dk_180 1 1 (dk_at dksX19_laysSuit_7 0 rfl rfl)
theorem dX19_laysSuit_162 : decode cX19_laysSuit 162 = .ok (.iconst 1, 1) := dk_4 (dk_at dksX19_laysSuit_7 3 rfl rfl)
theorem dX19_laysSuit_163 : decode cX19_laysSuit 163 = .ok (.isub, 1) := dk_100 (dk_at dksX19_laysSuit_7 4 rfl rfl)
theorem dX19_laysSuit_164 : decode cX19_laysSuit 164 = .ok (.aload_n 0, 1) := dk_42 (dk_at dksX19_laysSuit_7 5 rfl rfl)
theorem dX19_laysSuit_165 : decode cX19_laysSuit 165 = .ok (.getfield 329, 3) := dk_180 1 73 (dk_at dksX19_laysSuit_7 6 rfl rfl)
theorem dX19_laysSuit_168 : decode cX19_laysSuit 168 = .ok (.getfield 257, 3) := dk_180 1 1 (dk_at dksX19_laysSuit_7 9 rfl rfl)
theorem dX19_laysSuit_171 : decode cX19_laysSuit 171 = .ok (.iconst 1, 1) := dk_4 (dk_at dksX19_laysSuit_7 12 rfl rfl)
theorem dX19_laysSuit_172 : decode cX19_laysSuit 172 = .ok (.isub, 1) := dk_100 (dk_at dksX19_laysSuit_7 13 rfl rfl)
theorem dX19_laysSuit_173 : decode cX19_laysSuit 173 = .ok (.invokestatic 99, 3) := dk_184 0 99 (dk_at dksX19_laysSuit_7 14 rfl rfl)
theorem dX19_laysSuit_176 : decode cX19_laysSuit 176 = .ok (.lcmp, 1) := dk_148 (dk_at dksX19_laysSuit_7 17 rfl rfl)
theorem dX19_laysSuit_177 : decode cX19_laysSuit 177 = .ok (.ifCond .lt 6, 3) := dk_155 0 6 (dk_at dksX19_laysSuit_7 18 rfl rfl)
theorem dX19_laysSuit_180 : decode cX19_laysSuit 180 = .ok (.bipush (-2), 2) := dk_16 254 (dk_at dksX19_laysSuit_7 21 rfl rfl)
theorem dX19_laysSuit_182 : decode cX19_laysSuit 182 = .ok (.ireturn, 1) := dk_172 (dk_at dksX19_laysSuit_7 23 rfl rfl)
theorem dX19_laysSuit_183 : decode cX19_laysSuit 183 = .ok (.aload_n 0, 1) := dk_42 (dk_at dksX19_laysSuit_8 0 rfl rfl)
theorem dX19_laysSuit_184 : decode cX19_laysSuit 184 = .ok (.getfield 24, 3) := dk_180 0 24 (dk_at dksX19_laysSuit_8 1 rfl rfl)
theorem dX19_laysSuit_187 : decode cX19_laysSuit 187 = .ok (.iconst 0, 1) := dk_3 (dk_at dksX19_laysSuit_8 4 rfl rfl)
theorem dX19_laysSuit_188 : decode cX19_laysSuit 188 = .ok (.iload 9, 2) := dk_21 9 (dk_at dksX19_laysSuit_8 5 rfl rfl)
theorem dX19_laysSuit_190 : decode cX19_laysSuit 190 = .ok (.iastore, 1) := dk_79 (dk_at dksX19_laysSuit_8 7 rfl rfl)
theorem dX19_laysSuit_191 : decode cX19_laysSuit 191 = .ok (.iconst 1, 1) := dk_4 (dk_at dksX19_laysSuit_8 8 rfl rfl)
theorem dX19_laysSuit_192 : decode cX19_laysSuit 192 = .ok (.istore 11, 2) := dk_54 11 (dk_at dksX19_laysSuit_8 9 rfl rfl)
theorem dX19_laysSuit_194 : decode cX19_laysSuit 194 = .ok (.iconst 0, 1) := dk_3 (dk_at dksX19_laysSuit_8 11 rfl rfl)
theorem dX19_laysSuit_195 : decode cX19_laysSuit 195 = .ok (.istore 12, 2) := dk_54 12 (dk_at dksX19_laysSuit_8 12 rfl rfl)
theorem dX19_laysSuit_197 : decode cX19_laysSuit 197 = .ok (.iload 12, 2) := dk_21 12 (dk_at dksX19_laysSuit_8 14 rfl rfl)
theorem dX19_laysSuit_199 : decode cX19_laysSuit 199 = .ok (.aload_n 0, 1) := dk_42 (dk_at dksX19_laysSuit_8 16 rfl rfl)
theorem dX19_laysSuit_200 : decode cX19_laysSuit 200 = .ok (.getfield 329, 3) := dk_180 1 73 (dk_at dksX19_laysSuit_8 17 rfl rfl)
theorem dX19_laysSuit_203 : decode cX19_laysSuit 203 = .ok (.getfield 232, 3) := dk_180 0 232 (dk_at dksX19_laysSuit_8 20 rfl rfl)
theorem dX19_laysSuit_206 : decode cX19_laysSuit 206 = .ok (.if_icmp .ge 42, 3) := dk_162 0 42 (dk_at dksX19_laysSuit_9 0 rfl rfl)
theorem dX19_laysSuit_209 : decode cX19_laysSuit 209 = .ok (.iload 12, 2) := dk_21 12 (dk_at dksX19_laysSuit_9 3 rfl rfl)
theorem dX19_laysSuit_211 : decode cX19_laysSuit 211 = .ok (.iload_n 3, 1) := dk_29 (dk_at dksX19_laysSuit_9 5 rfl rfl)
theorem dX19_laysSuit_212 : decode cX19_laysSuit 212 = .ok (.if_icmp .eq 30, 3) := dk_159 0 30 (dk_at dksX19_laysSuit_9 6 rfl rfl)
theorem dX19_laysSuit_215 : decode cX19_laysSuit 215 = .ok (.iload 12, 2) := dk_21 12 (dk_at dksX19_laysSuit_9 9 rfl rfl)
theorem dX19_laysSuit_217 : decode cX19_laysSuit 217 = .ok (.iload 4, 2) := dk_21 4 (dk_at dksX19_laysSuit_9 11 rfl rfl)
theorem dX19_laysSuit_219 : decode cX19_laysSuit 219 = .ok (.if_icmp .ne 6, 3) := dk_160 0 6 (dk_at dksX19_laysSuit_9 13 rfl rfl)
theorem dX19_laysSuit_222 : decode cX19_laysSuit 222 = .ok (.goto 20, 3) := dk_167 0 20 (dk_at dksX19_laysSuit_9 16 rfl rfl)
theorem dX19_laysSuit_225 : decode cX19_laysSuit 225 = .ok (.aload_n 0, 1) := dk_42 (dk_at dksX19_laysSuit_9 19 rfl rfl)
theorem dX19_laysSuit_226 : decode cX19_laysSuit 226 = .ok (.getfield 24, 3) := dk_180 0 24 (dk_at dksX19_laysSuit_9 20 rfl rfl)
theorem dX19_laysSuit_229 : decode cX19_laysSuit 229 = .ok (.iload 11, 2) := dk_21 11 (dk_at dksX19_laysSuit_10 0 rfl rfl)
theorem dX19_laysSuit_231 : decode cX19_laysSuit 231 = .ok (.aload_n 0, 1) := dk_42 (dk_at dksX19_laysSuit_10 2 rfl rfl)
theorem dX19_laysSuit_232 : decode cX19_laysSuit 232 = .ok (.iload_n 1, 1) := dk_27 (dk_at dksX19_laysSuit_10 3 rfl rfl)
theorem dX19_laysSuit_233 : decode cX19_laysSuit 233 = .ok (.iload 12, 2) := dk_21 12 (dk_at dksX19_laysSuit_10 4 rfl rfl)
theorem dX19_laysSuit_235 : decode cX19_laysSuit 235 = .ok (.invokevirtual 366, 3) := dk_182 1 110 (dk_at dksX19_laysSuit_10 6 rfl rfl)
theorem dX19_laysSuit_238 : decode cX19_laysSuit 238 = .ok (.iastore, 1) := dk_79 (dk_at dksX19_laysSuit_10 9 rfl rfl)
theorem dX19_laysSuit_239 : decode cX19_laysSuit 239 = .ok (.iinc 11 1, 3) := dk_132 11 1 (dk_at dksX19_laysSuit_10 10 rfl rfl)
theorem dX19_laysSuit_242 : decode cX19_laysSuit 242 = .ok (.iinc 12 1, 3) := dk_132 12 1 (dk_at dksX19_laysSuit_10 13 rfl rfl)
theorem dX19_laysSuit_245 : decode cX19_laysSuit 245 = .ok (.goto (-48), 3) := dk_167 255 208 (dk_at dksX19_laysSuit_10 16 rfl rfl)
theorem dX19_laysSuit_248 : decode cX19_laysSuit 248 = .ok (.aload_n 0, 1) := dk_42 (dk_at dksX19_laysSuit_10 19 rfl rfl)
theorem dX19_laysSuit_249 : decode cX19_laysSuit 249 = .ok (.iload 10, 2) := dk_21 10 (dk_at dksX19_laysSuit_10 20 rfl rfl)
theorem dX19_laysSuit_251 : decode cX19_laysSuit 251 = .ok (.iconst 1, 1) := dk_4 (dk_at dksX19_laysSuit_10 22 rfl rfl)
theorem dX19_laysSuit_252 : decode cX19_laysSuit 252 = .ok (.invokevirtual 415, 3) := dk_182 1 159 (dk_at dksX19_laysSuit_11 0 rfl rfl)
theorem dX19_laysSuit_255 : decode cX19_laysSuit 255 = .ok (.aload_n 0, 1) := dk_42 (dk_at dksX19_laysSuit_11 3 rfl rfl)
theorem dX19_laysSuit_256 : decode cX19_laysSuit 256 = .ok (.aload_n 0, 1) := dk_42 (dk_at dksX19_laysSuit_11 4 rfl rfl)
theorem dX19_laysSuit_257 : decode cX19_laysSuit 257 = .ok (.getfield 24, 3) := dk_180 0 24 (dk_at dksX19_laysSuit_11 5 rfl rfl)
theorem dX19_laysSuit_260 : decode cX19_laysSuit 260 = .ok (.iconst 0, 1) := dk_3 (dk_at dksX19_laysSuit_11 8 rfl rfl)
theorem dX19_laysSuit_261 : decode cX19_laysSuit 261 = .ok (.invokevirtual 351, 3) := dk_182 1 95 (dk_at dksX19_laysSuit_11 9 rfl rfl)
theorem dX19_laysSuit_264 : decode cX19_laysSuit 264 = .ok (.aload_n 0, 1) := dk_42 (dk_at dksX19_laysSuit_11 12 rfl rfl)
theorem dX19_laysSuit_265 : decode cX19_laysSuit 265 = .ok (.getfield 329, 3) := dk_180 1 73 (dk_at dksX19_laysSuit_11 13 rfl rfl)
theorem dX19_laysSuit_268 : decode cX19_laysSuit 268 = .ok (.invokevirtual 354, 3) := dk_182 1 98 (dk_at dksX19_laysSuit_11 16 rfl rfl)
theorem dX19_laysSuit_271 : decode cX19_laysSuit 271 = .ok (.imul, 1) := dk_104 (dk_at dksX19_laysSuit_11 19 rfl rfl)
theorem dX19_laysSuit_272 : decode cX19_laysSuit 272 = .ok (.ireturn, 1) := dk_172 (dk_at dksX19_laysSuit_11 20 rfl rfl)
theorem dX19_laysSuit_273 : decode cX19_laysSuit 273 = .ok (.iinc 4 1, 3) := dk_132 4 1 (dk_at dksX19_laysSuit_11 21 rfl rfl)
theorem dX19_laysSuit_276 : decode cX19_laysSuit 276 = .ok (.goto (-221), 3) := dk_167 255 35 (dk_at dksX19_laysSuit_12 0 rfl rfl)
theorem dX19_laysSuit_279 : decode cX19_laysSuit 279 = .ok (.iinc 3 1, 3) := dk_132 3 1 (dk_at dksX19_laysSuit_12 3 rfl rfl)
theorem dX19_laysSuit_282 : decode cX19_laysSuit 282 = .ok (.goto (-243), 3) := dk_167 255 13 (dk_at dksX19_laysSuit_12 6 rfl rfl)
theorem dX19_laysSuit_285 : decode cX19_laysSuit 285 = .ok (.bipush (-2), 2) := dk_16 254 (dk_at dksX19_laysSuit_12 9 rfl rfl)
theorem dX19_laysSuit_287 : decode cX19_laysSuit 287 = .ok (.ireturn, 1) := dk_172 (dk_at dksX19_laysSuit_12 11 rfl rfl)
abbrev cX19_orders : ByteArray := prog_23_method_66_code
def yX19_orders : MethodName := ⟨RX19, "orders", "(II)V"⟩
def dkwX19_orders_5 : List UInt8 := [180, 0, 24, 21, 5, 21, 8, 79, 132, 5, 1, 167, 255, 147, 177]
abbrev dktX19_orders_5 : List UInt8 := dkwX19_orders_5 ++ []
def dkwX19_orders_4 : List UInt8 := [180, 0, 24, 21, 7, 42, 180, 0, 24, 21, 7, 4, 100, 46, 79, 132, 7, 255, 167, 255, 230, 42]
abbrev dktX19_orders_4 : List UInt8 := dkwX19_orders_4 ++ dktX19_orders_5
def dkwX19_orders_3 : List UInt8 := [21, 4, 21, 6, 112, 54, 4, 42, 180, 0, 24, 21, 7, 46, 54, 8, 21, 7, 21, 5, 164, 0, 25, 42]
abbrev dktX19_orders_3 : List UInt8 := dkwX19_orders_3 ++ dktX19_orders_4
def dkwX19_orders_2 : List UInt8 := [180, 1, 1, 4, 100, 21, 5, 100, 184, 0, 99, 136, 54, 6, 21, 5, 21, 4, 21, 6, 108, 96, 54, 7]
abbrev dktX19_orders_2 : List UInt8 := dkwX19_orders_2 ++ dktX19_orders_3
def dkwX19_orders_1 : List UInt8 := [180, 1, 1, 162, 0, 103, 42, 180, 1, 73, 180, 1, 1, 4, 100, 21, 5, 100, 42, 180, 1, 73]
abbrev dktX19_orders_1 : List UInt8 := dkwX19_orders_1 ++ dktX19_orders_2
def dkwX19_orders_0 : List UInt8 := [42, 180, 1, 73, 180, 1, 1, 28, 100, 62, 27, 54, 4, 28, 54, 5, 21, 5, 42, 180, 1, 73]
abbrev dktX19_orders_0 : List UInt8 := dkwX19_orders_0 ++ dktX19_orders_1
theorem dksX19_orders_0 : cX19_orders.data.toList.drop 0 = dktX19_orders_0 := by decide +kernel
theorem dksX19_orders_1 : cX19_orders.data.toList.drop 22 = dktX19_orders_1 := dk_seg dksX19_orders_0 22 rfl rfl
theorem dksX19_orders_2 : cX19_orders.data.toList.drop 44 = dktX19_orders_2 := dk_seg dksX19_orders_1 22 rfl rfl
theorem dksX19_orders_3 : cX19_orders.data.toList.drop 68 = dktX19_orders_3 := dk_seg dksX19_orders_2 24 rfl rfl
theorem dksX19_orders_4 : cX19_orders.data.toList.drop 92 = dktX19_orders_4 := dk_seg dksX19_orders_3 24 rfl rfl
theorem dksX19_orders_5 : cX19_orders.data.toList.drop 114 = dktX19_orders_5 := dk_seg dksX19_orders_4 22 rfl rfl
theorem dX19_orders_0 : decode cX19_orders 0 = .ok (.aload_n 0, 1) := dk_42 (dk_at dksX19_orders_0 0 rfl rfl)
theorem dX19_orders_1 : decode cX19_orders 1 = .ok (.getfield 329, 3) := dk_180 1 73 (dk_at dksX19_orders_0 1 rfl rfl)
theorem dX19_orders_4 : decode cX19_orders 4 = .ok (.getfield 257, 3) := dk_180 1 1 (dk_at dksX19_orders_0 4 rfl rfl)
theorem dX19_orders_7 : decode cX19_orders 7 = .ok (.iload_n 2, 1) := dk_28 (dk_at dksX19_orders_0 7 rfl rfl)
theorem dX19_orders_8 : decode cX19_orders 8 = .ok (.isub, 1) := dk_100 (dk_at dksX19_orders_0 8 rfl rfl)
theorem dX19_orders_9 : decode cX19_orders 9 = .ok (.istore_n 3, 1) := dk_62 (dk_at dksX19_orders_0 9 rfl rfl)
theorem dX19_orders_10 : decode cX19_orders 10 = .ok (.iload_n 1, 1) := dk_27 (dk_at dksX19_orders_0 10 rfl rfl)
theorem dX19_orders_11 : decode cX19_orders 11 = .ok (.istore 4, 2) := dk_54 4 (dk_at dksX19_orders_0 11 rfl rfl)
theorem dX19_orders_13 : decode cX19_orders 13 = .ok (.iload_n 2, 1) := dk_28 (dk_at dksX19_orders_0 13 rfl rfl)
theorem dX19_orders_14 : decode cX19_orders 14 = .ok (.istore 5, 2) := dk_54 5 (dk_at dksX19_orders_0 14 rfl rfl)
theorem dX19_orders_16 : decode cX19_orders 16 = .ok (.iload 5, 2) := dk_21 5 (dk_at dksX19_orders_0 16 rfl rfl)
theorem dX19_orders_18 : decode cX19_orders 18 = .ok (.aload_n 0, 1) := dk_42 (dk_at dksX19_orders_0 18 rfl rfl)
theorem dX19_orders_19 : decode cX19_orders 19 = .ok (.getfield 329, 3) := dk_180 1 73 (dk_at dksX19_orders_0 19 rfl rfl)
theorem dX19_orders_22 : decode cX19_orders 22 = .ok (.getfield 257, 3) := dk_180 1 1 (dk_at dksX19_orders_1 0 rfl rfl)
theorem dX19_orders_25 : decode cX19_orders 25 = .ok (.if_icmp .ge 103, 3) := dk_162 0 103 (dk_at dksX19_orders_1 3 rfl rfl)
theorem dX19_orders_28 : decode cX19_orders 28 = .ok (.aload_n 0, 1) := dk_42 (dk_at dksX19_orders_1 6 rfl rfl)
theorem dX19_orders_29 : decode cX19_orders 29 = .ok (.getfield 329, 3) := dk_180 1 73 (dk_at dksX19_orders_1 7 rfl rfl)
theorem dX19_orders_32 : decode cX19_orders 32 = .ok (.getfield 257, 3) := dk_180 1 1 (dk_at dksX19_orders_1 10 rfl rfl)
theorem dX19_orders_35 : decode cX19_orders 35 = .ok (.iconst 1, 1) := dk_4 (dk_at dksX19_orders_1 13 rfl rfl)
theorem dX19_orders_36 : decode cX19_orders 36 = .ok (.isub, 1) := dk_100 (dk_at dksX19_orders_1 14 rfl rfl)
theorem dX19_orders_37 : decode cX19_orders 37 = .ok (.iload 5, 2) := dk_21 5 (dk_at dksX19_orders_1 15 rfl rfl)
theorem dX19_orders_39 : decode cX19_orders 39 = .ok (.isub, 1) := dk_100 (dk_at dksX19_orders_1 17 rfl rfl)
theorem dX19_orders_40 : decode cX19_orders 40 = .ok (.aload_n 0, 1) := dk_42 (dk_at dksX19_orders_1 18 rfl rfl)
theorem dX19_orders_41 : decode cX19_orders 41 = .ok (.getfield 329, 3) := dk_180 1 73 (dk_at dksX19_orders_1 19 rfl rfl)
theorem dX19_orders_44 : decode cX19_orders 44 = .ok (.getfield 257, 3) := dk_180 1 1 (dk_at dksX19_orders_2 0 rfl rfl)
theorem dX19_orders_47 : decode cX19_orders 47 = .ok (.iconst 1, 1) := dk_4 (dk_at dksX19_orders_2 3 rfl rfl)
theorem dX19_orders_48 : decode cX19_orders 48 = .ok (.isub, 1) := dk_100 (dk_at dksX19_orders_2 4 rfl rfl)
theorem dX19_orders_49 : decode cX19_orders 49 = .ok (.iload 5, 2) := dk_21 5 (dk_at dksX19_orders_2 5 rfl rfl)
theorem dX19_orders_51 : decode cX19_orders 51 = .ok (.isub, 1) := dk_100 (dk_at dksX19_orders_2 7 rfl rfl)
theorem dX19_orders_52 : decode cX19_orders 52 = .ok (.invokestatic 99, 3) := dk_184 0 99 (dk_at dksX19_orders_2 8 rfl rfl)
theorem dX19_orders_55 : decode cX19_orders 55 = .ok (.l2i, 1) := dk_136 (dk_at dksX19_orders_2 11 rfl rfl)
theorem dX19_orders_56 : decode cX19_orders 56 = .ok (.istore 6, 2) := dk_54 6 (dk_at dksX19_orders_2 12 rfl rfl)
theorem dX19_orders_58 : decode cX19_orders 58 = .ok (.iload 5, 2) := dk_21 5 (dk_at dksX19_orders_2 14 rfl rfl)
theorem dX19_orders_60 : decode cX19_orders 60 = .ok (.iload 4, 2) := dk_21 4 (dk_at dksX19_orders_2 16 rfl rfl)
theorem dX19_orders_62 : decode cX19_orders 62 = .ok (.iload 6, 2) := dk_21 6 (dk_at dksX19_orders_2 18 rfl rfl)
theorem dX19_orders_64 : decode cX19_orders 64 = .ok (.idiv, 1) := dk_108 (dk_at dksX19_orders_2 20 rfl rfl)
theorem dX19_orders_65 : decode cX19_orders 65 = .ok (.iadd, 1) := dk_96 (dk_at dksX19_orders_2 21 rfl rfl)
theorem dX19_orders_66 : decode cX19_orders 66 = .ok (.istore 7, 2) := dk_54 7 (dk_at dksX19_orders_2 22 rfl rfl)
theorem dX19_orders_68 : decode cX19_orders 68 = .ok (.iload 4, 2) := dk_21 4 (dk_at dksX19_orders_3 0 rfl rfl)
theorem dX19_orders_70 : decode cX19_orders 70 = .ok (.iload 6, 2) := dk_21 6 (dk_at dksX19_orders_3 2 rfl rfl)
theorem dX19_orders_72 : decode cX19_orders 72 = .ok (.irem, 1) := dk_112 (dk_at dksX19_orders_3 4 rfl rfl)
theorem dX19_orders_73 : decode cX19_orders 73 = .ok (.istore 4, 2) := dk_54 4 (dk_at dksX19_orders_3 5 rfl rfl)
theorem dX19_orders_75 : decode cX19_orders 75 = .ok (.aload_n 0, 1) := dk_42 (dk_at dksX19_orders_3 7 rfl rfl)
theorem dX19_orders_76 : decode cX19_orders 76 = .ok (.getfield 24, 3) := dk_180 0 24 (dk_at dksX19_orders_3 8 rfl rfl)
theorem dX19_orders_79 : decode cX19_orders 79 = .ok (.iload 7, 2) := dk_21 7 (dk_at dksX19_orders_3 11 rfl rfl)
theorem dX19_orders_81 : decode cX19_orders 81 = .ok (.iaload, 1) := dk_46 (dk_at dksX19_orders_3 13 rfl rfl)
theorem dX19_orders_82 : decode cX19_orders 82 = .ok (.istore 8, 2) := dk_54 8 (dk_at dksX19_orders_3 14 rfl rfl)
theorem dX19_orders_84 : decode cX19_orders 84 = .ok (.iload 7, 2) := dk_21 7 (dk_at dksX19_orders_3 16 rfl rfl)
theorem dX19_orders_86 : decode cX19_orders 86 = .ok (.iload 5, 2) := dk_21 5 (dk_at dksX19_orders_3 18 rfl rfl)
theorem dX19_orders_88 : decode cX19_orders 88 = .ok (.if_icmp .le 25, 3) := dk_164 0 25 (dk_at dksX19_orders_3 20 rfl rfl)
theorem dX19_orders_91 : decode cX19_orders 91 = .ok (.aload_n 0, 1) := dk_42 (dk_at dksX19_orders_3 23 rfl rfl)
theorem dX19_orders_92 : decode cX19_orders 92 = .ok (.getfield 24, 3) := dk_180 0 24 (dk_at dksX19_orders_4 0 rfl rfl)
theorem dX19_orders_95 : decode cX19_orders 95 = .ok (.iload 7, 2) := dk_21 7 (dk_at dksX19_orders_4 3 rfl rfl)
theorem dX19_orders_97 : decode cX19_orders 97 = .ok (.aload_n 0, 1) := dk_42 (dk_at dksX19_orders_4 5 rfl rfl)
theorem dX19_orders_98 : decode cX19_orders 98 = .ok (.getfield 24, 3) := dk_180 0 24 (dk_at dksX19_orders_4 6 rfl rfl)
theorem dX19_orders_101 : decode cX19_orders 101 = .ok (.iload 7, 2) := dk_21 7 (dk_at dksX19_orders_4 9 rfl rfl)
theorem dX19_orders_103 : decode cX19_orders 103 = .ok (.iconst 1, 1) := dk_4 (dk_at dksX19_orders_4 11 rfl rfl)
theorem dX19_orders_104 : decode cX19_orders 104 = .ok (.isub, 1) := dk_100 (dk_at dksX19_orders_4 12 rfl rfl)
theorem dX19_orders_105 : decode cX19_orders 105 = .ok (.iaload, 1) := dk_46 (dk_at dksX19_orders_4 13 rfl rfl)
theorem dX19_orders_106 : decode cX19_orders 106 = .ok (.iastore, 1) := dk_79 (dk_at dksX19_orders_4 14 rfl rfl)
theorem dX19_orders_107 : decode cX19_orders 107 = .ok (.iinc 7 (-1), 3) := dk_132 7 255 (dk_at dksX19_orders_4 15 rfl rfl)
theorem dX19_orders_110 : decode cX19_orders 110 = .ok (.goto (-26), 3) := dk_167 255 230 (dk_at dksX19_orders_4 18 rfl rfl)
theorem dX19_orders_113 : decode cX19_orders 113 = .ok (.aload_n 0, 1) := dk_42 (dk_at dksX19_orders_4 21 rfl rfl)
theorem dX19_orders_114 : decode cX19_orders 114 = .ok (.getfield 24, 3) := dk_180 0 24 (dk_at dksX19_orders_5 0 rfl rfl)
theorem dX19_orders_117 : decode cX19_orders 117 = .ok (.iload 5, 2) := dk_21 5 (dk_at dksX19_orders_5 3 rfl rfl)
theorem dX19_orders_119 : decode cX19_orders 119 = .ok (.iload 8, 2) := dk_21 8 (dk_at dksX19_orders_5 5 rfl rfl)
theorem dX19_orders_121 : decode cX19_orders 121 = .ok (.iastore, 1) := dk_79 (dk_at dksX19_orders_5 7 rfl rfl)
theorem dX19_orders_122 : decode cX19_orders 122 = .ok (.iinc 5 1, 3) := dk_132 5 1 (dk_at dksX19_orders_5 8 rfl rfl)
theorem dX19_orders_125 : decode cX19_orders 125 = .ok (.goto (-109), 3) := dk_167 255 147 (dk_at dksX19_orders_5 11 rfl rfl)
theorem dX19_orders_128 : decode cX19_orders 128 = .ok (.return_, 1) := dk_177 (dk_at dksX19_orders_5 14 rfl rfl)
abbrev cX19_laysWords : ByteArray := prog_23_method_67_code
def yX19_laysWords : MethodName := ⟨RX19, "laysWords", "(II)I"⟩
def dkwX19_laysWords_13 : List UInt8 := [21, 11, 108, 42, 180, 1, 73, 182, 1, 98, 112, 96, 172]
abbrev dktX19_laysWords_13 : List UInt8 := dkwX19_laysWords_13 ++ []
def dkwX19_laysWords_12 : List UInt8 := [112, 3, 182, 1, 159, 42, 42, 180, 0, 24, 3, 182, 1, 95, 42, 180, 1, 73, 182, 1, 98, 104, 21, 9]
abbrev dktX19_laysWords_12 : List UInt8 := dkwX19_laysWords_12 ++ dktX19_laysWords_13
def dkwX19_laysWords_11 : List UInt8 := [180, 1, 73, 180, 1, 1, 42, 180, 1, 73, 180, 1, 1, 184, 0, 99, 136, 54, 11, 42, 21, 9, 21, 11]
abbrev dktX19_laysWords_11 : List UInt8 := dkwX19_laysWords_11 ++ dktX19_laysWords_12
def dkwX19_laysWords_10 : List UInt8 := [182, 1, 95, 42, 180, 1, 73, 182, 1, 98, 104, 21, 9, 42, 180, 1, 73, 182, 1, 98, 112, 96, 172, 42]
abbrev dktX19_laysWords_10 : List UInt8 := dkwX19_laysWords_10 ++ dktX19_laysWords_11
def dkwX19_laysWords_9 : List UInt8 := [79, 132, 10, 1, 132, 11, 1, 167, 255, 186, 42, 182, 1, 132, 153, 0, 32, 42, 42, 180, 0, 24, 3]
abbrev dktX19_laysWords_9 : List UInt8 := dkwX19_laysWords_9 ++ dktX19_laysWords_10
def dkwX19_laysWords_8 : List UInt8 := [54, 12, 21, 7, 21, 12, 122, 4, 126, 4, 160, 0, 6, 167, 0, 15, 42, 180, 0, 24, 21, 10, 21, 12]
abbrev dktX19_laysWords_8 : List UInt8 := dkwX19_laysWords_8 ++ dktX19_laysWords_9
def dkwX19_laysWords_7 : List UInt8 := [180, 0, 228, 153, 0, 13, 42, 28, 21, 11, 182, 1, 110, 167, 0, 10, 42, 180, 0, 27, 21, 11, 46]
abbrev dktX19_laysWords_7 : List UInt8 := dkwX19_laysWords_7 ++ dktX19_laysWords_8
def dkwX19_laysWords_6 : List UInt8 := [54, 9, 3, 54, 10, 3, 54, 11, 21, 11, 42, 180, 1, 73, 180, 0, 232, 162, 0, 64, 42, 180, 1, 73]
abbrev dktX19_laysWords_6 : List UInt8 := dkwX19_laysWords_6 ++ dktX19_laysWords_7
def dkwX19_laysWords_5 : List UInt8 := [180, 0, 194, 104, 42, 27, 8, 112, 21, 5, 21, 6, 96, 21, 8, 100, 28, 21, 7, 182, 1, 156, 96]
abbrev dktX19_laysWords_5 : List UInt8 := dkwX19_laysWords_5 ++ dktX19_laysWords_6
def dkwX19_laysWords_4 : List UInt8 := [21, 7, 182, 1, 156, 54, 9, 42, 180, 1, 73, 180, 0, 255, 5, 160, 0, 34, 21, 9, 42, 180, 1, 73]
abbrev dktX19_laysWords_4 : List UInt8 := dkwX19_laysWords_4 ++ dktX19_laysWords_5
def dkwX19_laysWords_3 : List UInt8 := [21, 5, 21, 6, 162, 0, 8, 21, 5, 167, 0, 5, 21, 6, 54, 8, 42, 27, 8, 112, 21, 8, 28]
abbrev dktX19_laysWords_3 : List UInt8 := dkwX19_laysWords_3 ++ dktX19_laysWords_4
def dkwX19_laysWords_2 : List UInt8 := [180, 0, 27, 21, 4, 46, 167, 0, 5, 21, 5, 54, 6, 4, 21, 5, 120, 4, 21, 6, 120, 128, 54, 7]
abbrev dktX19_laysWords_2 : List UInt8 := dkwX19_laysWords_2 ++ dktX19_laysWords_3
def dkwX19_laysWords_1 : List UInt8 := [54, 4, 42, 180, 0, 27, 29, 46, 54, 5, 42, 180, 1, 73, 180, 0, 255, 5, 160, 0, 13, 42]
abbrev dktX19_laysWords_1 : List UInt8 := dkwX19_laysWords_1 ++ dktX19_laysWords_2
def dkwX19_laysWords_0 : List UInt8 := [42, 28, 182, 1, 150, 42, 27, 8, 108, 182, 1, 153, 62, 29, 4, 96, 42, 180, 1, 73, 180, 0, 232, 112]
abbrev dktX19_laysWords_0 : List UInt8 := dkwX19_laysWords_0 ++ dktX19_laysWords_1
theorem dksX19_laysWords_0 : cX19_laysWords.data.toList.drop 0 = dktX19_laysWords_0 := by decide +kernel
theorem dksX19_laysWords_1 : cX19_laysWords.data.toList.drop 24 = dktX19_laysWords_1 := dk_seg dksX19_laysWords_0 24 rfl rfl
theorem dksX19_laysWords_2 : cX19_laysWords.data.toList.drop 46 = dktX19_laysWords_2 := dk_seg dksX19_laysWords_1 22 rfl rfl
theorem dksX19_laysWords_3 : cX19_laysWords.data.toList.drop 70 = dktX19_laysWords_3 := dk_seg dksX19_laysWords_2 24 rfl rfl
theorem dksX19_laysWords_4 : cX19_laysWords.data.toList.drop 93 = dktX19_laysWords_4 := dk_seg dksX19_laysWords_3 23 rfl rfl
theorem dksX19_laysWords_5 : cX19_laysWords.data.toList.drop 117 = dktX19_laysWords_5 := dk_seg dksX19_laysWords_4 24 rfl rfl
theorem dksX19_laysWords_6 : cX19_laysWords.data.toList.drop 140 = dktX19_laysWords_6 := dk_seg dksX19_laysWords_5 23 rfl rfl
theorem dksX19_laysWords_7 : cX19_laysWords.data.toList.drop 164 = dktX19_laysWords_7 := dk_seg dksX19_laysWords_6 24 rfl rfl
theorem dksX19_laysWords_8 : cX19_laysWords.data.toList.drop 187 = dktX19_laysWords_8 := dk_seg dksX19_laysWords_7 23 rfl rfl
theorem dksX19_laysWords_9 : cX19_laysWords.data.toList.drop 211 = dktX19_laysWords_9 := dk_seg dksX19_laysWords_8 24 rfl rfl
theorem dksX19_laysWords_10 : cX19_laysWords.data.toList.drop 234 = dktX19_laysWords_10 := dk_seg dksX19_laysWords_9 23 rfl rfl
theorem dksX19_laysWords_11 : cX19_laysWords.data.toList.drop 258 = dktX19_laysWords_11 := dk_seg dksX19_laysWords_10 24 rfl rfl
theorem dksX19_laysWords_12 : cX19_laysWords.data.toList.drop 282 = dktX19_laysWords_12 := dk_seg dksX19_laysWords_11 24 rfl rfl
theorem dksX19_laysWords_13 : cX19_laysWords.data.toList.drop 306 = dktX19_laysWords_13 := dk_seg dksX19_laysWords_12 24 rfl rfl
theorem dX19_laysWords_0 : decode cX19_laysWords 0 = .ok (.aload_n 0, 1) := dk_42 (dk_at dksX19_laysWords_0 0 rfl rfl)
theorem dX19_laysWords_1 : decode cX19_laysWords 1 = .ok (.iload_n 2, 1) := dk_28 (dk_at dksX19_laysWords_0 1 rfl rfl)
theorem dX19_laysWords_2 : decode cX19_laysWords 2 = .ok (.invokevirtual 406, 3) := dk_182 1 150 (dk_at dksX19_laysWords_0 2 rfl rfl)
theorem dX19_laysWords_5 : decode cX19_laysWords 5 = .ok (.aload_n 0, 1) := dk_42 (dk_at dksX19_laysWords_0 5 rfl rfl)
theorem dX19_laysWords_6 : decode cX19_laysWords 6 = .ok (.iload_n 1, 1) := dk_27 (dk_at dksX19_laysWords_0 6 rfl rfl)
theorem dX19_laysWords_7 : decode cX19_laysWords 7 = .ok (.iconst 5, 1) := dk_8 (dk_at dksX19_laysWords_0 7 rfl rfl)
theorem dX19_laysWords_8 : decode cX19_laysWords 8 = .ok (.idiv, 1) := dk_108 (dk_at dksX19_laysWords_0 8 rfl rfl)
theorem dX19_laysWords_9 : decode cX19_laysWords 9 = .ok (.invokevirtual 409, 3) := dk_182 1 153 (dk_at dksX19_laysWords_0 9 rfl rfl)
theorem dX19_laysWords_12 : decode cX19_laysWords 12 = .ok (.istore_n 3, 1) := dk_62 (dk_at dksX19_laysWords_0 12 rfl rfl)
theorem dX19_laysWords_13 : decode cX19_laysWords 13 = .ok (.iload_n 3, 1) := dk_29 (dk_at dksX19_laysWords_0 13 rfl rfl)
theorem dX19_laysWords_14 : decode cX19_laysWords 14 = .ok (.iconst 1, 1) := dk_4 (dk_at dksX19_laysWords_0 14 rfl rfl)
theorem dX19_laysWords_15 : decode cX19_laysWords 15 = .ok (.iadd, 1) := dk_96 (dk_at dksX19_laysWords_0 15 rfl rfl)
theorem dX19_laysWords_16 : decode cX19_laysWords 16 = .ok (.aload_n 0, 1) := dk_42 (dk_at dksX19_laysWords_0 16 rfl rfl)
theorem dX19_laysWords_17 : decode cX19_laysWords 17 = .ok (.getfield 329, 3) := dk_180 1 73 (dk_at dksX19_laysWords_0 17 rfl rfl)
theorem dX19_laysWords_20 : decode cX19_laysWords 20 = .ok (.getfield 232, 3) := dk_180 0 232 (dk_at dksX19_laysWords_0 20 rfl rfl)
theorem dX19_laysWords_23 : decode cX19_laysWords 23 = .ok (.irem, 1) := dk_112 (dk_at dksX19_laysWords_0 23 rfl rfl)
theorem dX19_laysWords_24 : decode cX19_laysWords 24 = .ok (.istore 4, 2) := dk_54 4 (dk_at dksX19_laysWords_1 0 rfl rfl)
theorem dX19_laysWords_26 : decode cX19_laysWords 26 = .ok (.aload_n 0, 1) := dk_42 (dk_at dksX19_laysWords_1 2 rfl rfl)
theorem dX19_laysWords_27 : decode cX19_laysWords 27 = .ok (.getfield 27, 3) := dk_180 0 27 (dk_at dksX19_laysWords_1 3 rfl rfl)
theorem dX19_laysWords_30 : decode cX19_laysWords 30 = .ok (.iload_n 3, 1) := dk_29 (dk_at dksX19_laysWords_1 6 rfl rfl)
theorem dX19_laysWords_31 : decode cX19_laysWords 31 = .ok (.iaload, 1) := dk_46 (dk_at dksX19_laysWords_1 7 rfl rfl)
theorem dX19_laysWords_32 : decode cX19_laysWords 32 = .ok (.istore 5, 2) := dk_54 5 (dk_at dksX19_laysWords_1 8 rfl rfl)
theorem dX19_laysWords_34 : decode cX19_laysWords 34 = .ok (.aload_n 0, 1) := dk_42 (dk_at dksX19_laysWords_1 10 rfl rfl)
theorem dX19_laysWords_35 : decode cX19_laysWords 35 = .ok (.getfield 329, 3) := dk_180 1 73 (dk_at dksX19_laysWords_1 11 rfl rfl)
theorem dX19_laysWords_38 : decode cX19_laysWords 38 = .ok (.getfield 255, 3) := dk_180 0 255 (dk_at dksX19_laysWords_1 14 rfl rfl)
theorem dX19_laysWords_41 : decode cX19_laysWords 41 = .ok (.iconst 2, 1) := dk_5 (dk_at dksX19_laysWords_1 17 rfl rfl)
theorem dX19_laysWords_42 : decode cX19_laysWords 42 = .ok (.if_icmp .ne 13, 3) := dk_160 0 13 (dk_at dksX19_laysWords_1 18 rfl rfl)
theorem dX19_laysWords_45 : decode cX19_laysWords 45 = .ok (.aload_n 0, 1) := dk_42 (dk_at dksX19_laysWords_1 21 rfl rfl)
theorem dX19_laysWords_46 : decode cX19_laysWords 46 = .ok (.getfield 27, 3) := dk_180 0 27 (dk_at dksX19_laysWords_2 0 rfl rfl)
theorem dX19_laysWords_49 : decode cX19_laysWords 49 = .ok (.iload 4, 2) := dk_21 4 (dk_at dksX19_laysWords_2 3 rfl rfl)
theorem dX19_laysWords_51 : decode cX19_laysWords 51 = .ok (.iaload, 1) := dk_46 (dk_at dksX19_laysWords_2 5 rfl rfl)
theorem dX19_laysWords_52 : decode cX19_laysWords 52 = .ok (.goto 5, 3) := dk_167 0 5 (dk_at dksX19_laysWords_2 6 rfl rfl)
theorem dX19_laysWords_55 : decode cX19_laysWords 55 = .ok (.iload 5, 2) := dk_21 5 (dk_at dksX19_laysWords_2 9 rfl rfl)
theorem dX19_laysWords_57 : decode cX19_laysWords 57 = .ok (.istore 6, 2) := dk_54 6 (dk_at dksX19_laysWords_2 11 rfl rfl)
theorem dX19_laysWords_59 : decode cX19_laysWords 59 = .ok (.iconst 1, 1) := dk_4 (dk_at dksX19_laysWords_2 13 rfl rfl)
theorem dX19_laysWords_60 : decode cX19_laysWords 60 = .ok (.iload 5, 2) := dk_21 5 (dk_at dksX19_laysWords_2 14 rfl rfl)
theorem dX19_laysWords_62 : decode cX19_laysWords 62 = .ok (.ishl, 1) := dk_120 (dk_at dksX19_laysWords_2 16 rfl rfl)
theorem dX19_laysWords_63 : decode cX19_laysWords 63 = .ok (.iconst 1, 1) := dk_4 (dk_at dksX19_laysWords_2 17 rfl rfl)
theorem dX19_laysWords_64 : decode cX19_laysWords 64 = .ok (.iload 6, 2) := dk_21 6 (dk_at dksX19_laysWords_2 18 rfl rfl)
theorem dX19_laysWords_66 : decode cX19_laysWords 66 = .ok (.ishl, 1) := dk_120 (dk_at dksX19_laysWords_2 20 rfl rfl)
theorem dX19_laysWords_67 : decode cX19_laysWords 67 = .ok (.ior, 1) := dk_128 (dk_at dksX19_laysWords_2 21 rfl rfl)
theorem dX19_laysWords_68 : decode cX19_laysWords 68 = .ok (.istore 7, 2) := dk_54 7 (dk_at dksX19_laysWords_2 22 rfl rfl)
theorem dX19_laysWords_70 : decode cX19_laysWords 70 = .ok (.iload 5, 2) := dk_21 5 (dk_at dksX19_laysWords_3 0 rfl rfl)
theorem dX19_laysWords_72 : decode cX19_laysWords 72 = .ok (.iload 6, 2) := dk_21 6 (dk_at dksX19_laysWords_3 2 rfl rfl)
theorem dX19_laysWords_74 : decode cX19_laysWords 74 = .ok (.if_icmp .ge 8, 3) := dk_162 0 8 (dk_at dksX19_laysWords_3 4 rfl rfl)
theorem dX19_laysWords_77 : decode cX19_laysWords 77 = .ok (.iload 5, 2) := dk_21 5 (dk_at dksX19_laysWords_3 7 rfl rfl)
theorem dX19_laysWords_79 : decode cX19_laysWords 79 = .ok (.goto 5, 3) := dk_167 0 5 (dk_at dksX19_laysWords_3 9 rfl rfl)
theorem dX19_laysWords_82 : decode cX19_laysWords 82 = .ok (.iload 6, 2) := dk_21 6 (dk_at dksX19_laysWords_3 12 rfl rfl)
theorem dX19_laysWords_84 : decode cX19_laysWords 84 = .ok (.istore 8, 2) := dk_54 8 (dk_at dksX19_laysWords_3 14 rfl rfl)
theorem dX19_laysWords_86 : decode cX19_laysWords 86 = .ok (.aload_n 0, 1) := dk_42 (dk_at dksX19_laysWords_3 16 rfl rfl)
theorem dX19_laysWords_87 : decode cX19_laysWords 87 = .ok (.iload_n 1, 1) := dk_27 (dk_at dksX19_laysWords_3 17 rfl rfl)
theorem dX19_laysWords_88 : decode cX19_laysWords 88 = .ok (.iconst 5, 1) := dk_8 (dk_at dksX19_laysWords_3 18 rfl rfl)
theorem dX19_laysWords_89 : decode cX19_laysWords 89 = .ok (.irem, 1) := dk_112 (dk_at dksX19_laysWords_3 19 rfl rfl)
theorem dX19_laysWords_90 : decode cX19_laysWords 90 = .ok (.iload 8, 2) := dk_21 8 (dk_at dksX19_laysWords_3 20 rfl rfl)
theorem dX19_laysWords_92 : decode cX19_laysWords 92 = .ok (.iload_n 2, 1) := dk_28 (dk_at dksX19_laysWords_3 22 rfl rfl)
theorem dX19_laysWords_93 : decode cX19_laysWords 93 = .ok (.iload 7, 2) := dk_21 7 (dk_at dksX19_laysWords_4 0 rfl rfl)
theorem dX19_laysWords_95 : decode cX19_laysWords 95 = .ok (.invokevirtual 412, 3) := dk_182 1 156 (dk_at dksX19_laysWords_4 2 rfl rfl)
theorem dX19_laysWords_98 : decode cX19_laysWords 98 = .ok (.istore 9, 2) := dk_54 9 (dk_at dksX19_laysWords_4 5 rfl rfl)
theorem dX19_laysWords_100 : decode cX19_laysWords 100 = .ok (.aload_n 0, 1) := dk_42 (dk_at dksX19_laysWords_4 7 rfl rfl)
theorem dX19_laysWords_101 : decode cX19_laysWords 101 = .ok (.getfield 329, 3) := dk_180 1 73 (dk_at dksX19_laysWords_4 8 rfl rfl)
theorem dX19_laysWords_104 : decode cX19_laysWords 104 = .ok (.getfield 255, 3) := dk_180 0 255 (dk_at dksX19_laysWords_4 11 rfl rfl)
theorem dX19_laysWords_107 : decode cX19_laysWords 107 = .ok (.iconst 2, 1) := dk_5 (dk_at dksX19_laysWords_4 14 rfl rfl)
theorem dX19_laysWords_108 : decode cX19_laysWords 108 = .ok (.if_icmp .ne 34, 3) := dk_160 0 34 (dk_at dksX19_laysWords_4 15 rfl rfl)
theorem dX19_laysWords_111 : decode cX19_laysWords 111 = .ok (.iload 9, 2) := dk_21 9 (dk_at dksX19_laysWords_4 18 rfl rfl)
theorem dX19_laysWords_113 : decode cX19_laysWords 113 = .ok (.aload_n 0, 1) := dk_42 (dk_at dksX19_laysWords_4 20 rfl rfl)
theorem dX19_laysWords_114 : decode cX19_laysWords 114 = .ok (.getfield 329, 3) := dk_180 1 73 (dk_at dksX19_laysWords_4 21 rfl rfl)
theorem dX19_laysWords_117 : decode cX19_laysWords 117 = .ok (.getfield 194, 3) := dk_180 0 194 (dk_at dksX19_laysWords_5 0 rfl rfl)
theorem dX19_laysWords_120 : decode cX19_laysWords 120 = .ok (.imul, 1) := dk_104 (dk_at dksX19_laysWords_5 3 rfl rfl)
theorem dX19_laysWords_121 : decode cX19_laysWords 121 = .ok (.aload_n 0, 1) := dk_42 (dk_at dksX19_laysWords_5 4 rfl rfl)
theorem dX19_laysWords_122 : decode cX19_laysWords 122 = .ok (.iload_n 1, 1) := dk_27 (dk_at dksX19_laysWords_5 5 rfl rfl)
theorem dX19_laysWords_123 : decode cX19_laysWords 123 = .ok (.iconst 5, 1) := dk_8 (dk_at dksX19_laysWords_5 6 rfl rfl)
theorem dX19_laysWords_124 : decode cX19_laysWords 124 = .ok (.irem, 1) := dk_112 (dk_at dksX19_laysWords_5 7 rfl rfl)
theorem dX19_laysWords_125 : decode cX19_laysWords 125 = .ok (.iload 5, 2) := dk_21 5 (dk_at dksX19_laysWords_5 8 rfl rfl)
theorem dX19_laysWords_127 : decode cX19_laysWords 127 = .ok (.iload 6, 2) := dk_21 6 (dk_at dksX19_laysWords_5 10 rfl rfl)
theorem dX19_laysWords_129 : decode cX19_laysWords 129 = .ok (.iadd, 1) := dk_96 (dk_at dksX19_laysWords_5 12 rfl rfl)
theorem dX19_laysWords_130 : decode cX19_laysWords 130 = .ok (.iload 8, 2) := dk_21 8 (dk_at dksX19_laysWords_5 13 rfl rfl)
theorem dX19_laysWords_132 : decode cX19_laysWords 132 = .ok (.isub, 1) := dk_100 (dk_at dksX19_laysWords_5 15 rfl rfl)
theorem dX19_laysWords_133 : decode cX19_laysWords 133 = .ok (.iload_n 2, 1) := dk_28 (dk_at dksX19_laysWords_5 16 rfl rfl)
theorem dX19_laysWords_134 : decode cX19_laysWords 134 = .ok (.iload 7, 2) := dk_21 7 (dk_at dksX19_laysWords_5 17 rfl rfl)
theorem dX19_laysWords_136 : decode cX19_laysWords 136 = .ok (.invokevirtual 412, 3) := dk_182 1 156 (dk_at dksX19_laysWords_5 19 rfl rfl)
theorem dX19_laysWords_139 : decode cX19_laysWords 139 = .ok (.iadd, 1) := dk_96 (dk_at dksX19_laysWords_5 22 rfl rfl)
theorem dX19_laysWords_140 : decode cX19_laysWords 140 = .ok (.istore 9, 2) := dk_54 9 (dk_at dksX19_laysWords_6 0 rfl rfl)
theorem dX19_laysWords_142 : decode cX19_laysWords 142 = .ok (.iconst 0, 1) := dk_3 (dk_at dksX19_laysWords_6 2 rfl rfl)
theorem dX19_laysWords_143 : decode cX19_laysWords 143 = .ok (.istore 10, 2) := dk_54 10 (dk_at dksX19_laysWords_6 3 rfl rfl)
theorem dX19_laysWords_145 : decode cX19_laysWords 145 = .ok (.iconst 0, 1) := dk_3 (dk_at dksX19_laysWords_6 5 rfl rfl)
theorem dX19_laysWords_146 : decode cX19_laysWords 146 = .ok (.istore 11, 2) := dk_54 11 (dk_at dksX19_laysWords_6 6 rfl rfl)
theorem dX19_laysWords_148 : decode cX19_laysWords 148 = .ok (.iload 11, 2) := dk_21 11 (dk_at dksX19_laysWords_6 8 rfl rfl)
theorem dX19_laysWords_150 : decode cX19_laysWords 150 = .ok (.aload_n 0, 1) := dk_42 (dk_at dksX19_laysWords_6 10 rfl rfl)
theorem dX19_laysWords_151 : decode cX19_laysWords 151 = .ok (.getfield 329, 3) := dk_180 1 73 (dk_at dksX19_laysWords_6 11 rfl rfl)
theorem dX19_laysWords_154 : decode cX19_laysWords 154 = .ok (.getfield 232, 3) := dk_180 0 232 (dk_at dksX19_laysWords_6 14 rfl rfl)
theorem dX19_laysWords_157 : decode cX19_laysWords 157 = .ok (.if_icmp .ge 64, 3) := dk_162 0 64 (dk_at dksX19_laysWords_6 17 rfl rfl)
theorem dX19_laysWords_160 : decode cX19_laysWords 160 = .ok (.aload_n 0, 1) := dk_42 (dk_at dksX19_laysWords_6 20 rfl rfl)
theorem dX19_laysWords_161 : decode cX19_laysWords 161 = .ok (.getfield 329, 3) := dk_180 1 73 (dk_at dksX19_laysWords_6 21 rfl rfl)
theorem dX19_laysWords_164 : decode cX19_laysWords 164 = .ok (.getfield 228, 3) := dk_180 0 228 (dk_at dksX19_laysWords_7 0 rfl rfl)
theorem dX19_laysWords_167 : decode cX19_laysWords 167 = .ok (.ifCond .eq 13, 3) := dk_153 0 13 (dk_at dksX19_laysWords_7 3 rfl rfl)
theorem dX19_laysWords_170 : decode cX19_laysWords 170 = .ok (.aload_n 0, 1) := dk_42 (dk_at dksX19_laysWords_7 6 rfl rfl)
theorem dX19_laysWords_171 : decode cX19_laysWords 171 = .ok (.iload_n 2, 1) := dk_28 (dk_at dksX19_laysWords_7 7 rfl rfl)
theorem dX19_laysWords_172 : decode cX19_laysWords 172 = .ok (.iload 11, 2) := dk_21 11 (dk_at dksX19_laysWords_7 8 rfl rfl)
theorem dX19_laysWords_174 : decode cX19_laysWords 174 = .ok (.invokevirtual 366, 3) := dk_182 1 110 (dk_at dksX19_laysWords_7 10 rfl rfl)
theorem dX19_laysWords_177 : decode cX19_laysWords 177 = .ok (.goto 10, 3) := dk_167 0 10 (dk_at dksX19_laysWords_7 13 rfl rfl)
theorem dX19_laysWords_180 : decode cX19_laysWords 180 = .ok (.aload_n 0, 1) := dk_42 (dk_at dksX19_laysWords_7 16 rfl rfl)
theorem dX19_laysWords_181 : decode cX19_laysWords 181 = .ok (.getfield 27, 3) := dk_180 0 27 (dk_at dksX19_laysWords_7 17 rfl rfl)
theorem dX19_laysWords_184 : decode cX19_laysWords 184 = .ok (.iload 11, 2) := dk_21 11 (dk_at dksX19_laysWords_7 20 rfl rfl)
theorem dX19_laysWords_186 : decode cX19_laysWords 186 = .ok (.iaload, 1) := dk_46 (dk_at dksX19_laysWords_7 22 rfl rfl)
theorem dX19_laysWords_187 : decode cX19_laysWords 187 = .ok (.istore 12, 2) := dk_54 12 (dk_at dksX19_laysWords_8 0 rfl rfl)
theorem dX19_laysWords_189 : decode cX19_laysWords 189 = .ok (.iload 7, 2) := dk_21 7 (dk_at dksX19_laysWords_8 2 rfl rfl)
theorem dX19_laysWords_191 : decode cX19_laysWords 191 = .ok (.iload 12, 2) := dk_21 12 (dk_at dksX19_laysWords_8 4 rfl rfl)
theorem dX19_laysWords_193 : decode cX19_laysWords 193 = .ok (.ishr, 1) := dk_122 (dk_at dksX19_laysWords_8 6 rfl rfl)
theorem dX19_laysWords_194 : decode cX19_laysWords 194 = .ok (.iconst 1, 1) := dk_4 (dk_at dksX19_laysWords_8 7 rfl rfl)
theorem dX19_laysWords_195 : decode cX19_laysWords 195 = .ok (.iand, 1) := dk_126 (dk_at dksX19_laysWords_8 8 rfl rfl)
theorem dX19_laysWords_196 : decode cX19_laysWords 196 = .ok (.iconst 1, 1) := dk_4 (dk_at dksX19_laysWords_8 9 rfl rfl)
theorem dX19_laysWords_197 : decode cX19_laysWords 197 = .ok (.if_icmp .ne 6, 3) := dk_160 0 6 (dk_at dksX19_laysWords_8 10 rfl rfl)
theorem dX19_laysWords_200 : decode cX19_laysWords 200 = .ok (.goto 15, 3) := dk_167 0 15 (dk_at dksX19_laysWords_8 13 rfl rfl)
theorem dX19_laysWords_203 : decode cX19_laysWords 203 = .ok (.aload_n 0, 1) := dk_42 (dk_at dksX19_laysWords_8 16 rfl rfl)
theorem dX19_laysWords_204 : decode cX19_laysWords 204 = .ok (.getfield 24, 3) := dk_180 0 24 (dk_at dksX19_laysWords_8 17 rfl rfl)
theorem dX19_laysWords_207 : decode cX19_laysWords 207 = .ok (.iload 10, 2) := dk_21 10 (dk_at dksX19_laysWords_8 20 rfl rfl)
theorem dX19_laysWords_209 : decode cX19_laysWords 209 = .ok (.iload 12, 2) := dk_21 12 (dk_at dksX19_laysWords_8 22 rfl rfl)
theorem dX19_laysWords_211 : decode cX19_laysWords 211 = .ok (.iastore, 1) := dk_79 (dk_at dksX19_laysWords_9 0 rfl rfl)
theorem dX19_laysWords_212 : decode cX19_laysWords 212 = .ok (.iinc 10 1, 3) := dk_132 10 1 (dk_at dksX19_laysWords_9 1 rfl rfl)
theorem dX19_laysWords_215 : decode cX19_laysWords 215 = .ok (.iinc 11 1, 3) := dk_132 11 1 (dk_at dksX19_laysWords_9 4 rfl rfl)
theorem dX19_laysWords_218 : decode cX19_laysWords 218 = .ok (.goto (-70), 3) := dk_167 255 186 (dk_at dksX19_laysWords_9 7 rfl rfl)
theorem dX19_laysWords_221 : decode cX19_laysWords 221 = .ok (.aload_n 0, 1) := dk_42 (dk_at dksX19_laysWords_9 10 rfl rfl)
theorem dX19_laysWords_222 : decode cX19_laysWords 222 = .ok (.invokevirtual 388, 3) := dk_182 1 132 (dk_at dksX19_laysWords_9 11 rfl rfl)
theorem dX19_laysWords_225 : decode cX19_laysWords 225 = .ok (.ifCond .eq 32, 3) := dk_153 0 32 (dk_at dksX19_laysWords_9 14 rfl rfl)
theorem dX19_laysWords_228 : decode cX19_laysWords 228 = .ok (.aload_n 0, 1) := dk_42 (dk_at dksX19_laysWords_9 17 rfl rfl)
theorem dX19_laysWords_229 : decode cX19_laysWords 229 = .ok (.aload_n 0, 1) := dk_42 (dk_at dksX19_laysWords_9 18 rfl rfl)
theorem dX19_laysWords_230 : decode cX19_laysWords 230 = .ok (.getfield 24, 3) := dk_180 0 24 (dk_at dksX19_laysWords_9 19 rfl rfl)
theorem dX19_laysWords_233 : decode cX19_laysWords 233 = .ok (.iconst 0, 1) := dk_3 (dk_at dksX19_laysWords_9 22 rfl rfl)
theorem dX19_laysWords_234 : decode cX19_laysWords 234 = .ok (.invokevirtual 351, 3) := dk_182 1 95 (dk_at dksX19_laysWords_10 0 rfl rfl)
theorem dX19_laysWords_237 : decode cX19_laysWords 237 = .ok (.aload_n 0, 1) := dk_42 (dk_at dksX19_laysWords_10 3 rfl rfl)
theorem dX19_laysWords_238 : decode cX19_laysWords 238 = .ok (.getfield 329, 3) := dk_180 1 73 (dk_at dksX19_laysWords_10 4 rfl rfl)
theorem dX19_laysWords_241 : decode cX19_laysWords 241 = .ok (.invokevirtual 354, 3) := dk_182 1 98 (dk_at dksX19_laysWords_10 7 rfl rfl)
theorem dX19_laysWords_244 : decode cX19_laysWords 244 = .ok (.imul, 1) := dk_104 (dk_at dksX19_laysWords_10 10 rfl rfl)
theorem dX19_laysWords_245 : decode cX19_laysWords 245 = .ok (.iload 9, 2) := dk_21 9 (dk_at dksX19_laysWords_10 11 rfl rfl)
theorem dX19_laysWords_247 : decode cX19_laysWords 247 = .ok (.aload_n 0, 1) := dk_42 (dk_at dksX19_laysWords_10 13 rfl rfl)
theorem dX19_laysWords_248 : decode cX19_laysWords 248 = .ok (.getfield 329, 3) := dk_180 1 73 (dk_at dksX19_laysWords_10 14 rfl rfl)
theorem dX19_laysWords_251 : decode cX19_laysWords 251 = .ok (.invokevirtual 354, 3) := dk_182 1 98 (dk_at dksX19_laysWords_10 17 rfl rfl)
theorem dX19_laysWords_254 : decode cX19_laysWords 254 = .ok (.irem, 1) := dk_112 (dk_at dksX19_laysWords_10 20 rfl rfl)
theorem dX19_laysWords_255 : decode cX19_laysWords 255 = .ok (.iadd, 1) := dk_96 (dk_at dksX19_laysWords_10 21 rfl rfl)
theorem dX19_laysWords_256 : decode cX19_laysWords 256 = .ok (.ireturn, 1) := dk_172 (dk_at dksX19_laysWords_10 22 rfl rfl)
theorem dX19_laysWords_257 : decode cX19_laysWords 257 = .ok (.aload_n 0, 1) := dk_42 (dk_at dksX19_laysWords_10 23 rfl rfl)
theorem dX19_laysWords_258 : decode cX19_laysWords 258 = .ok (.getfield 329, 3) := dk_180 1 73 (dk_at dksX19_laysWords_11 0 rfl rfl)
theorem dX19_laysWords_261 : decode cX19_laysWords 261 = .ok (.getfield 257, 3) := dk_180 1 1 (dk_at dksX19_laysWords_11 3 rfl rfl)
theorem dX19_laysWords_264 : decode cX19_laysWords 264 = .ok (.aload_n 0, 1) := dk_42 (dk_at dksX19_laysWords_11 6 rfl rfl)
theorem dX19_laysWords_265 : decode cX19_laysWords 265 = .ok (.getfield 329, 3) := dk_180 1 73 (dk_at dksX19_laysWords_11 7 rfl rfl)
theorem dX19_laysWords_268 : decode cX19_laysWords 268 = .ok (.getfield 257, 3) := dk_180 1 1 (dk_at dksX19_laysWords_11 10 rfl rfl)
theorem dX19_laysWords_271 : decode cX19_laysWords 271 = .ok (.invokestatic 99, 3) := dk_184 0 99 (dk_at dksX19_laysWords_11 13 rfl rfl)
theorem dX19_laysWords_274 : decode cX19_laysWords 274 = .ok (.l2i, 1) := dk_136 (dk_at dksX19_laysWords_11 16 rfl rfl)
theorem dX19_laysWords_275 : decode cX19_laysWords 275 = .ok (.istore 11, 2) := dk_54 11 (dk_at dksX19_laysWords_11 17 rfl rfl)
theorem dX19_laysWords_277 : decode cX19_laysWords 277 = .ok (.aload_n 0, 1) := dk_42 (dk_at dksX19_laysWords_11 19 rfl rfl)
theorem dX19_laysWords_278 : decode cX19_laysWords 278 = .ok (.iload 9, 2) := dk_21 9 (dk_at dksX19_laysWords_11 20 rfl rfl)
theorem dX19_laysWords_280 : decode cX19_laysWords 280 = .ok (.iload 11, 2) := dk_21 11 (dk_at dksX19_laysWords_11 22 rfl rfl)
theorem dX19_laysWords_282 : decode cX19_laysWords 282 = .ok (.irem, 1) := dk_112 (dk_at dksX19_laysWords_12 0 rfl rfl)
theorem dX19_laysWords_283 : decode cX19_laysWords 283 = .ok (.iconst 0, 1) := dk_3 (dk_at dksX19_laysWords_12 1 rfl rfl)
theorem dX19_laysWords_284 : decode cX19_laysWords 284 = .ok (.invokevirtual 415, 3) := dk_182 1 159 (dk_at dksX19_laysWords_12 2 rfl rfl)
theorem dX19_laysWords_287 : decode cX19_laysWords 287 = .ok (.aload_n 0, 1) := dk_42 (dk_at dksX19_laysWords_12 5 rfl rfl)
theorem dX19_laysWords_288 : decode cX19_laysWords 288 = .ok (.aload_n 0, 1) := dk_42 (dk_at dksX19_laysWords_12 6 rfl rfl)
theorem dX19_laysWords_289 : decode cX19_laysWords 289 = .ok (.getfield 24, 3) := dk_180 0 24 (dk_at dksX19_laysWords_12 7 rfl rfl)
theorem dX19_laysWords_292 : decode cX19_laysWords 292 = .ok (.iconst 0, 1) := dk_3 (dk_at dksX19_laysWords_12 10 rfl rfl)
theorem dX19_laysWords_293 : decode cX19_laysWords 293 = .ok (.invokevirtual 351, 3) := dk_182 1 95 (dk_at dksX19_laysWords_12 11 rfl rfl)
theorem dX19_laysWords_296 : decode cX19_laysWords 296 = .ok (.aload_n 0, 1) := dk_42 (dk_at dksX19_laysWords_12 14 rfl rfl)
theorem dX19_laysWords_297 : decode cX19_laysWords 297 = .ok (.getfield 329, 3) := dk_180 1 73 (dk_at dksX19_laysWords_12 15 rfl rfl)
theorem dX19_laysWords_300 : decode cX19_laysWords 300 = .ok (.invokevirtual 354, 3) := dk_182 1 98 (dk_at dksX19_laysWords_12 18 rfl rfl)
theorem dX19_laysWords_303 : decode cX19_laysWords 303 = .ok (.imul, 1) := dk_104 (dk_at dksX19_laysWords_12 21 rfl rfl)
theorem dX19_laysWords_304 : decode cX19_laysWords 304 = .ok (.iload 9, 2) := dk_21 9 (dk_at dksX19_laysWords_12 22 rfl rfl)
theorem dX19_laysWords_306 : decode cX19_laysWords 306 = .ok (.iload 11, 2) := dk_21 11 (dk_at dksX19_laysWords_13 0 rfl rfl)
theorem dX19_laysWords_308 : decode cX19_laysWords 308 = .ok (.idiv, 1) := dk_108 (dk_at dksX19_laysWords_13 2 rfl rfl)
theorem dX19_laysWords_309 : decode cX19_laysWords 309 = .ok (.aload_n 0, 1) := dk_42 (dk_at dksX19_laysWords_13 3 rfl rfl)
theorem dX19_laysWords_310 : decode cX19_laysWords 310 = .ok (.getfield 329, 3) := dk_180 1 73 (dk_at dksX19_laysWords_13 4 rfl rfl)
theorem dX19_laysWords_313 : decode cX19_laysWords 313 = .ok (.invokevirtual 354, 3) := dk_182 1 98 (dk_at dksX19_laysWords_13 7 rfl rfl)
theorem dX19_laysWords_316 : decode cX19_laysWords 316 = .ok (.irem, 1) := dk_112 (dk_at dksX19_laysWords_13 10 rfl rfl)
theorem dX19_laysWords_317 : decode cX19_laysWords 317 = .ok (.iadd, 1) := dk_96 (dk_at dksX19_laysWords_13 11 rfl rfl)
theorem dX19_laysWords_318 : decode cX19_laysWords 318 = .ok (.ireturn, 1) := dk_172 (dk_at dksX19_laysWords_13 12 rfl rfl)
abbrev cX19_sorts : ByteArray := prog_23_method_63_code
def yX19_sorts : MethodName := ⟨RX19, "sorts", "(I)V"⟩
def dkwX19_sorts_3 : List UInt8 := [132, 2, 1, 167, 255, 187, 177]
abbrev dktX19_sorts_3 : List UInt8 := dkwX19_sorts_3 ++ []
def dkwX19_sorts_2 : List UInt8 := [180, 0, 27, 29, 4, 100, 46, 79, 132, 3, 255, 167, 255, 222, 42, 180, 0, 27, 29, 21, 4, 79]
abbrev dktX19_sorts_2 : List UInt8 := dkwX19_sorts_2 ++ dktX19_sorts_3
def dkwX19_sorts_1 : List UInt8 := [158, 0, 36, 42, 180, 0, 27, 29, 4, 100, 46, 21, 4, 164, 0, 23, 42, 180, 0, 27, 29, 42]
abbrev dktX19_sorts_1 : List UInt8 := dkwX19_sorts_1 ++ dktX19_sorts_2
def dkwX19_sorts_0 : List UInt8 := [3, 61, 28, 42, 180, 1, 73, 180, 0, 232, 162, 0, 64, 28, 62, 42, 27, 28, 182, 1, 110, 54, 4, 29]
abbrev dktX19_sorts_0 : List UInt8 := dkwX19_sorts_0 ++ dktX19_sorts_1
theorem dksX19_sorts_0 : cX19_sorts.data.toList.drop 0 = dktX19_sorts_0 := by decide +kernel
theorem dksX19_sorts_1 : cX19_sorts.data.toList.drop 24 = dktX19_sorts_1 := dk_seg dksX19_sorts_0 24 rfl rfl
theorem dksX19_sorts_2 : cX19_sorts.data.toList.drop 46 = dktX19_sorts_2 := dk_seg dksX19_sorts_1 22 rfl rfl
theorem dksX19_sorts_3 : cX19_sorts.data.toList.drop 68 = dktX19_sorts_3 := dk_seg dksX19_sorts_2 22 rfl rfl
theorem dX19_sorts_0 : decode cX19_sorts 0 = .ok (.iconst 0, 1) := dk_3 (dk_at dksX19_sorts_0 0 rfl rfl)
theorem dX19_sorts_1 : decode cX19_sorts 1 = .ok (.istore_n 2, 1) := dk_61 (dk_at dksX19_sorts_0 1 rfl rfl)
theorem dX19_sorts_2 : decode cX19_sorts 2 = .ok (.iload_n 2, 1) := dk_28 (dk_at dksX19_sorts_0 2 rfl rfl)
theorem dX19_sorts_3 : decode cX19_sorts 3 = .ok (.aload_n 0, 1) := dk_42 (dk_at dksX19_sorts_0 3 rfl rfl)
theorem dX19_sorts_4 : decode cX19_sorts 4 = .ok (.getfield 329, 3) := dk_180 1 73 (dk_at dksX19_sorts_0 4 rfl rfl)
theorem dX19_sorts_7 : decode cX19_sorts 7 = .ok (.getfield 232, 3) := dk_180 0 232 (dk_at dksX19_sorts_0 7 rfl rfl)
theorem dX19_sorts_10 : decode cX19_sorts 10 = .ok (.if_icmp .ge 64, 3) := dk_162 0 64 (dk_at dksX19_sorts_0 10 rfl rfl)
theorem dX19_sorts_13 : decode cX19_sorts 13 = .ok (.iload_n 2, 1) := dk_28 (dk_at dksX19_sorts_0 13 rfl rfl)
theorem dX19_sorts_14 : decode cX19_sorts 14 = .ok (.istore_n 3, 1) := dk_62 (dk_at dksX19_sorts_0 14 rfl rfl)
theorem dX19_sorts_15 : decode cX19_sorts 15 = .ok (.aload_n 0, 1) := dk_42 (dk_at dksX19_sorts_0 15 rfl rfl)
theorem dX19_sorts_16 : decode cX19_sorts 16 = .ok (.iload_n 1, 1) := dk_27 (dk_at dksX19_sorts_0 16 rfl rfl)
theorem dX19_sorts_17 : decode cX19_sorts 17 = .ok (.iload_n 2, 1) := dk_28 (dk_at dksX19_sorts_0 17 rfl rfl)
theorem dX19_sorts_18 : decode cX19_sorts 18 = .ok (.invokevirtual 366, 3) := dk_182 1 110 (dk_at dksX19_sorts_0 18 rfl rfl)
theorem dX19_sorts_21 : decode cX19_sorts 21 = .ok (.istore 4, 2) := dk_54 4 (dk_at dksX19_sorts_0 21 rfl rfl)
theorem dX19_sorts_23 : decode cX19_sorts 23 = .ok (.iload_n 3, 1) := dk_29 (dk_at dksX19_sorts_0 23 rfl rfl)
theorem dX19_sorts_24 : decode cX19_sorts 24 = .ok (.ifCond .le 36, 3) := dk_158 0 36 (dk_at dksX19_sorts_1 0 rfl rfl)
theorem dX19_sorts_27 : decode cX19_sorts 27 = .ok (.aload_n 0, 1) := dk_42 (dk_at dksX19_sorts_1 3 rfl rfl)
theorem dX19_sorts_28 : decode cX19_sorts 28 = .ok (.getfield 27, 3) := dk_180 0 27 (dk_at dksX19_sorts_1 4 rfl rfl)
theorem dX19_sorts_31 : decode cX19_sorts 31 = .ok (.iload_n 3, 1) := dk_29 (dk_at dksX19_sorts_1 7 rfl rfl)
theorem dX19_sorts_32 : decode cX19_sorts 32 = .ok (.iconst 1, 1) := dk_4 (dk_at dksX19_sorts_1 8 rfl rfl)
theorem dX19_sorts_33 : decode cX19_sorts 33 = .ok (.isub, 1) := dk_100 (dk_at dksX19_sorts_1 9 rfl rfl)
theorem dX19_sorts_34 : decode cX19_sorts 34 = .ok (.iaload, 1) := dk_46 (dk_at dksX19_sorts_1 10 rfl rfl)
theorem dX19_sorts_35 : decode cX19_sorts 35 = .ok (.iload 4, 2) := dk_21 4 (dk_at dksX19_sorts_1 11 rfl rfl)
theorem dX19_sorts_37 : decode cX19_sorts 37 = .ok (.if_icmp .le 23, 3) := dk_164 0 23 (dk_at dksX19_sorts_1 13 rfl rfl)
theorem dX19_sorts_40 : decode cX19_sorts 40 = .ok (.aload_n 0, 1) := dk_42 (dk_at dksX19_sorts_1 16 rfl rfl)
theorem dX19_sorts_41 : decode cX19_sorts 41 = .ok (.getfield 27, 3) := dk_180 0 27 (dk_at dksX19_sorts_1 17 rfl rfl)
theorem dX19_sorts_44 : decode cX19_sorts 44 = .ok (.iload_n 3, 1) := dk_29 (dk_at dksX19_sorts_1 20 rfl rfl)
theorem dX19_sorts_45 : decode cX19_sorts 45 = .ok (.aload_n 0, 1) := dk_42 (dk_at dksX19_sorts_1 21 rfl rfl)
theorem dX19_sorts_46 : decode cX19_sorts 46 = .ok (.getfield 27, 3) := dk_180 0 27 (dk_at dksX19_sorts_2 0 rfl rfl)
theorem dX19_sorts_49 : decode cX19_sorts 49 = .ok (.iload_n 3, 1) := dk_29 (dk_at dksX19_sorts_2 3 rfl rfl)
theorem dX19_sorts_50 : decode cX19_sorts 50 = .ok (.iconst 1, 1) := dk_4 (dk_at dksX19_sorts_2 4 rfl rfl)
theorem dX19_sorts_51 : decode cX19_sorts 51 = .ok (.isub, 1) := dk_100 (dk_at dksX19_sorts_2 5 rfl rfl)
theorem dX19_sorts_52 : decode cX19_sorts 52 = .ok (.iaload, 1) := dk_46 (dk_at dksX19_sorts_2 6 rfl rfl)
theorem dX19_sorts_53 : decode cX19_sorts 53 = .ok (.iastore, 1) := dk_79 (dk_at dksX19_sorts_2 7 rfl rfl)
theorem dX19_sorts_54 : decode cX19_sorts 54 = .ok (.iinc 3 (-1), 3) := dk_132 3 255 (dk_at dksX19_sorts_2 8 rfl rfl)
theorem dX19_sorts_57 : decode cX19_sorts 57 = .ok (.goto (-34), 3) := dk_167 255 222 (dk_at dksX19_sorts_2 11 rfl rfl)
theorem dX19_sorts_60 : decode cX19_sorts 60 = .ok (.aload_n 0, 1) := dk_42 (dk_at dksX19_sorts_2 14 rfl rfl)
theorem dX19_sorts_61 : decode cX19_sorts 61 = .ok (.getfield 27, 3) := dk_180 0 27 (dk_at dksX19_sorts_2 15 rfl rfl)
theorem dX19_sorts_64 : decode cX19_sorts 64 = .ok (.iload_n 3, 1) := dk_29 (dk_at dksX19_sorts_2 18 rfl rfl)
theorem dX19_sorts_65 : decode cX19_sorts 65 = .ok (.iload 4, 2) := dk_21 4 (dk_at dksX19_sorts_2 19 rfl rfl)
theorem dX19_sorts_67 : decode cX19_sorts 67 = .ok (.iastore, 1) := dk_79 (dk_at dksX19_sorts_2 21 rfl rfl)
theorem dX19_sorts_68 : decode cX19_sorts 68 = .ok (.iinc 2 1, 3) := dk_132 2 1 (dk_at dksX19_sorts_3 0 rfl rfl)
theorem dX19_sorts_71 : decode cX19_sorts 71 = .ok (.goto (-69), 3) := dk_167 255 187 (dk_at dksX19_sorts_3 3 rfl rfl)
theorem dX19_sorts_74 : decode cX19_sorts 74 = .ok (.return_, 1) := dk_177 (dk_at dksX19_sorts_3 6 rfl rfl)
abbrev cX19_keepsAt : ByteArray := prog_23_method_64_code
def yX19_keepsAt : MethodName := ⟨RX19, "keepsAt", "(I)I"⟩
def dkwX19_keepsAt_3 : List UInt8 := [167, 0, 6, 29, 28, 112, 172]
abbrev dktX19_keepsAt_3 : List UInt8 := dkwX19_keepsAt_3 ++ []
def dkwX19_keepsAt_2 : List UInt8 := [28, 4, 100, 167, 0, 25, 27, 5, 160, 0, 17, 28, 42, 180, 1, 73, 180, 0, 255, 100, 5, 108]
abbrev dktX19_keepsAt_2 : List UInt8 := dkwX19_keepsAt_2 ++ dktX19_keepsAt_3
def dkwX19_keepsAt_1 : List UInt8 := [21, 4, 46, 96, 62, 132, 4, 1, 167, 255, 237, 27, 154, 0, 7, 3, 167, 0, 36, 27, 4, 160, 0, 9]
abbrev dktX19_keepsAt_1 : List UInt8 := dkwX19_keepsAt_1 ++ dktX19_keepsAt_2
def dkwX19_keepsAt_0 : List UInt8 := [42, 180, 1, 73, 180, 0, 232, 61, 3, 62, 3, 54, 4, 21, 4, 28, 162, 0, 19, 29, 42, 180, 0, 27]
abbrev dktX19_keepsAt_0 : List UInt8 := dkwX19_keepsAt_0 ++ dktX19_keepsAt_1
theorem dksX19_keepsAt_0 : cX19_keepsAt.data.toList.drop 0 = dktX19_keepsAt_0 := by decide +kernel
theorem dksX19_keepsAt_1 : cX19_keepsAt.data.toList.drop 24 = dktX19_keepsAt_1 := dk_seg dksX19_keepsAt_0 24 rfl rfl
theorem dksX19_keepsAt_2 : cX19_keepsAt.data.toList.drop 48 = dktX19_keepsAt_2 := dk_seg dksX19_keepsAt_1 24 rfl rfl
theorem dksX19_keepsAt_3 : cX19_keepsAt.data.toList.drop 70 = dktX19_keepsAt_3 := dk_seg dksX19_keepsAt_2 22 rfl rfl
theorem dX19_keepsAt_0 : decode cX19_keepsAt 0 = .ok (.aload_n 0, 1) := dk_42 (dk_at dksX19_keepsAt_0 0 rfl rfl)
theorem dX19_keepsAt_1 : decode cX19_keepsAt 1 = .ok (.getfield 329, 3) := dk_180 1 73 (dk_at dksX19_keepsAt_0 1 rfl rfl)
theorem dX19_keepsAt_4 : decode cX19_keepsAt 4 = .ok (.getfield 232, 3) := dk_180 0 232 (dk_at dksX19_keepsAt_0 4 rfl rfl)
theorem dX19_keepsAt_7 : decode cX19_keepsAt 7 = .ok (.istore_n 2, 1) := dk_61 (dk_at dksX19_keepsAt_0 7 rfl rfl)
theorem dX19_keepsAt_8 : decode cX19_keepsAt 8 = .ok (.iconst 0, 1) := dk_3 (dk_at dksX19_keepsAt_0 8 rfl rfl)
theorem dX19_keepsAt_9 : decode cX19_keepsAt 9 = .ok (.istore_n 3, 1) := dk_62 (dk_at dksX19_keepsAt_0 9 rfl rfl)
theorem dX19_keepsAt_10 : decode cX19_keepsAt 10 = .ok (.iconst 0, 1) := dk_3 (dk_at dksX19_keepsAt_0 10 rfl rfl)
theorem dX19_keepsAt_11 : decode cX19_keepsAt 11 = .ok (.istore 4, 2) := dk_54 4 (dk_at dksX19_keepsAt_0 11 rfl rfl)
theorem dX19_keepsAt_13 : decode cX19_keepsAt 13 = .ok (.iload 4, 2) := dk_21 4 (dk_at dksX19_keepsAt_0 13 rfl rfl)
theorem dX19_keepsAt_15 : decode cX19_keepsAt 15 = .ok (.iload_n 2, 1) := dk_28 (dk_at dksX19_keepsAt_0 15 rfl rfl)
theorem dX19_keepsAt_16 : decode cX19_keepsAt 16 = .ok (.if_icmp .ge 19, 3) := dk_162 0 19 (dk_at dksX19_keepsAt_0 16 rfl rfl)
theorem dX19_keepsAt_19 : decode cX19_keepsAt 19 = .ok (.iload_n 3, 1) := dk_29 (dk_at dksX19_keepsAt_0 19 rfl rfl)
theorem dX19_keepsAt_20 : decode cX19_keepsAt 20 = .ok (.aload_n 0, 1) := dk_42 (dk_at dksX19_keepsAt_0 20 rfl rfl)
theorem dX19_keepsAt_21 : decode cX19_keepsAt 21 = .ok (.getfield 27, 3) := dk_180 0 27 (dk_at dksX19_keepsAt_0 21 rfl rfl)
theorem dX19_keepsAt_24 : decode cX19_keepsAt 24 = .ok (.iload 4, 2) := dk_21 4 (dk_at dksX19_keepsAt_1 0 rfl rfl)
theorem dX19_keepsAt_26 : decode cX19_keepsAt 26 = .ok (.iaload, 1) := dk_46 (dk_at dksX19_keepsAt_1 2 rfl rfl)
theorem dX19_keepsAt_27 : decode cX19_keepsAt 27 = .ok (.iadd, 1) := dk_96 (dk_at dksX19_keepsAt_1 3 rfl rfl)
theorem dX19_keepsAt_28 : decode cX19_keepsAt 28 = .ok (.istore_n 3, 1) := dk_62 (dk_at dksX19_keepsAt_1 4 rfl rfl)
theorem dX19_keepsAt_29 : decode cX19_keepsAt 29 = .ok (.iinc 4 1, 3) := dk_132 4 1 (dk_at dksX19_keepsAt_1 5 rfl rfl)
theorem dX19_keepsAt_32 : decode cX19_keepsAt 32 = .ok (.goto (-19), 3) := dk_167 255 237 (dk_at dksX19_keepsAt_1 8 rfl rfl)
theorem dX19_keepsAt_35 : decode cX19_keepsAt 35 = .ok (.iload_n 1, 1) := dk_27 (dk_at dksX19_keepsAt_1 11 rfl rfl)
theorem dX19_keepsAt_36 : decode cX19_keepsAt 36 = .ok (.ifCond .ne 7, 3) := dk_154 0 7 (dk_at dksX19_keepsAt_1 12 rfl rfl)
theorem dX19_keepsAt_39 : decode cX19_keepsAt 39 = .ok (.iconst 0, 1) := dk_3 (dk_at dksX19_keepsAt_1 15 rfl rfl)
theorem dX19_keepsAt_40 : decode cX19_keepsAt 40 = .ok (.goto 36, 3) := dk_167 0 36 (dk_at dksX19_keepsAt_1 16 rfl rfl)
theorem dX19_keepsAt_43 : decode cX19_keepsAt 43 = .ok (.iload_n 1, 1) := dk_27 (dk_at dksX19_keepsAt_1 19 rfl rfl)
theorem dX19_keepsAt_44 : decode cX19_keepsAt 44 = .ok (.iconst 1, 1) := dk_4 (dk_at dksX19_keepsAt_1 20 rfl rfl)
theorem dX19_keepsAt_45 : decode cX19_keepsAt 45 = .ok (.if_icmp .ne 9, 3) := dk_160 0 9 (dk_at dksX19_keepsAt_1 21 rfl rfl)
theorem dX19_keepsAt_48 : decode cX19_keepsAt 48 = .ok (.iload_n 2, 1) := dk_28 (dk_at dksX19_keepsAt_2 0 rfl rfl)
theorem dX19_keepsAt_49 : decode cX19_keepsAt 49 = .ok (.iconst 1, 1) := dk_4 (dk_at dksX19_keepsAt_2 1 rfl rfl)
theorem dX19_keepsAt_50 : decode cX19_keepsAt 50 = .ok (.isub, 1) := dk_100 (dk_at dksX19_keepsAt_2 2 rfl rfl)
theorem dX19_keepsAt_51 : decode cX19_keepsAt 51 = .ok (.goto 25, 3) := dk_167 0 25 (dk_at dksX19_keepsAt_2 3 rfl rfl)
theorem dX19_keepsAt_54 : decode cX19_keepsAt 54 = .ok (.iload_n 1, 1) := dk_27 (dk_at dksX19_keepsAt_2 6 rfl rfl)
theorem dX19_keepsAt_55 : decode cX19_keepsAt 55 = .ok (.iconst 2, 1) := dk_5 (dk_at dksX19_keepsAt_2 7 rfl rfl)
theorem dX19_keepsAt_56 : decode cX19_keepsAt 56 = .ok (.if_icmp .ne 17, 3) := dk_160 0 17 (dk_at dksX19_keepsAt_2 8 rfl rfl)
theorem dX19_keepsAt_59 : decode cX19_keepsAt 59 = .ok (.iload_n 2, 1) := dk_28 (dk_at dksX19_keepsAt_2 11 rfl rfl)
theorem dX19_keepsAt_60 : decode cX19_keepsAt 60 = .ok (.aload_n 0, 1) := dk_42 (dk_at dksX19_keepsAt_2 12 rfl rfl)
theorem dX19_keepsAt_61 : decode cX19_keepsAt 61 = .ok (.getfield 329, 3) := dk_180 1 73 (dk_at dksX19_keepsAt_2 13 rfl rfl)
theorem dX19_keepsAt_64 : decode cX19_keepsAt 64 = .ok (.getfield 255, 3) := dk_180 0 255 (dk_at dksX19_keepsAt_2 16 rfl rfl)
theorem dX19_keepsAt_67 : decode cX19_keepsAt 67 = .ok (.isub, 1) := dk_100 (dk_at dksX19_keepsAt_2 19 rfl rfl)
theorem dX19_keepsAt_68 : decode cX19_keepsAt 68 = .ok (.iconst 2, 1) := dk_5 (dk_at dksX19_keepsAt_2 20 rfl rfl)
theorem dX19_keepsAt_69 : decode cX19_keepsAt 69 = .ok (.idiv, 1) := dk_108 (dk_at dksX19_keepsAt_2 21 rfl rfl)
theorem dX19_keepsAt_70 : decode cX19_keepsAt 70 = .ok (.goto 6, 3) := dk_167 0 6 (dk_at dksX19_keepsAt_3 0 rfl rfl)
theorem dX19_keepsAt_73 : decode cX19_keepsAt 73 = .ok (.iload_n 3, 1) := dk_29 (dk_at dksX19_keepsAt_3 3 rfl rfl)
theorem dX19_keepsAt_74 : decode cX19_keepsAt 74 = .ok (.iload_n 2, 1) := dk_28 (dk_at dksX19_keepsAt_3 4 rfl rfl)
theorem dX19_keepsAt_75 : decode cX19_keepsAt 75 = .ok (.irem, 1) := dk_112 (dk_at dksX19_keepsAt_3 5 rfl rfl)
theorem dX19_keepsAt_76 : decode cX19_keepsAt 76 = .ok (.ireturn, 1) := dk_172 (dk_at dksX19_keepsAt_3 6 rfl rfl)
abbrev cX19_tells : ByteArray := prog_23_method_65_code
def yX19_tells : MethodName := ⟨RX19, "tells", "(IIII)I"⟩
def dkwX19_tells_10 : List UInt8 := [172]
abbrev dktX19_tells_10 : List UInt8 := dkwX19_tells_10 ++ []
def dkwX19_tells_9 : List UInt8 := [4, 160, 0, 8, 21, 7, 167, 0, 4, 3, 96, 54, 6, 132, 7, 1, 167, 255, 224, 21, 6, 21, 5, 112]
abbrev dktX19_tells_9 : List UInt8 := dkwX19_tells_9 ++ dktX19_tells_10
def dkwX19_tells_8 : List UInt8 := [180, 0, 232, 108, 172, 3, 54, 7, 21, 7, 21, 5, 162, 0, 31, 21, 6, 21, 4, 21, 7, 122, 4, 126]
abbrev dktX19_tells_8 : List UInt8 := dkwX19_tells_8 ++ dktX19_tells_9
def dkwX19_tells_7 : List UInt8 := [160, 0, 7, 4, 167, 0, 4, 3, 96, 54, 6, 132, 7, 1, 167, 255, 216, 21, 6, 42, 180, 1, 73]
abbrev dktX19_tells_7 : List UInt8 := dkwX19_tells_7 ++ dktX19_tells_8
def dkwX19_tells_6 : List UInt8 := [162, 0, 40, 21, 6, 42, 29, 21, 7, 182, 1, 113, 153, 0, 14, 21, 4, 21, 7, 122, 4, 126, 4]
abbrev dktX19_tells_6 : List UInt8 := dkwX19_tells_6 ++ dktX19_tells_7
def dkwX19_tells_5 : List UInt8 := [162, 0, 7, 21, 9, 54, 6, 132, 7, 1, 167, 255, 199, 21, 6, 172, 3, 54, 7, 21, 7, 28]
abbrev dktX19_tells_5 : List UInt8 := dkwX19_tells_5 ++ dktX19_tells_6
def dkwX19_tells_4 : List UInt8 := [21, 5, 96, 21, 5, 112, 54, 9, 21, 4, 21, 8, 122, 4, 126, 154, 0, 14, 21, 9, 21, 6]
abbrev dktX19_tells_4 : List UInt8 := dkwX19_tells_4 ++ dktX19_tells_5
def dkwX19_tells_3 : List UInt8 := [42, 180, 1, 73, 180, 0, 232, 162, 0, 51, 42, 29, 21, 7, 182, 1, 110, 54, 8, 28, 21, 8, 100]
abbrev dktX19_tells_3 : List UInt8 := dkwX19_tells_3 ++ dktX19_tells_4
def dkwX19_tells_2 : List UInt8 := [28, 172, 28, 21, 5, 42, 180, 1, 73, 180, 0, 253, 108, 112, 172, 21, 5, 54, 6, 3, 54, 7, 21, 7]
abbrev dktX19_tells_2 : List UInt8 := dkwX19_tells_2 ++ dktX19_tells_3
def dkwX19_tells_1 : List UInt8 := [170, 0, 0, 0, 0, 0, 173, 0, 0, 0, 0, 0, 0, 0, 3, 0, 0, 0, 31, 0, 0, 0, 33, 0, 0, 0, 46, 0, 0, 0, 116]
abbrev dktX19_tells_1 : List UInt8 := dkwX19_tells_1 ++ dktX19_tells_2
def dkwX19_tells_0 : List UInt8 := [42, 180, 1, 73, 180, 0, 194, 54, 5, 3, 54, 6, 27]
abbrev dktX19_tells_0 : List UInt8 := dkwX19_tells_0 ++ dktX19_tells_1
theorem dksX19_tells_0 : cX19_tells.data.toList.drop 0 = dktX19_tells_0 := by decide +kernel
theorem dksX19_tells_1 : cX19_tells.data.toList.drop 13 = dktX19_tells_1 := dk_seg dksX19_tells_0 13 rfl rfl
theorem dksX19_tells_2 : cX19_tells.data.toList.drop 44 = dktX19_tells_2 := dk_seg dksX19_tells_1 31 rfl rfl
theorem dksX19_tells_3 : cX19_tells.data.toList.drop 68 = dktX19_tells_3 := dk_seg dksX19_tells_2 24 rfl rfl
theorem dksX19_tells_4 : cX19_tells.data.toList.drop 91 = dktX19_tells_4 := dk_seg dksX19_tells_3 23 rfl rfl
theorem dksX19_tells_5 : cX19_tells.data.toList.drop 113 = dktX19_tells_5 := dk_seg dksX19_tells_4 22 rfl rfl
theorem dksX19_tells_6 : cX19_tells.data.toList.drop 135 = dktX19_tells_6 := dk_seg dksX19_tells_5 22 rfl rfl
theorem dksX19_tells_7 : cX19_tells.data.toList.drop 158 = dktX19_tells_7 := dk_seg dksX19_tells_6 23 rfl rfl
theorem dksX19_tells_8 : cX19_tells.data.toList.drop 181 = dktX19_tells_8 := dk_seg dksX19_tells_7 23 rfl rfl
theorem dksX19_tells_9 : cX19_tells.data.toList.drop 205 = dktX19_tells_9 := dk_seg dksX19_tells_8 24 rfl rfl
theorem dksX19_tells_10 : cX19_tells.data.toList.drop 229 = dktX19_tells_10 := dk_seg dksX19_tells_9 24 rfl rfl
theorem dX19_tells_0 : decode cX19_tells 0 = .ok (.aload_n 0, 1) := dk_42 (dk_at dksX19_tells_0 0 rfl rfl)
theorem dX19_tells_1 : decode cX19_tells 1 = .ok (.getfield 329, 3) := dk_180 1 73 (dk_at dksX19_tells_0 1 rfl rfl)
theorem dX19_tells_4 : decode cX19_tells 4 = .ok (.getfield 194, 3) := dk_180 0 194 (dk_at dksX19_tells_0 4 rfl rfl)
theorem dX19_tells_7 : decode cX19_tells 7 = .ok (.istore 5, 2) := dk_54 5 (dk_at dksX19_tells_0 7 rfl rfl)
theorem dX19_tells_9 : decode cX19_tells 9 = .ok (.iconst 0, 1) := dk_3 (dk_at dksX19_tells_0 9 rfl rfl)
theorem dX19_tells_10 : decode cX19_tells 10 = .ok (.istore 6, 2) := dk_54 6 (dk_at dksX19_tells_0 10 rfl rfl)
theorem dX19_tells_12 : decode cX19_tells 12 = .ok (.iload_n 1, 1) := dk_27 (dk_at dksX19_tells_0 12 rfl rfl)
theorem dX19_tells_13 : decode cX19_tells 13 = .ok (.tableswitch 173 0 3 #[31, 33, 46, 116], 31) := by decide +kernel
theorem dX19_tells_44 : decode cX19_tells 44 = .ok (.iload_n 2, 1) := dk_28 (dk_at dksX19_tells_2 0 rfl rfl)
theorem dX19_tells_45 : decode cX19_tells 45 = .ok (.ireturn, 1) := dk_172 (dk_at dksX19_tells_2 1 rfl rfl)
theorem dX19_tells_46 : decode cX19_tells 46 = .ok (.iload_n 2, 1) := dk_28 (dk_at dksX19_tells_2 2 rfl rfl)
theorem dX19_tells_47 : decode cX19_tells 47 = .ok (.iload 5, 2) := dk_21 5 (dk_at dksX19_tells_2 3 rfl rfl)
theorem dX19_tells_49 : decode cX19_tells 49 = .ok (.aload_n 0, 1) := dk_42 (dk_at dksX19_tells_2 5 rfl rfl)
theorem dX19_tells_50 : decode cX19_tells 50 = .ok (.getfield 329, 3) := dk_180 1 73 (dk_at dksX19_tells_2 6 rfl rfl)
theorem dX19_tells_53 : decode cX19_tells 53 = .ok (.getfield 253, 3) := dk_180 0 253 (dk_at dksX19_tells_2 9 rfl rfl)
theorem dX19_tells_56 : decode cX19_tells 56 = .ok (.idiv, 1) := dk_108 (dk_at dksX19_tells_2 12 rfl rfl)
theorem dX19_tells_57 : decode cX19_tells 57 = .ok (.irem, 1) := dk_112 (dk_at dksX19_tells_2 13 rfl rfl)
theorem dX19_tells_58 : decode cX19_tells 58 = .ok (.ireturn, 1) := dk_172 (dk_at dksX19_tells_2 14 rfl rfl)
theorem dX19_tells_59 : decode cX19_tells 59 = .ok (.iload 5, 2) := dk_21 5 (dk_at dksX19_tells_2 15 rfl rfl)
theorem dX19_tells_61 : decode cX19_tells 61 = .ok (.istore 6, 2) := dk_54 6 (dk_at dksX19_tells_2 17 rfl rfl)
theorem dX19_tells_63 : decode cX19_tells 63 = .ok (.iconst 0, 1) := dk_3 (dk_at dksX19_tells_2 19 rfl rfl)
theorem dX19_tells_64 : decode cX19_tells 64 = .ok (.istore 7, 2) := dk_54 7 (dk_at dksX19_tells_2 20 rfl rfl)
theorem dX19_tells_66 : decode cX19_tells 66 = .ok (.iload 7, 2) := dk_21 7 (dk_at dksX19_tells_2 22 rfl rfl)
theorem dX19_tells_68 : decode cX19_tells 68 = .ok (.aload_n 0, 1) := dk_42 (dk_at dksX19_tells_3 0 rfl rfl)
theorem dX19_tells_69 : decode cX19_tells 69 = .ok (.getfield 329, 3) := dk_180 1 73 (dk_at dksX19_tells_3 1 rfl rfl)
theorem dX19_tells_72 : decode cX19_tells 72 = .ok (.getfield 232, 3) := dk_180 0 232 (dk_at dksX19_tells_3 4 rfl rfl)
theorem dX19_tells_75 : decode cX19_tells 75 = .ok (.if_icmp .ge 51, 3) := dk_162 0 51 (dk_at dksX19_tells_3 7 rfl rfl)
theorem dX19_tells_78 : decode cX19_tells 78 = .ok (.aload_n 0, 1) := dk_42 (dk_at dksX19_tells_3 10 rfl rfl)
theorem dX19_tells_79 : decode cX19_tells 79 = .ok (.iload_n 3, 1) := dk_29 (dk_at dksX19_tells_3 11 rfl rfl)
theorem dX19_tells_80 : decode cX19_tells 80 = .ok (.iload 7, 2) := dk_21 7 (dk_at dksX19_tells_3 12 rfl rfl)
theorem dX19_tells_82 : decode cX19_tells 82 = .ok (.invokevirtual 366, 3) := dk_182 1 110 (dk_at dksX19_tells_3 14 rfl rfl)
theorem dX19_tells_85 : decode cX19_tells 85 = .ok (.istore 8, 2) := dk_54 8 (dk_at dksX19_tells_3 17 rfl rfl)
theorem dX19_tells_87 : decode cX19_tells 87 = .ok (.iload_n 2, 1) := dk_28 (dk_at dksX19_tells_3 19 rfl rfl)
theorem dX19_tells_88 : decode cX19_tells 88 = .ok (.iload 8, 2) := dk_21 8 (dk_at dksX19_tells_3 20 rfl rfl)
theorem dX19_tells_90 : decode cX19_tells 90 = .ok (.isub, 1) := dk_100 (dk_at dksX19_tells_3 22 rfl rfl)
theorem dX19_tells_91 : decode cX19_tells 91 = .ok (.iload 5, 2) := dk_21 5 (dk_at dksX19_tells_4 0 rfl rfl)
theorem dX19_tells_93 : decode cX19_tells 93 = .ok (.iadd, 1) := dk_96 (dk_at dksX19_tells_4 2 rfl rfl)
theorem dX19_tells_94 : decode cX19_tells 94 = .ok (.iload 5, 2) := dk_21 5 (dk_at dksX19_tells_4 3 rfl rfl)
theorem dX19_tells_96 : decode cX19_tells 96 = .ok (.irem, 1) := dk_112 (dk_at dksX19_tells_4 5 rfl rfl)
theorem dX19_tells_97 : decode cX19_tells 97 = .ok (.istore 9, 2) := dk_54 9 (dk_at dksX19_tells_4 6 rfl rfl)
theorem dX19_tells_99 : decode cX19_tells 99 = .ok (.iload 4, 2) := dk_21 4 (dk_at dksX19_tells_4 8 rfl rfl)
theorem dX19_tells_101 : decode cX19_tells 101 = .ok (.iload 8, 2) := dk_21 8 (dk_at dksX19_tells_4 10 rfl rfl)
theorem dX19_tells_103 : decode cX19_tells 103 = .ok (.ishr, 1) := dk_122 (dk_at dksX19_tells_4 12 rfl rfl)
theorem dX19_tells_104 : decode cX19_tells 104 = .ok (.iconst 1, 1) := dk_4 (dk_at dksX19_tells_4 13 rfl rfl)
theorem dX19_tells_105 : decode cX19_tells 105 = .ok (.iand, 1) := dk_126 (dk_at dksX19_tells_4 14 rfl rfl)
theorem dX19_tells_106 : decode cX19_tells 106 = .ok (.ifCond .ne 14, 3) := dk_154 0 14 (dk_at dksX19_tells_4 15 rfl rfl)
theorem dX19_tells_109 : decode cX19_tells 109 = .ok (.iload 9, 2) := dk_21 9 (dk_at dksX19_tells_4 18 rfl rfl)
theorem dX19_tells_111 : decode cX19_tells 111 = .ok (.iload 6, 2) := dk_21 6 (dk_at dksX19_tells_4 20 rfl rfl)
theorem dX19_tells_113 : decode cX19_tells 113 = .ok (.if_icmp .ge 7, 3) := dk_162 0 7 (dk_at dksX19_tells_5 0 rfl rfl)
theorem dX19_tells_116 : decode cX19_tells 116 = .ok (.iload 9, 2) := dk_21 9 (dk_at dksX19_tells_5 3 rfl rfl)
theorem dX19_tells_118 : decode cX19_tells 118 = .ok (.istore 6, 2) := dk_54 6 (dk_at dksX19_tells_5 5 rfl rfl)
theorem dX19_tells_120 : decode cX19_tells 120 = .ok (.iinc 7 1, 3) := dk_132 7 1 (dk_at dksX19_tells_5 7 rfl rfl)
theorem dX19_tells_123 : decode cX19_tells 123 = .ok (.goto (-57), 3) := dk_167 255 199 (dk_at dksX19_tells_5 10 rfl rfl)
theorem dX19_tells_126 : decode cX19_tells 126 = .ok (.iload 6, 2) := dk_21 6 (dk_at dksX19_tells_5 13 rfl rfl)
theorem dX19_tells_128 : decode cX19_tells 128 = .ok (.ireturn, 1) := dk_172 (dk_at dksX19_tells_5 15 rfl rfl)
theorem dX19_tells_129 : decode cX19_tells 129 = .ok (.iconst 0, 1) := dk_3 (dk_at dksX19_tells_5 16 rfl rfl)
theorem dX19_tells_130 : decode cX19_tells 130 = .ok (.istore 7, 2) := dk_54 7 (dk_at dksX19_tells_5 17 rfl rfl)
theorem dX19_tells_132 : decode cX19_tells 132 = .ok (.iload 7, 2) := dk_21 7 (dk_at dksX19_tells_5 19 rfl rfl)
theorem dX19_tells_134 : decode cX19_tells 134 = .ok (.iload_n 2, 1) := dk_28 (dk_at dksX19_tells_5 21 rfl rfl)
theorem dX19_tells_135 : decode cX19_tells 135 = .ok (.if_icmp .ge 40, 3) := dk_162 0 40 (dk_at dksX19_tells_6 0 rfl rfl)
theorem dX19_tells_138 : decode cX19_tells 138 = .ok (.iload 6, 2) := dk_21 6 (dk_at dksX19_tells_6 3 rfl rfl)
theorem dX19_tells_140 : decode cX19_tells 140 = .ok (.aload_n 0, 1) := dk_42 (dk_at dksX19_tells_6 5 rfl rfl)
theorem dX19_tells_141 : decode cX19_tells 141 = .ok (.iload_n 3, 1) := dk_29 (dk_at dksX19_tells_6 6 rfl rfl)
theorem dX19_tells_142 : decode cX19_tells 142 = .ok (.iload 7, 2) := dk_21 7 (dk_at dksX19_tells_6 7 rfl rfl)
theorem dX19_tells_144 : decode cX19_tells 144 = .ok (.invokevirtual 369, 3) := dk_182 1 113 (dk_at dksX19_tells_6 9 rfl rfl)
theorem dX19_tells_147 : decode cX19_tells 147 = .ok (.ifCond .eq 14, 3) := dk_153 0 14 (dk_at dksX19_tells_6 12 rfl rfl)
theorem dX19_tells_150 : decode cX19_tells 150 = .ok (.iload 4, 2) := dk_21 4 (dk_at dksX19_tells_6 15 rfl rfl)
theorem dX19_tells_152 : decode cX19_tells 152 = .ok (.iload 7, 2) := dk_21 7 (dk_at dksX19_tells_6 17 rfl rfl)
theorem dX19_tells_154 : decode cX19_tells 154 = .ok (.ishr, 1) := dk_122 (dk_at dksX19_tells_6 19 rfl rfl)
theorem dX19_tells_155 : decode cX19_tells 155 = .ok (.iconst 1, 1) := dk_4 (dk_at dksX19_tells_6 20 rfl rfl)
theorem dX19_tells_156 : decode cX19_tells 156 = .ok (.iand, 1) := dk_126 (dk_at dksX19_tells_6 21 rfl rfl)
theorem dX19_tells_157 : decode cX19_tells 157 = .ok (.iconst 1, 1) := dk_4 (dk_at dksX19_tells_6 22 rfl rfl)
theorem dX19_tells_158 : decode cX19_tells 158 = .ok (.if_icmp .ne 7, 3) := dk_160 0 7 (dk_at dksX19_tells_7 0 rfl rfl)
theorem dX19_tells_161 : decode cX19_tells 161 = .ok (.iconst 1, 1) := dk_4 (dk_at dksX19_tells_7 3 rfl rfl)
theorem dX19_tells_162 : decode cX19_tells 162 = .ok (.goto 4, 3) := dk_167 0 4 (dk_at dksX19_tells_7 4 rfl rfl)
theorem dX19_tells_165 : decode cX19_tells 165 = .ok (.iconst 0, 1) := dk_3 (dk_at dksX19_tells_7 7 rfl rfl)
theorem dX19_tells_166 : decode cX19_tells 166 = .ok (.iadd, 1) := dk_96 (dk_at dksX19_tells_7 8 rfl rfl)
theorem dX19_tells_167 : decode cX19_tells 167 = .ok (.istore 6, 2) := dk_54 6 (dk_at dksX19_tells_7 9 rfl rfl)
theorem dX19_tells_169 : decode cX19_tells 169 = .ok (.iinc 7 1, 3) := dk_132 7 1 (dk_at dksX19_tells_7 11 rfl rfl)
theorem dX19_tells_172 : decode cX19_tells 172 = .ok (.goto (-40), 3) := dk_167 255 216 (dk_at dksX19_tells_7 14 rfl rfl)
theorem dX19_tells_175 : decode cX19_tells 175 = .ok (.iload 6, 2) := dk_21 6 (dk_at dksX19_tells_7 17 rfl rfl)
theorem dX19_tells_177 : decode cX19_tells 177 = .ok (.aload_n 0, 1) := dk_42 (dk_at dksX19_tells_7 19 rfl rfl)
theorem dX19_tells_178 : decode cX19_tells 178 = .ok (.getfield 329, 3) := dk_180 1 73 (dk_at dksX19_tells_7 20 rfl rfl)
theorem dX19_tells_181 : decode cX19_tells 181 = .ok (.getfield 232, 3) := dk_180 0 232 (dk_at dksX19_tells_8 0 rfl rfl)
theorem dX19_tells_184 : decode cX19_tells 184 = .ok (.idiv, 1) := dk_108 (dk_at dksX19_tells_8 3 rfl rfl)
theorem dX19_tells_185 : decode cX19_tells 185 = .ok (.ireturn, 1) := dk_172 (dk_at dksX19_tells_8 4 rfl rfl)
theorem dX19_tells_186 : decode cX19_tells 186 = .ok (.iconst 0, 1) := dk_3 (dk_at dksX19_tells_8 5 rfl rfl)
theorem dX19_tells_187 : decode cX19_tells 187 = .ok (.istore 7, 2) := dk_54 7 (dk_at dksX19_tells_8 6 rfl rfl)
theorem dX19_tells_189 : decode cX19_tells 189 = .ok (.iload 7, 2) := dk_21 7 (dk_at dksX19_tells_8 8 rfl rfl)
theorem dX19_tells_191 : decode cX19_tells 191 = .ok (.iload 5, 2) := dk_21 5 (dk_at dksX19_tells_8 10 rfl rfl)
theorem dX19_tells_193 : decode cX19_tells 193 = .ok (.if_icmp .ge 31, 3) := dk_162 0 31 (dk_at dksX19_tells_8 12 rfl rfl)
theorem dX19_tells_196 : decode cX19_tells 196 = .ok (.iload 6, 2) := dk_21 6 (dk_at dksX19_tells_8 15 rfl rfl)
theorem dX19_tells_198 : decode cX19_tells 198 = .ok (.iload 4, 2) := dk_21 4 (dk_at dksX19_tells_8 17 rfl rfl)
theorem dX19_tells_200 : decode cX19_tells 200 = .ok (.iload 7, 2) := dk_21 7 (dk_at dksX19_tells_8 19 rfl rfl)
theorem dX19_tells_202 : decode cX19_tells 202 = .ok (.ishr, 1) := dk_122 (dk_at dksX19_tells_8 21 rfl rfl)
theorem dX19_tells_203 : decode cX19_tells 203 = .ok (.iconst 1, 1) := dk_4 (dk_at dksX19_tells_8 22 rfl rfl)
theorem dX19_tells_204 : decode cX19_tells 204 = .ok (.iand, 1) := dk_126 (dk_at dksX19_tells_8 23 rfl rfl)
theorem dX19_tells_205 : decode cX19_tells 205 = .ok (.iconst 1, 1) := dk_4 (dk_at dksX19_tells_9 0 rfl rfl)
theorem dX19_tells_206 : decode cX19_tells 206 = .ok (.if_icmp .ne 8, 3) := dk_160 0 8 (dk_at dksX19_tells_9 1 rfl rfl)
theorem dX19_tells_209 : decode cX19_tells 209 = .ok (.iload 7, 2) := dk_21 7 (dk_at dksX19_tells_9 4 rfl rfl)
theorem dX19_tells_211 : decode cX19_tells 211 = .ok (.goto 4, 3) := dk_167 0 4 (dk_at dksX19_tells_9 6 rfl rfl)
theorem dX19_tells_214 : decode cX19_tells 214 = .ok (.iconst 0, 1) := dk_3 (dk_at dksX19_tells_9 9 rfl rfl)
theorem dX19_tells_215 : decode cX19_tells 215 = .ok (.iadd, 1) := dk_96 (dk_at dksX19_tells_9 10 rfl rfl)
theorem dX19_tells_216 : decode cX19_tells 216 = .ok (.istore 6, 2) := dk_54 6 (dk_at dksX19_tells_9 11 rfl rfl)
theorem dX19_tells_218 : decode cX19_tells 218 = .ok (.iinc 7 1, 3) := dk_132 7 1 (dk_at dksX19_tells_9 13 rfl rfl)
theorem dX19_tells_221 : decode cX19_tells 221 = .ok (.goto (-32), 3) := dk_167 255 224 (dk_at dksX19_tells_9 16 rfl rfl)
theorem dX19_tells_224 : decode cX19_tells 224 = .ok (.iload 6, 2) := dk_21 6 (dk_at dksX19_tells_9 19 rfl rfl)
theorem dX19_tells_226 : decode cX19_tells 226 = .ok (.iload 5, 2) := dk_21 5 (dk_at dksX19_tells_9 21 rfl rfl)
theorem dX19_tells_228 : decode cX19_tells 228 = .ok (.irem, 1) := dk_112 (dk_at dksX19_tells_9 23 rfl rfl)
theorem dX19_tells_229 : decode cX19_tells 229 = .ok (.ireturn, 1) := dk_172 (dk_at dksX19_tells_10 0 rfl rfl)
abbrev cX19_knowsTable : ByteArray := prog_23_method_100_code
def yX19_knowsTable : MethodName := ⟨RX19, "knowsTable", "()V"⟩
def dkwX19_knowsTable_5 : List UInt8 := [180, 0, 49, 27, 46, 79, 132, 1, 1, 167, 255, 169, 177]
abbrev dktX19_knowsTable_5 : List UInt8 := dkwX19_knowsTable_5 ++ []
def dkwX19_knowsTable_4 : List UInt8 := [180, 0, 65, 29, 46, 182, 1, 235, 154, 0, 9, 132, 3, 1, 167, 255, 239, 42, 180, 0, 62, 27, 42]
abbrev dktX19_knowsTable_4 : List UInt8 := dkwX19_knowsTable_4 ++ dktX19_knowsTable_5
def dkwX19_knowsTable_3 : List UInt8 := [180, 0, 65, 29, 42, 180, 0, 30, 29, 46, 79, 132, 3, 1, 167, 255, 236, 3, 62, 42, 27, 42]
abbrev dktX19_knowsTable_3 : List UInt8 := dkwX19_knowsTable_3 ++ dktX19_knowsTable_4
def dkwX19_knowsTable_2 : List UInt8 := [180, 1, 171, 153, 0, 78, 42, 27, 182, 1, 223, 42, 180, 1, 144, 61, 3, 62, 29, 28, 162, 0, 21, 42]
abbrev dktX19_knowsTable_2 : List UInt8 := dkwX19_knowsTable_2 ++ dktX19_knowsTable_3
def dkwX19_knowsTable_1 : List UInt8 := [160, 0, 7, 4, 167, 0, 4, 3, 181, 1, 171, 3, 60, 27, 42, 180, 1, 100, 162, 0, 85, 42]
abbrev dktX19_knowsTable_1 : List UInt8 := dkwX19_knowsTable_1 ++ dktX19_knowsTable_2
def dkwX19_knowsTable_0 : List UInt8 := [42, 180, 1, 87, 153, 0, 4, 177, 42, 4, 181, 1, 87, 42, 42, 182, 1, 232, 42, 180, 1, 100]
abbrev dktX19_knowsTable_0 : List UInt8 := dkwX19_knowsTable_0 ++ dktX19_knowsTable_1
theorem dksX19_knowsTable_0 : cX19_knowsTable.data.toList.drop 0 = dktX19_knowsTable_0 := by decide +kernel
theorem dksX19_knowsTable_1 : cX19_knowsTable.data.toList.drop 22 = dktX19_knowsTable_1 := dk_seg dksX19_knowsTable_0 22 rfl rfl
theorem dksX19_knowsTable_2 : cX19_knowsTable.data.toList.drop 44 = dktX19_knowsTable_2 := dk_seg dksX19_knowsTable_1 22 rfl rfl
theorem dksX19_knowsTable_3 : cX19_knowsTable.data.toList.drop 68 = dktX19_knowsTable_3 := dk_seg dksX19_knowsTable_2 24 rfl rfl
theorem dksX19_knowsTable_4 : cX19_knowsTable.data.toList.drop 90 = dktX19_knowsTable_4 := dk_seg dksX19_knowsTable_3 22 rfl rfl
theorem dksX19_knowsTable_5 : cX19_knowsTable.data.toList.drop 113 = dktX19_knowsTable_5 := dk_seg dksX19_knowsTable_4 23 rfl rfl
theorem dX19_knowsTable_0 : decode cX19_knowsTable 0 = .ok (.aload_n 0, 1) := dk_42 (dk_at dksX19_knowsTable_0 0 rfl rfl)
theorem dX19_knowsTable_1 : decode cX19_knowsTable 1 = .ok (.getfield 343, 3) := dk_180 1 87 (dk_at dksX19_knowsTable_0 1 rfl rfl)
theorem dX19_knowsTable_4 : decode cX19_knowsTable 4 = .ok (.ifCond .eq 4, 3) := dk_153 0 4 (dk_at dksX19_knowsTable_0 4 rfl rfl)
theorem dX19_knowsTable_7 : decode cX19_knowsTable 7 = .ok (.return_, 1) := dk_177 (dk_at dksX19_knowsTable_0 7 rfl rfl)
theorem dX19_knowsTable_8 : decode cX19_knowsTable 8 = .ok (.aload_n 0, 1) := dk_42 (dk_at dksX19_knowsTable_0 8 rfl rfl)
theorem dX19_knowsTable_9 : decode cX19_knowsTable 9 = .ok (.iconst 1, 1) := dk_4 (dk_at dksX19_knowsTable_0 9 rfl rfl)
theorem dX19_knowsTable_10 : decode cX19_knowsTable 10 = .ok (.putfield 343, 3) := dk_181 1 87 (dk_at dksX19_knowsTable_0 10 rfl rfl)
theorem dX19_knowsTable_13 : decode cX19_knowsTable 13 = .ok (.aload_n 0, 1) := dk_42 (dk_at dksX19_knowsTable_0 13 rfl rfl)
theorem dX19_knowsTable_14 : decode cX19_knowsTable 14 = .ok (.aload_n 0, 1) := dk_42 (dk_at dksX19_knowsTable_0 14 rfl rfl)
theorem dX19_knowsTable_15 : decode cX19_knowsTable 15 = .ok (.invokevirtual 488, 3) := dk_182 1 232 (dk_at dksX19_knowsTable_0 15 rfl rfl)
theorem dX19_knowsTable_18 : decode cX19_knowsTable 18 = .ok (.aload_n 0, 1) := dk_42 (dk_at dksX19_knowsTable_0 18 rfl rfl)
theorem dX19_knowsTable_19 : decode cX19_knowsTable 19 = .ok (.getfield 356, 3) := dk_180 1 100 (dk_at dksX19_knowsTable_0 19 rfl rfl)
theorem dX19_knowsTable_22 : decode cX19_knowsTable 22 = .ok (.if_icmp .ne 7, 3) := dk_160 0 7 (dk_at dksX19_knowsTable_1 0 rfl rfl)
theorem dX19_knowsTable_25 : decode cX19_knowsTable 25 = .ok (.iconst 1, 1) := dk_4 (dk_at dksX19_knowsTable_1 3 rfl rfl)
theorem dX19_knowsTable_26 : decode cX19_knowsTable 26 = .ok (.goto 4, 3) := dk_167 0 4 (dk_at dksX19_knowsTable_1 4 rfl rfl)
theorem dX19_knowsTable_29 : decode cX19_knowsTable 29 = .ok (.iconst 0, 1) := dk_3 (dk_at dksX19_knowsTable_1 7 rfl rfl)
theorem dX19_knowsTable_30 : decode cX19_knowsTable 30 = .ok (.putfield 427, 3) := dk_181 1 171 (dk_at dksX19_knowsTable_1 8 rfl rfl)
theorem dX19_knowsTable_33 : decode cX19_knowsTable 33 = .ok (.iconst 0, 1) := dk_3 (dk_at dksX19_knowsTable_1 11 rfl rfl)
theorem dX19_knowsTable_34 : decode cX19_knowsTable 34 = .ok (.istore_n 1, 1) := dk_60 (dk_at dksX19_knowsTable_1 12 rfl rfl)
theorem dX19_knowsTable_35 : decode cX19_knowsTable 35 = .ok (.iload_n 1, 1) := dk_27 (dk_at dksX19_knowsTable_1 13 rfl rfl)
theorem dX19_knowsTable_36 : decode cX19_knowsTable 36 = .ok (.aload_n 0, 1) := dk_42 (dk_at dksX19_knowsTable_1 14 rfl rfl)
theorem dX19_knowsTable_37 : decode cX19_knowsTable 37 = .ok (.getfield 356, 3) := dk_180 1 100 (dk_at dksX19_knowsTable_1 15 rfl rfl)
theorem dX19_knowsTable_40 : decode cX19_knowsTable 40 = .ok (.if_icmp .ge 85, 3) := dk_162 0 85 (dk_at dksX19_knowsTable_1 18 rfl rfl)
theorem dX19_knowsTable_43 : decode cX19_knowsTable 43 = .ok (.aload_n 0, 1) := dk_42 (dk_at dksX19_knowsTable_1 21 rfl rfl)
theorem dX19_knowsTable_44 : decode cX19_knowsTable 44 = .ok (.getfield 427, 3) := dk_180 1 171 (dk_at dksX19_knowsTable_2 0 rfl rfl)
theorem dX19_knowsTable_47 : decode cX19_knowsTable 47 = .ok (.ifCond .eq 78, 3) := dk_153 0 78 (dk_at dksX19_knowsTable_2 3 rfl rfl)
theorem dX19_knowsTable_50 : decode cX19_knowsTable 50 = .ok (.aload_n 0, 1) := dk_42 (dk_at dksX19_knowsTable_2 6 rfl rfl)
theorem dX19_knowsTable_51 : decode cX19_knowsTable 51 = .ok (.iload_n 1, 1) := dk_27 (dk_at dksX19_knowsTable_2 7 rfl rfl)
theorem dX19_knowsTable_52 : decode cX19_knowsTable 52 = .ok (.invokevirtual 479, 3) := dk_182 1 223 (dk_at dksX19_knowsTable_2 8 rfl rfl)
theorem dX19_knowsTable_55 : decode cX19_knowsTable 55 = .ok (.aload_n 0, 1) := dk_42 (dk_at dksX19_knowsTable_2 11 rfl rfl)
theorem dX19_knowsTable_56 : decode cX19_knowsTable 56 = .ok (.getfield 400, 3) := dk_180 1 144 (dk_at dksX19_knowsTable_2 12 rfl rfl)
theorem dX19_knowsTable_59 : decode cX19_knowsTable 59 = .ok (.istore_n 2, 1) := dk_61 (dk_at dksX19_knowsTable_2 15 rfl rfl)
theorem dX19_knowsTable_60 : decode cX19_knowsTable 60 = .ok (.iconst 0, 1) := dk_3 (dk_at dksX19_knowsTable_2 16 rfl rfl)
theorem dX19_knowsTable_61 : decode cX19_knowsTable 61 = .ok (.istore_n 3, 1) := dk_62 (dk_at dksX19_knowsTable_2 17 rfl rfl)
theorem dX19_knowsTable_62 : decode cX19_knowsTable 62 = .ok (.iload_n 3, 1) := dk_29 (dk_at dksX19_knowsTable_2 18 rfl rfl)
theorem dX19_knowsTable_63 : decode cX19_knowsTable 63 = .ok (.iload_n 2, 1) := dk_28 (dk_at dksX19_knowsTable_2 19 rfl rfl)
theorem dX19_knowsTable_64 : decode cX19_knowsTable 64 = .ok (.if_icmp .ge 21, 3) := dk_162 0 21 (dk_at dksX19_knowsTable_2 20 rfl rfl)
theorem dX19_knowsTable_67 : decode cX19_knowsTable 67 = .ok (.aload_n 0, 1) := dk_42 (dk_at dksX19_knowsTable_2 23 rfl rfl)
theorem dX19_knowsTable_68 : decode cX19_knowsTable 68 = .ok (.getfield 65, 3) := dk_180 0 65 (dk_at dksX19_knowsTable_3 0 rfl rfl)
theorem dX19_knowsTable_71 : decode cX19_knowsTable 71 = .ok (.iload_n 3, 1) := dk_29 (dk_at dksX19_knowsTable_3 3 rfl rfl)
theorem dX19_knowsTable_72 : decode cX19_knowsTable 72 = .ok (.aload_n 0, 1) := dk_42 (dk_at dksX19_knowsTable_3 4 rfl rfl)
theorem dX19_knowsTable_73 : decode cX19_knowsTable 73 = .ok (.getfield 30, 3) := dk_180 0 30 (dk_at dksX19_knowsTable_3 5 rfl rfl)
theorem dX19_knowsTable_76 : decode cX19_knowsTable 76 = .ok (.iload_n 3, 1) := dk_29 (dk_at dksX19_knowsTable_3 8 rfl rfl)
theorem dX19_knowsTable_77 : decode cX19_knowsTable 77 = .ok (.iaload, 1) := dk_46 (dk_at dksX19_knowsTable_3 9 rfl rfl)
theorem dX19_knowsTable_78 : decode cX19_knowsTable 78 = .ok (.iastore, 1) := dk_79 (dk_at dksX19_knowsTable_3 10 rfl rfl)
theorem dX19_knowsTable_79 : decode cX19_knowsTable 79 = .ok (.iinc 3 1, 3) := dk_132 3 1 (dk_at dksX19_knowsTable_3 11 rfl rfl)
theorem dX19_knowsTable_82 : decode cX19_knowsTable 82 = .ok (.goto (-20), 3) := dk_167 255 236 (dk_at dksX19_knowsTable_3 14 rfl rfl)
theorem dX19_knowsTable_85 : decode cX19_knowsTable 85 = .ok (.iconst 0, 1) := dk_3 (dk_at dksX19_knowsTable_3 17 rfl rfl)
theorem dX19_knowsTable_86 : decode cX19_knowsTable 86 = .ok (.istore_n 3, 1) := dk_62 (dk_at dksX19_knowsTable_3 18 rfl rfl)
theorem dX19_knowsTable_87 : decode cX19_knowsTable 87 = .ok (.aload_n 0, 1) := dk_42 (dk_at dksX19_knowsTable_3 19 rfl rfl)
theorem dX19_knowsTable_88 : decode cX19_knowsTable 88 = .ok (.iload_n 1, 1) := dk_27 (dk_at dksX19_knowsTable_3 20 rfl rfl)
theorem dX19_knowsTable_89 : decode cX19_knowsTable 89 = .ok (.aload_n 0, 1) := dk_42 (dk_at dksX19_knowsTable_3 21 rfl rfl)
theorem dX19_knowsTable_90 : decode cX19_knowsTable 90 = .ok (.getfield 65, 3) := dk_180 0 65 (dk_at dksX19_knowsTable_4 0 rfl rfl)
theorem dX19_knowsTable_93 : decode cX19_knowsTable 93 = .ok (.iload_n 3, 1) := dk_29 (dk_at dksX19_knowsTable_4 3 rfl rfl)
theorem dX19_knowsTable_94 : decode cX19_knowsTable 94 = .ok (.iaload, 1) := dk_46 (dk_at dksX19_knowsTable_4 4 rfl rfl)
theorem dX19_knowsTable_95 : decode cX19_knowsTable 95 = .ok (.invokevirtual 491, 3) := dk_182 1 235 (dk_at dksX19_knowsTable_4 5 rfl rfl)
theorem dX19_knowsTable_98 : decode cX19_knowsTable 98 = .ok (.ifCond .ne 9, 3) := dk_154 0 9 (dk_at dksX19_knowsTable_4 8 rfl rfl)
theorem dX19_knowsTable_101 : decode cX19_knowsTable 101 = .ok (.iinc 3 1, 3) := dk_132 3 1 (dk_at dksX19_knowsTable_4 11 rfl rfl)
theorem dX19_knowsTable_104 : decode cX19_knowsTable 104 = .ok (.goto (-17), 3) := dk_167 255 239 (dk_at dksX19_knowsTable_4 14 rfl rfl)
theorem dX19_knowsTable_107 : decode cX19_knowsTable 107 = .ok (.aload_n 0, 1) := dk_42 (dk_at dksX19_knowsTable_4 17 rfl rfl)
theorem dX19_knowsTable_108 : decode cX19_knowsTable 108 = .ok (.getfield 62, 3) := dk_180 0 62 (dk_at dksX19_knowsTable_4 18 rfl rfl)
theorem dX19_knowsTable_111 : decode cX19_knowsTable 111 = .ok (.iload_n 1, 1) := dk_27 (dk_at dksX19_knowsTable_4 21 rfl rfl)
theorem dX19_knowsTable_112 : decode cX19_knowsTable 112 = .ok (.aload_n 0, 1) := dk_42 (dk_at dksX19_knowsTable_4 22 rfl rfl)
theorem dX19_knowsTable_113 : decode cX19_knowsTable 113 = .ok (.getfield 49, 3) := dk_180 0 49 (dk_at dksX19_knowsTable_5 0 rfl rfl)
theorem dX19_knowsTable_116 : decode cX19_knowsTable 116 = .ok (.iload_n 1, 1) := dk_27 (dk_at dksX19_knowsTable_5 3 rfl rfl)
theorem dX19_knowsTable_117 : decode cX19_knowsTable 117 = .ok (.iaload, 1) := dk_46 (dk_at dksX19_knowsTable_5 4 rfl rfl)
theorem dX19_knowsTable_118 : decode cX19_knowsTable 118 = .ok (.iastore, 1) := dk_79 (dk_at dksX19_knowsTable_5 5 rfl rfl)
theorem dX19_knowsTable_119 : decode cX19_knowsTable 119 = .ok (.iinc 1 1, 3) := dk_132 1 1 (dk_at dksX19_knowsTable_5 6 rfl rfl)
theorem dX19_knowsTable_122 : decode cX19_knowsTable 122 = .ok (.goto (-87), 3) := dk_167 255 169 (dk_at dksX19_knowsTable_5 9 rfl rfl)
theorem dX19_knowsTable_125 : decode cX19_knowsTable 125 = .ok (.return_, 1) := dk_177 (dk_at dksX19_knowsTable_5 12 rfl rfl)
abbrev cX19_pairsNow : ByteArray := prog_23_method_98_code
def yX19_pairsNow : MethodName := ⟨RX19, "pairsNow", "()I"⟩
def dkwX19_pairsNow_2 : List UInt8 := [28, 3, 2, 182, 1, 229, 153, 0, 7, 4, 167, 0, 4, 3, 96, 60, 132, 2, 1, 167, 255, 227, 27, 172]
abbrev dktX19_pairsNow_2 : List UInt8 := dkwX19_pairsNow_2 ++ []
def dkwX19_pairsNow_1 : List UInt8 := [180, 0, 58, 28, 3, 84, 132, 2, 1, 167, 255, 231, 3, 61, 28, 42, 180, 1, 100, 162, 0, 27, 27, 42]
abbrev dktX19_pairsNow_1 : List UInt8 := dkwX19_pairsNow_1 ++ dktX19_pairsNow_2
def dkwX19_pairsNow_0 : List UInt8 := [42, 182, 1, 202, 3, 60, 3, 61, 28, 42, 180, 1, 100, 162, 0, 23, 42, 180, 0, 49, 28, 2, 79, 42]
abbrev dktX19_pairsNow_0 : List UInt8 := dkwX19_pairsNow_0 ++ dktX19_pairsNow_1
theorem dksX19_pairsNow_0 : cX19_pairsNow.data.toList.drop 0 = dktX19_pairsNow_0 := by decide +kernel
theorem dksX19_pairsNow_1 : cX19_pairsNow.data.toList.drop 24 = dktX19_pairsNow_1 := dk_seg dksX19_pairsNow_0 24 rfl rfl
theorem dksX19_pairsNow_2 : cX19_pairsNow.data.toList.drop 48 = dktX19_pairsNow_2 := dk_seg dksX19_pairsNow_1 24 rfl rfl
theorem dX19_pairsNow_0 : decode cX19_pairsNow 0 = .ok (.aload_n 0, 1) := dk_42 (dk_at dksX19_pairsNow_0 0 rfl rfl)
theorem dX19_pairsNow_1 : decode cX19_pairsNow 1 = .ok (.invokevirtual 458, 3) := dk_182 1 202 (dk_at dksX19_pairsNow_0 1 rfl rfl)
theorem dX19_pairsNow_4 : decode cX19_pairsNow 4 = .ok (.iconst 0, 1) := dk_3 (dk_at dksX19_pairsNow_0 4 rfl rfl)
theorem dX19_pairsNow_5 : decode cX19_pairsNow 5 = .ok (.istore_n 1, 1) := dk_60 (dk_at dksX19_pairsNow_0 5 rfl rfl)
theorem dX19_pairsNow_6 : decode cX19_pairsNow 6 = .ok (.iconst 0, 1) := dk_3 (dk_at dksX19_pairsNow_0 6 rfl rfl)
theorem dX19_pairsNow_7 : decode cX19_pairsNow 7 = .ok (.istore_n 2, 1) := dk_61 (dk_at dksX19_pairsNow_0 7 rfl rfl)
theorem dX19_pairsNow_8 : decode cX19_pairsNow 8 = .ok (.iload_n 2, 1) := dk_28 (dk_at dksX19_pairsNow_0 8 rfl rfl)
theorem dX19_pairsNow_9 : decode cX19_pairsNow 9 = .ok (.aload_n 0, 1) := dk_42 (dk_at dksX19_pairsNow_0 9 rfl rfl)
theorem dX19_pairsNow_10 : decode cX19_pairsNow 10 = .ok (.getfield 356, 3) := dk_180 1 100 (dk_at dksX19_pairsNow_0 10 rfl rfl)
theorem dX19_pairsNow_13 : decode cX19_pairsNow 13 = .ok (.if_icmp .ge 23, 3) := dk_162 0 23 (dk_at dksX19_pairsNow_0 13 rfl rfl)
theorem dX19_pairsNow_16 : decode cX19_pairsNow 16 = .ok (.aload_n 0, 1) := dk_42 (dk_at dksX19_pairsNow_0 16 rfl rfl)
theorem dX19_pairsNow_17 : decode cX19_pairsNow 17 = .ok (.getfield 49, 3) := dk_180 0 49 (dk_at dksX19_pairsNow_0 17 rfl rfl)
theorem dX19_pairsNow_20 : decode cX19_pairsNow 20 = .ok (.iload_n 2, 1) := dk_28 (dk_at dksX19_pairsNow_0 20 rfl rfl)
theorem dX19_pairsNow_21 : decode cX19_pairsNow 21 = .ok (.iconst (-1), 1) := dk_2 (dk_at dksX19_pairsNow_0 21 rfl rfl)
theorem dX19_pairsNow_22 : decode cX19_pairsNow 22 = .ok (.iastore, 1) := dk_79 (dk_at dksX19_pairsNow_0 22 rfl rfl)
theorem dX19_pairsNow_23 : decode cX19_pairsNow 23 = .ok (.aload_n 0, 1) := dk_42 (dk_at dksX19_pairsNow_0 23 rfl rfl)
theorem dX19_pairsNow_24 : decode cX19_pairsNow 24 = .ok (.getfield 58, 3) := dk_180 0 58 (dk_at dksX19_pairsNow_1 0 rfl rfl)
theorem dX19_pairsNow_27 : decode cX19_pairsNow 27 = .ok (.iload_n 2, 1) := dk_28 (dk_at dksX19_pairsNow_1 3 rfl rfl)
theorem dX19_pairsNow_28 : decode cX19_pairsNow 28 = .ok (.iconst 0, 1) := dk_3 (dk_at dksX19_pairsNow_1 4 rfl rfl)
theorem dX19_pairsNow_29 : decode cX19_pairsNow 29 = .ok (.bastore, 1) := dk_84 (dk_at dksX19_pairsNow_1 5 rfl rfl)
theorem dX19_pairsNow_30 : decode cX19_pairsNow 30 = .ok (.iinc 2 1, 3) := dk_132 2 1 (dk_at dksX19_pairsNow_1 6 rfl rfl)
theorem dX19_pairsNow_33 : decode cX19_pairsNow 33 = .ok (.goto (-25), 3) := dk_167 255 231 (dk_at dksX19_pairsNow_1 9 rfl rfl)
theorem dX19_pairsNow_36 : decode cX19_pairsNow 36 = .ok (.iconst 0, 1) := dk_3 (dk_at dksX19_pairsNow_1 12 rfl rfl)
theorem dX19_pairsNow_37 : decode cX19_pairsNow 37 = .ok (.istore_n 2, 1) := dk_61 (dk_at dksX19_pairsNow_1 13 rfl rfl)
theorem dX19_pairsNow_38 : decode cX19_pairsNow 38 = .ok (.iload_n 2, 1) := dk_28 (dk_at dksX19_pairsNow_1 14 rfl rfl)
theorem dX19_pairsNow_39 : decode cX19_pairsNow 39 = .ok (.aload_n 0, 1) := dk_42 (dk_at dksX19_pairsNow_1 15 rfl rfl)
theorem dX19_pairsNow_40 : decode cX19_pairsNow 40 = .ok (.getfield 356, 3) := dk_180 1 100 (dk_at dksX19_pairsNow_1 16 rfl rfl)
theorem dX19_pairsNow_43 : decode cX19_pairsNow 43 = .ok (.if_icmp .ge 27, 3) := dk_162 0 27 (dk_at dksX19_pairsNow_1 19 rfl rfl)
theorem dX19_pairsNow_46 : decode cX19_pairsNow 46 = .ok (.iload_n 1, 1) := dk_27 (dk_at dksX19_pairsNow_1 22 rfl rfl)
theorem dX19_pairsNow_47 : decode cX19_pairsNow 47 = .ok (.aload_n 0, 1) := dk_42 (dk_at dksX19_pairsNow_1 23 rfl rfl)
theorem dX19_pairsNow_48 : decode cX19_pairsNow 48 = .ok (.iload_n 2, 1) := dk_28 (dk_at dksX19_pairsNow_2 0 rfl rfl)
theorem dX19_pairsNow_49 : decode cX19_pairsNow 49 = .ok (.iconst 0, 1) := dk_3 (dk_at dksX19_pairsNow_2 1 rfl rfl)
theorem dX19_pairsNow_50 : decode cX19_pairsNow 50 = .ok (.iconst (-1), 1) := dk_2 (dk_at dksX19_pairsNow_2 2 rfl rfl)
theorem dX19_pairsNow_51 : decode cX19_pairsNow 51 = .ok (.invokevirtual 485, 3) := dk_182 1 229 (dk_at dksX19_pairsNow_2 3 rfl rfl)
theorem dX19_pairsNow_54 : decode cX19_pairsNow 54 = .ok (.ifCond .eq 7, 3) := dk_153 0 7 (dk_at dksX19_pairsNow_2 6 rfl rfl)
theorem dX19_pairsNow_57 : decode cX19_pairsNow 57 = .ok (.iconst 1, 1) := dk_4 (dk_at dksX19_pairsNow_2 9 rfl rfl)
theorem dX19_pairsNow_58 : decode cX19_pairsNow 58 = .ok (.goto 4, 3) := dk_167 0 4 (dk_at dksX19_pairsNow_2 10 rfl rfl)
theorem dX19_pairsNow_61 : decode cX19_pairsNow 61 = .ok (.iconst 0, 1) := dk_3 (dk_at dksX19_pairsNow_2 13 rfl rfl)
theorem dX19_pairsNow_62 : decode cX19_pairsNow 62 = .ok (.iadd, 1) := dk_96 (dk_at dksX19_pairsNow_2 14 rfl rfl)
theorem dX19_pairsNow_63 : decode cX19_pairsNow 63 = .ok (.istore_n 1, 1) := dk_60 (dk_at dksX19_pairsNow_2 15 rfl rfl)
theorem dX19_pairsNow_64 : decode cX19_pairsNow 64 = .ok (.iinc 2 1, 3) := dk_132 2 1 (dk_at dksX19_pairsNow_2 16 rfl rfl)
theorem dX19_pairsNow_67 : decode cX19_pairsNow 67 = .ok (.goto (-29), 3) := dk_167 255 227 (dk_at dksX19_pairsNow_2 19 rfl rfl)
theorem dX19_pairsNow_70 : decode cX19_pairsNow 70 = .ok (.iload_n 1, 1) := dk_27 (dk_at dksX19_pairsNow_2 22 rfl rfl)
theorem dX19_pairsNow_71 : decode cX19_pairsNow 71 = .ok (.ireturn, 1) := dk_172 (dk_at dksX19_pairsNow_2 23 rfl rfl)
abbrev cX19_clearOwners : ByteArray := prog_23_method_85_code
def yX19_clearOwners : MethodName := ⟨RX19, "clearOwners", "()V"⟩
def dkwX19_clearOwners_0 : List UInt8 := [3, 60, 27, 18, 42, 162, 0, 16, 42, 180, 0, 43, 27, 2, 79, 132, 1, 1, 167, 255, 240, 177]
abbrev dktX19_clearOwners_0 : List UInt8 := dkwX19_clearOwners_0 ++ []
theorem dksX19_clearOwners_0 : cX19_clearOwners.data.toList.drop 0 = dktX19_clearOwners_0 := by decide +kernel
theorem dX19_clearOwners_0 : decode cX19_clearOwners 0 = .ok (.iconst 0, 1) := dk_3 (dk_at dksX19_clearOwners_0 0 rfl rfl)
theorem dX19_clearOwners_1 : decode cX19_clearOwners 1 = .ok (.istore_n 1, 1) := dk_60 (dk_at dksX19_clearOwners_0 1 rfl rfl)
theorem dX19_clearOwners_2 : decode cX19_clearOwners 2 = .ok (.iload_n 1, 1) := dk_27 (dk_at dksX19_clearOwners_0 2 rfl rfl)
theorem dX19_clearOwners_3 : decode cX19_clearOwners 3 = .ok (.ldc 42, 2) := dk_18 42 (dk_at dksX19_clearOwners_0 3 rfl rfl)
theorem dX19_clearOwners_5 : decode cX19_clearOwners 5 = .ok (.if_icmp .ge 16, 3) := dk_162 0 16 (dk_at dksX19_clearOwners_0 5 rfl rfl)
theorem dX19_clearOwners_8 : decode cX19_clearOwners 8 = .ok (.aload_n 0, 1) := dk_42 (dk_at dksX19_clearOwners_0 8 rfl rfl)
theorem dX19_clearOwners_9 : decode cX19_clearOwners 9 = .ok (.getfield 43, 3) := dk_180 0 43 (dk_at dksX19_clearOwners_0 9 rfl rfl)
theorem dX19_clearOwners_12 : decode cX19_clearOwners 12 = .ok (.iload_n 1, 1) := dk_27 (dk_at dksX19_clearOwners_0 12 rfl rfl)
theorem dX19_clearOwners_13 : decode cX19_clearOwners 13 = .ok (.iconst (-1), 1) := dk_2 (dk_at dksX19_clearOwners_0 13 rfl rfl)
theorem dX19_clearOwners_14 : decode cX19_clearOwners 14 = .ok (.iastore, 1) := dk_79 (dk_at dksX19_clearOwners_0 14 rfl rfl)
theorem dX19_clearOwners_15 : decode cX19_clearOwners 15 = .ok (.iinc 1 1, 3) := dk_132 1 1 (dk_at dksX19_clearOwners_0 15 rfl rfl)
theorem dX19_clearOwners_18 : decode cX19_clearOwners 18 = .ok (.goto (-16), 3) := dk_167 255 240 (dk_at dksX19_clearOwners_0 18 rfl rfl)
theorem dX19_clearOwners_21 : decode cX19_clearOwners 21 = .ok (.return_, 1) := dk_177 (dk_at dksX19_clearOwners_0 21 rfl rfl)
abbrev cX19_goesOnFrom : ByteArray := prog_23_method_96_code
def yX19_goesOnFrom : MethodName := ⟨RX19, "goesOnFrom", "(III)Z"⟩
def dkwX19_goesOnFrom_9 : List UInt8 := [46, 4, 84, 132, 5, 1, 167, 255, 229, 3, 172]
abbrev dktX19_goesOnFrom_9 : List UInt8 := dkwX19_goesOnFrom_9 ++ []
def dkwX19_goesOnFrom_8 : List UInt8 := [3, 54, 5, 21, 5, 21, 4, 162, 0, 26, 28, 154, 0, 22, 42, 180, 0, 58, 42, 180, 0, 52, 21, 5]
abbrev dktX19_goesOnFrom_8 : List UInt8 := dkwX19_goesOnFrom_8 ++ dktX19_goesOnFrom_9
def dkwX19_goesOnFrom_7 : List UInt8 := [42, 180, 0, 52, 21, 4, 21, 9, 79, 132, 4, 1, 132, 7, 1, 167, 255, 160, 132, 5, 1, 167, 255, 129]
abbrev dktX19_goesOnFrom_7 : List UInt8 := dkwX19_goesOnFrom_7 ++ dktX19_goesOnFrom_8
def dkwX19_goesOnFrom_6 : List UInt8 := [42, 180, 0, 55, 21, 9, 46, 16, 254, 159, 0, 6, 167, 0, 24, 42, 180, 0, 55, 21, 9, 21, 6, 79]
abbrev dktX19_goesOnFrom_6 : List UInt8 := dkwX19_goesOnFrom_6 ++ dktX19_goesOnFrom_7
def dkwX19_goesOnFrom_5 : List UInt8 := [54, 9, 21, 9, 2, 160, 0, 13, 42, 21, 6, 21, 8, 182, 1, 226, 4, 172, 21, 9, 28, 161, 0, 39]
abbrev dktX19_goesOnFrom_5 : List UInt8 := dkwX19_goesOnFrom_5 ++ dktX19_goesOnFrom_6
def dkwX19_goesOnFrom_4 : List UInt8 := [180, 0, 30, 21, 7, 46, 54, 8, 21, 8, 29, 160, 0, 6, 167, 0, 69, 42, 21, 8, 182, 1, 214]
abbrev dktX19_goesOnFrom_4 : List UInt8 := dkwX19_goesOnFrom_4 ++ dktX19_goesOnFrom_5
def dkwX19_goesOnFrom_3 : List UInt8 := [21, 5, 46, 54, 6, 42, 21, 6, 182, 1, 223, 3, 54, 7, 21, 7, 42, 180, 1, 144, 162, 0, 93, 42]
abbrev dktX19_goesOnFrom_3 : List UInt8 := dkwX19_goesOnFrom_3 ++ dktX19_goesOnFrom_4
def dkwX19_goesOnFrom_2 : List UInt8 := [3, 27, 79, 42, 180, 0, 55, 27, 2, 79, 3, 54, 5, 21, 5, 21, 4, 162, 0, 126, 42, 180, 0, 52]
abbrev dktX19_goesOnFrom_2 : List UInt8 := dkwX19_goesOnFrom_2 ++ dktX19_goesOnFrom_3
def dkwX19_goesOnFrom_1 : List UInt8 := [51, 153, 0, 7, 2, 167, 0, 5, 16, 254, 79, 132, 4, 1, 167, 255, 221, 4, 54, 4, 42, 180, 0, 52]
abbrev dktX19_goesOnFrom_1 : List UInt8 := dkwX19_goesOnFrom_1 ++ dktX19_goesOnFrom_2
def dkwX19_goesOnFrom_0 : List UInt8 := [3, 54, 4, 21, 4, 42, 180, 1, 100, 162, 0, 32, 42, 180, 0, 55, 21, 4, 42, 180, 0, 58, 21, 4]
abbrev dktX19_goesOnFrom_0 : List UInt8 := dkwX19_goesOnFrom_0 ++ dktX19_goesOnFrom_1
theorem dksX19_goesOnFrom_0 : cX19_goesOnFrom.data.toList.drop 0 = dktX19_goesOnFrom_0 := by decide +kernel
theorem dksX19_goesOnFrom_1 : cX19_goesOnFrom.data.toList.drop 24 = dktX19_goesOnFrom_1 := dk_seg dksX19_goesOnFrom_0 24 rfl rfl
theorem dksX19_goesOnFrom_2 : cX19_goesOnFrom.data.toList.drop 48 = dktX19_goesOnFrom_2 := dk_seg dksX19_goesOnFrom_1 24 rfl rfl
theorem dksX19_goesOnFrom_3 : cX19_goesOnFrom.data.toList.drop 72 = dktX19_goesOnFrom_3 := dk_seg dksX19_goesOnFrom_2 24 rfl rfl
theorem dksX19_goesOnFrom_4 : cX19_goesOnFrom.data.toList.drop 96 = dktX19_goesOnFrom_4 := dk_seg dksX19_goesOnFrom_3 24 rfl rfl
theorem dksX19_goesOnFrom_5 : cX19_goesOnFrom.data.toList.drop 119 = dktX19_goesOnFrom_5 := dk_seg dksX19_goesOnFrom_4 23 rfl rfl
theorem dksX19_goesOnFrom_6 : cX19_goesOnFrom.data.toList.drop 143 = dktX19_goesOnFrom_6 := dk_seg dksX19_goesOnFrom_5 24 rfl rfl
theorem dksX19_goesOnFrom_7 : cX19_goesOnFrom.data.toList.drop 167 = dktX19_goesOnFrom_7 := dk_seg dksX19_goesOnFrom_6 24 rfl rfl
theorem dksX19_goesOnFrom_8 : cX19_goesOnFrom.data.toList.drop 191 = dktX19_goesOnFrom_8 := dk_seg dksX19_goesOnFrom_7 24 rfl rfl
theorem dksX19_goesOnFrom_9 : cX19_goesOnFrom.data.toList.drop 215 = dktX19_goesOnFrom_9 := dk_seg dksX19_goesOnFrom_8 24 rfl rfl
theorem dX19_goesOnFrom_0 : decode cX19_goesOnFrom 0 = .ok (.iconst 0, 1) := dk_3 (dk_at dksX19_goesOnFrom_0 0 rfl rfl)
theorem dX19_goesOnFrom_1 : decode cX19_goesOnFrom 1 = .ok (.istore 4, 2) := dk_54 4 (dk_at dksX19_goesOnFrom_0 1 rfl rfl)
theorem dX19_goesOnFrom_3 : decode cX19_goesOnFrom 3 = .ok (.iload 4, 2) := dk_21 4 (dk_at dksX19_goesOnFrom_0 3 rfl rfl)
theorem dX19_goesOnFrom_5 : decode cX19_goesOnFrom 5 = .ok (.aload_n 0, 1) := dk_42 (dk_at dksX19_goesOnFrom_0 5 rfl rfl)
theorem dX19_goesOnFrom_6 : decode cX19_goesOnFrom 6 = .ok (.getfield 356, 3) := dk_180 1 100 (dk_at dksX19_goesOnFrom_0 6 rfl rfl)
theorem dX19_goesOnFrom_9 : decode cX19_goesOnFrom 9 = .ok (.if_icmp .ge 32, 3) := dk_162 0 32 (dk_at dksX19_goesOnFrom_0 9 rfl rfl)
theorem dX19_goesOnFrom_12 : decode cX19_goesOnFrom 12 = .ok (.aload_n 0, 1) := dk_42 (dk_at dksX19_goesOnFrom_0 12 rfl rfl)
theorem dX19_goesOnFrom_13 : decode cX19_goesOnFrom 13 = .ok (.getfield 55, 3) := dk_180 0 55 (dk_at dksX19_goesOnFrom_0 13 rfl rfl)
theorem dX19_goesOnFrom_16 : decode cX19_goesOnFrom 16 = .ok (.iload 4, 2) := dk_21 4 (dk_at dksX19_goesOnFrom_0 16 rfl rfl)
theorem dX19_goesOnFrom_18 : decode cX19_goesOnFrom 18 = .ok (.aload_n 0, 1) := dk_42 (dk_at dksX19_goesOnFrom_0 18 rfl rfl)
theorem dX19_goesOnFrom_19 : decode cX19_goesOnFrom 19 = .ok (.getfield 58, 3) := dk_180 0 58 (dk_at dksX19_goesOnFrom_0 19 rfl rfl)
theorem dX19_goesOnFrom_22 : decode cX19_goesOnFrom 22 = .ok (.iload 4, 2) := dk_21 4 (dk_at dksX19_goesOnFrom_0 22 rfl rfl)
theorem dX19_goesOnFrom_24 : decode cX19_goesOnFrom 24 = .ok (.baload, 1) := dk_51 (dk_at dksX19_goesOnFrom_1 0 rfl rfl)
theorem dX19_goesOnFrom_25 : decode cX19_goesOnFrom 25 = .ok (.ifCond .eq 7, 3) := dk_153 0 7 (dk_at dksX19_goesOnFrom_1 1 rfl rfl)
theorem dX19_goesOnFrom_28 : decode cX19_goesOnFrom 28 = .ok (.iconst (-1), 1) := dk_2 (dk_at dksX19_goesOnFrom_1 4 rfl rfl)
theorem dX19_goesOnFrom_29 : decode cX19_goesOnFrom 29 = .ok (.goto 5, 3) := dk_167 0 5 (dk_at dksX19_goesOnFrom_1 5 rfl rfl)
theorem dX19_goesOnFrom_32 : decode cX19_goesOnFrom 32 = .ok (.bipush (-2), 2) := dk_16 254 (dk_at dksX19_goesOnFrom_1 8 rfl rfl)
theorem dX19_goesOnFrom_34 : decode cX19_goesOnFrom 34 = .ok (.iastore, 1) := dk_79 (dk_at dksX19_goesOnFrom_1 10 rfl rfl)
theorem dX19_goesOnFrom_35 : decode cX19_goesOnFrom 35 = .ok (.iinc 4 1, 3) := dk_132 4 1 (dk_at dksX19_goesOnFrom_1 11 rfl rfl)
theorem dX19_goesOnFrom_38 : decode cX19_goesOnFrom 38 = .ok (.goto (-35), 3) := dk_167 255 221 (dk_at dksX19_goesOnFrom_1 14 rfl rfl)
theorem dX19_goesOnFrom_41 : decode cX19_goesOnFrom 41 = .ok (.iconst 1, 1) := dk_4 (dk_at dksX19_goesOnFrom_1 17 rfl rfl)
theorem dX19_goesOnFrom_42 : decode cX19_goesOnFrom 42 = .ok (.istore 4, 2) := dk_54 4 (dk_at dksX19_goesOnFrom_1 18 rfl rfl)
theorem dX19_goesOnFrom_44 : decode cX19_goesOnFrom 44 = .ok (.aload_n 0, 1) := dk_42 (dk_at dksX19_goesOnFrom_1 20 rfl rfl)
theorem dX19_goesOnFrom_45 : decode cX19_goesOnFrom 45 = .ok (.getfield 52, 3) := dk_180 0 52 (dk_at dksX19_goesOnFrom_1 21 rfl rfl)
theorem dX19_goesOnFrom_48 : decode cX19_goesOnFrom 48 = .ok (.iconst 0, 1) := dk_3 (dk_at dksX19_goesOnFrom_2 0 rfl rfl)
theorem dX19_goesOnFrom_49 : decode cX19_goesOnFrom 49 = .ok (.iload_n 1, 1) := dk_27 (dk_at dksX19_goesOnFrom_2 1 rfl rfl)
theorem dX19_goesOnFrom_50 : decode cX19_goesOnFrom 50 = .ok (.iastore, 1) := dk_79 (dk_at dksX19_goesOnFrom_2 2 rfl rfl)
theorem dX19_goesOnFrom_51 : decode cX19_goesOnFrom 51 = .ok (.aload_n 0, 1) := dk_42 (dk_at dksX19_goesOnFrom_2 3 rfl rfl)
theorem dX19_goesOnFrom_52 : decode cX19_goesOnFrom 52 = .ok (.getfield 55, 3) := dk_180 0 55 (dk_at dksX19_goesOnFrom_2 4 rfl rfl)
theorem dX19_goesOnFrom_55 : decode cX19_goesOnFrom 55 = .ok (.iload_n 1, 1) := dk_27 (dk_at dksX19_goesOnFrom_2 7 rfl rfl)
theorem dX19_goesOnFrom_56 : decode cX19_goesOnFrom 56 = .ok (.iconst (-1), 1) := dk_2 (dk_at dksX19_goesOnFrom_2 8 rfl rfl)
theorem dX19_goesOnFrom_57 : decode cX19_goesOnFrom 57 = .ok (.iastore, 1) := dk_79 (dk_at dksX19_goesOnFrom_2 9 rfl rfl)
theorem dX19_goesOnFrom_58 : decode cX19_goesOnFrom 58 = .ok (.iconst 0, 1) := dk_3 (dk_at dksX19_goesOnFrom_2 10 rfl rfl)
theorem dX19_goesOnFrom_59 : decode cX19_goesOnFrom 59 = .ok (.istore 5, 2) := dk_54 5 (dk_at dksX19_goesOnFrom_2 11 rfl rfl)
theorem dX19_goesOnFrom_61 : decode cX19_goesOnFrom 61 = .ok (.iload 5, 2) := dk_21 5 (dk_at dksX19_goesOnFrom_2 13 rfl rfl)
theorem dX19_goesOnFrom_63 : decode cX19_goesOnFrom 63 = .ok (.iload 4, 2) := dk_21 4 (dk_at dksX19_goesOnFrom_2 15 rfl rfl)
theorem dX19_goesOnFrom_65 : decode cX19_goesOnFrom 65 = .ok (.if_icmp .ge 126, 3) := dk_162 0 126 (dk_at dksX19_goesOnFrom_2 17 rfl rfl)
theorem dX19_goesOnFrom_68 : decode cX19_goesOnFrom 68 = .ok (.aload_n 0, 1) := dk_42 (dk_at dksX19_goesOnFrom_2 20 rfl rfl)
theorem dX19_goesOnFrom_69 : decode cX19_goesOnFrom 69 = .ok (.getfield 52, 3) := dk_180 0 52 (dk_at dksX19_goesOnFrom_2 21 rfl rfl)
theorem dX19_goesOnFrom_72 : decode cX19_goesOnFrom 72 = .ok (.iload 5, 2) := dk_21 5 (dk_at dksX19_goesOnFrom_3 0 rfl rfl)
theorem dX19_goesOnFrom_74 : decode cX19_goesOnFrom 74 = .ok (.iaload, 1) := dk_46 (dk_at dksX19_goesOnFrom_3 2 rfl rfl)
theorem dX19_goesOnFrom_75 : decode cX19_goesOnFrom 75 = .ok (.istore 6, 2) := dk_54 6 (dk_at dksX19_goesOnFrom_3 3 rfl rfl)
theorem dX19_goesOnFrom_77 : decode cX19_goesOnFrom 77 = .ok (.aload_n 0, 1) := dk_42 (dk_at dksX19_goesOnFrom_3 5 rfl rfl)
theorem dX19_goesOnFrom_78 : decode cX19_goesOnFrom 78 = .ok (.iload 6, 2) := dk_21 6 (dk_at dksX19_goesOnFrom_3 6 rfl rfl)
theorem dX19_goesOnFrom_80 : decode cX19_goesOnFrom 80 = .ok (.invokevirtual 479, 3) := dk_182 1 223 (dk_at dksX19_goesOnFrom_3 8 rfl rfl)
theorem dX19_goesOnFrom_83 : decode cX19_goesOnFrom 83 = .ok (.iconst 0, 1) := dk_3 (dk_at dksX19_goesOnFrom_3 11 rfl rfl)
theorem dX19_goesOnFrom_84 : decode cX19_goesOnFrom 84 = .ok (.istore 7, 2) := dk_54 7 (dk_at dksX19_goesOnFrom_3 12 rfl rfl)
theorem dX19_goesOnFrom_86 : decode cX19_goesOnFrom 86 = .ok (.iload 7, 2) := dk_21 7 (dk_at dksX19_goesOnFrom_3 14 rfl rfl)
theorem dX19_goesOnFrom_88 : decode cX19_goesOnFrom 88 = .ok (.aload_n 0, 1) := dk_42 (dk_at dksX19_goesOnFrom_3 16 rfl rfl)
theorem dX19_goesOnFrom_89 : decode cX19_goesOnFrom 89 = .ok (.getfield 400, 3) := dk_180 1 144 (dk_at dksX19_goesOnFrom_3 17 rfl rfl)
theorem dX19_goesOnFrom_92 : decode cX19_goesOnFrom 92 = .ok (.if_icmp .ge 93, 3) := dk_162 0 93 (dk_at dksX19_goesOnFrom_3 20 rfl rfl)
theorem dX19_goesOnFrom_95 : decode cX19_goesOnFrom 95 = .ok (.aload_n 0, 1) := dk_42 (dk_at dksX19_goesOnFrom_3 23 rfl rfl)
theorem dX19_goesOnFrom_96 : decode cX19_goesOnFrom 96 = .ok (.getfield 30, 3) := dk_180 0 30 (dk_at dksX19_goesOnFrom_4 0 rfl rfl)
theorem dX19_goesOnFrom_99 : decode cX19_goesOnFrom 99 = .ok (.iload 7, 2) := dk_21 7 (dk_at dksX19_goesOnFrom_4 3 rfl rfl)
theorem dX19_goesOnFrom_101 : decode cX19_goesOnFrom 101 = .ok (.iaload, 1) := dk_46 (dk_at dksX19_goesOnFrom_4 5 rfl rfl)
theorem dX19_goesOnFrom_102 : decode cX19_goesOnFrom 102 = .ok (.istore 8, 2) := dk_54 8 (dk_at dksX19_goesOnFrom_4 6 rfl rfl)
theorem dX19_goesOnFrom_104 : decode cX19_goesOnFrom 104 = .ok (.iload 8, 2) := dk_21 8 (dk_at dksX19_goesOnFrom_4 8 rfl rfl)
theorem dX19_goesOnFrom_106 : decode cX19_goesOnFrom 106 = .ok (.iload_n 3, 1) := dk_29 (dk_at dksX19_goesOnFrom_4 10 rfl rfl)
theorem dX19_goesOnFrom_107 : decode cX19_goesOnFrom 107 = .ok (.if_icmp .ne 6, 3) := dk_160 0 6 (dk_at dksX19_goesOnFrom_4 11 rfl rfl)
theorem dX19_goesOnFrom_110 : decode cX19_goesOnFrom 110 = .ok (.goto 69, 3) := dk_167 0 69 (dk_at dksX19_goesOnFrom_4 14 rfl rfl)
theorem dX19_goesOnFrom_113 : decode cX19_goesOnFrom 113 = .ok (.aload_n 0, 1) := dk_42 (dk_at dksX19_goesOnFrom_4 17 rfl rfl)
theorem dX19_goesOnFrom_114 : decode cX19_goesOnFrom 114 = .ok (.iload 8, 2) := dk_21 8 (dk_at dksX19_goesOnFrom_4 18 rfl rfl)
theorem dX19_goesOnFrom_116 : decode cX19_goesOnFrom 116 = .ok (.invokevirtual 470, 3) := dk_182 1 214 (dk_at dksX19_goesOnFrom_4 20 rfl rfl)
theorem dX19_goesOnFrom_119 : decode cX19_goesOnFrom 119 = .ok (.istore 9, 2) := dk_54 9 (dk_at dksX19_goesOnFrom_5 0 rfl rfl)
theorem dX19_goesOnFrom_121 : decode cX19_goesOnFrom 121 = .ok (.iload 9, 2) := dk_21 9 (dk_at dksX19_goesOnFrom_5 2 rfl rfl)
theorem dX19_goesOnFrom_123 : decode cX19_goesOnFrom 123 = .ok (.iconst (-1), 1) := dk_2 (dk_at dksX19_goesOnFrom_5 4 rfl rfl)
theorem dX19_goesOnFrom_124 : decode cX19_goesOnFrom 124 = .ok (.if_icmp .ne 13, 3) := dk_160 0 13 (dk_at dksX19_goesOnFrom_5 5 rfl rfl)
theorem dX19_goesOnFrom_127 : decode cX19_goesOnFrom 127 = .ok (.aload_n 0, 1) := dk_42 (dk_at dksX19_goesOnFrom_5 8 rfl rfl)
theorem dX19_goesOnFrom_128 : decode cX19_goesOnFrom 128 = .ok (.iload 6, 2) := dk_21 6 (dk_at dksX19_goesOnFrom_5 9 rfl rfl)
theorem dX19_goesOnFrom_130 : decode cX19_goesOnFrom 130 = .ok (.iload 8, 2) := dk_21 8 (dk_at dksX19_goesOnFrom_5 11 rfl rfl)
theorem dX19_goesOnFrom_132 : decode cX19_goesOnFrom 132 = .ok (.invokevirtual 482, 3) := dk_182 1 226 (dk_at dksX19_goesOnFrom_5 13 rfl rfl)
theorem dX19_goesOnFrom_135 : decode cX19_goesOnFrom 135 = .ok (.iconst 1, 1) := dk_4 (dk_at dksX19_goesOnFrom_5 16 rfl rfl)
theorem dX19_goesOnFrom_136 : decode cX19_goesOnFrom 136 = .ok (.ireturn, 1) := dk_172 (dk_at dksX19_goesOnFrom_5 17 rfl rfl)
theorem dX19_goesOnFrom_137 : decode cX19_goesOnFrom 137 = .ok (.iload 9, 2) := dk_21 9 (dk_at dksX19_goesOnFrom_5 18 rfl rfl)
theorem dX19_goesOnFrom_139 : decode cX19_goesOnFrom 139 = .ok (.iload_n 2, 1) := dk_28 (dk_at dksX19_goesOnFrom_5 20 rfl rfl)
theorem dX19_goesOnFrom_140 : decode cX19_goesOnFrom 140 = .ok (.if_icmp .lt 39, 3) := dk_161 0 39 (dk_at dksX19_goesOnFrom_5 21 rfl rfl)
theorem dX19_goesOnFrom_143 : decode cX19_goesOnFrom 143 = .ok (.aload_n 0, 1) := dk_42 (dk_at dksX19_goesOnFrom_6 0 rfl rfl)
theorem dX19_goesOnFrom_144 : decode cX19_goesOnFrom 144 = .ok (.getfield 55, 3) := dk_180 0 55 (dk_at dksX19_goesOnFrom_6 1 rfl rfl)
theorem dX19_goesOnFrom_147 : decode cX19_goesOnFrom 147 = .ok (.iload 9, 2) := dk_21 9 (dk_at dksX19_goesOnFrom_6 4 rfl rfl)
theorem dX19_goesOnFrom_149 : decode cX19_goesOnFrom 149 = .ok (.iaload, 1) := dk_46 (dk_at dksX19_goesOnFrom_6 6 rfl rfl)
theorem dX19_goesOnFrom_150 : decode cX19_goesOnFrom 150 = .ok (.bipush (-2), 2) := dk_16 254 (dk_at dksX19_goesOnFrom_6 7 rfl rfl)
theorem dX19_goesOnFrom_152 : decode cX19_goesOnFrom 152 = .ok (.if_icmp .eq 6, 3) := dk_159 0 6 (dk_at dksX19_goesOnFrom_6 9 rfl rfl)
theorem dX19_goesOnFrom_155 : decode cX19_goesOnFrom 155 = .ok (.goto 24, 3) := dk_167 0 24 (dk_at dksX19_goesOnFrom_6 12 rfl rfl)
theorem dX19_goesOnFrom_158 : decode cX19_goesOnFrom 158 = .ok (.aload_n 0, 1) := dk_42 (dk_at dksX19_goesOnFrom_6 15 rfl rfl)
theorem dX19_goesOnFrom_159 : decode cX19_goesOnFrom 159 = .ok (.getfield 55, 3) := dk_180 0 55 (dk_at dksX19_goesOnFrom_6 16 rfl rfl)
theorem dX19_goesOnFrom_162 : decode cX19_goesOnFrom 162 = .ok (.iload 9, 2) := dk_21 9 (dk_at dksX19_goesOnFrom_6 19 rfl rfl)
theorem dX19_goesOnFrom_164 : decode cX19_goesOnFrom 164 = .ok (.iload 6, 2) := dk_21 6 (dk_at dksX19_goesOnFrom_6 21 rfl rfl)
theorem dX19_goesOnFrom_166 : decode cX19_goesOnFrom 166 = .ok (.iastore, 1) := dk_79 (dk_at dksX19_goesOnFrom_6 23 rfl rfl)
theorem dX19_goesOnFrom_167 : decode cX19_goesOnFrom 167 = .ok (.aload_n 0, 1) := dk_42 (dk_at dksX19_goesOnFrom_7 0 rfl rfl)
theorem dX19_goesOnFrom_168 : decode cX19_goesOnFrom 168 = .ok (.getfield 52, 3) := dk_180 0 52 (dk_at dksX19_goesOnFrom_7 1 rfl rfl)
theorem dX19_goesOnFrom_171 : decode cX19_goesOnFrom 171 = .ok (.iload 4, 2) := dk_21 4 (dk_at dksX19_goesOnFrom_7 4 rfl rfl)
theorem dX19_goesOnFrom_173 : decode cX19_goesOnFrom 173 = .ok (.iload 9, 2) := dk_21 9 (dk_at dksX19_goesOnFrom_7 6 rfl rfl)
theorem dX19_goesOnFrom_175 : decode cX19_goesOnFrom 175 = .ok (.iastore, 1) := dk_79 (dk_at dksX19_goesOnFrom_7 8 rfl rfl)
theorem dX19_goesOnFrom_176 : decode cX19_goesOnFrom 176 = .ok (.iinc 4 1, 3) := dk_132 4 1 (dk_at dksX19_goesOnFrom_7 9 rfl rfl)
theorem dX19_goesOnFrom_179 : decode cX19_goesOnFrom 179 = .ok (.iinc 7 1, 3) := dk_132 7 1 (dk_at dksX19_goesOnFrom_7 12 rfl rfl)
theorem dX19_goesOnFrom_182 : decode cX19_goesOnFrom 182 = .ok (.goto (-96), 3) := dk_167 255 160 (dk_at dksX19_goesOnFrom_7 15 rfl rfl)
theorem dX19_goesOnFrom_185 : decode cX19_goesOnFrom 185 = .ok (.iinc 5 1, 3) := dk_132 5 1 (dk_at dksX19_goesOnFrom_7 18 rfl rfl)
theorem dX19_goesOnFrom_188 : decode cX19_goesOnFrom 188 = .ok (.goto (-127), 3) := dk_167 255 129 (dk_at dksX19_goesOnFrom_7 21 rfl rfl)
theorem dX19_goesOnFrom_191 : decode cX19_goesOnFrom 191 = .ok (.iconst 0, 1) := dk_3 (dk_at dksX19_goesOnFrom_8 0 rfl rfl)
theorem dX19_goesOnFrom_192 : decode cX19_goesOnFrom 192 = .ok (.istore 5, 2) := dk_54 5 (dk_at dksX19_goesOnFrom_8 1 rfl rfl)
theorem dX19_goesOnFrom_194 : decode cX19_goesOnFrom 194 = .ok (.iload 5, 2) := dk_21 5 (dk_at dksX19_goesOnFrom_8 3 rfl rfl)
theorem dX19_goesOnFrom_196 : decode cX19_goesOnFrom 196 = .ok (.iload 4, 2) := dk_21 4 (dk_at dksX19_goesOnFrom_8 5 rfl rfl)
theorem dX19_goesOnFrom_198 : decode cX19_goesOnFrom 198 = .ok (.if_icmp .ge 26, 3) := dk_162 0 26 (dk_at dksX19_goesOnFrom_8 7 rfl rfl)
theorem dX19_goesOnFrom_201 : decode cX19_goesOnFrom 201 = .ok (.iload_n 2, 1) := dk_28 (dk_at dksX19_goesOnFrom_8 10 rfl rfl)
theorem dX19_goesOnFrom_202 : decode cX19_goesOnFrom 202 = .ok (.ifCond .ne 22, 3) := dk_154 0 22 (dk_at dksX19_goesOnFrom_8 11 rfl rfl)
theorem dX19_goesOnFrom_205 : decode cX19_goesOnFrom 205 = .ok (.aload_n 0, 1) := dk_42 (dk_at dksX19_goesOnFrom_8 14 rfl rfl)
theorem dX19_goesOnFrom_206 : decode cX19_goesOnFrom 206 = .ok (.getfield 58, 3) := dk_180 0 58 (dk_at dksX19_goesOnFrom_8 15 rfl rfl)
theorem dX19_goesOnFrom_209 : decode cX19_goesOnFrom 209 = .ok (.aload_n 0, 1) := dk_42 (dk_at dksX19_goesOnFrom_8 18 rfl rfl)
theorem dX19_goesOnFrom_210 : decode cX19_goesOnFrom 210 = .ok (.getfield 52, 3) := dk_180 0 52 (dk_at dksX19_goesOnFrom_8 19 rfl rfl)
theorem dX19_goesOnFrom_213 : decode cX19_goesOnFrom 213 = .ok (.iload 5, 2) := dk_21 5 (dk_at dksX19_goesOnFrom_8 22 rfl rfl)
theorem dX19_goesOnFrom_215 : decode cX19_goesOnFrom 215 = .ok (.iaload, 1) := dk_46 (dk_at dksX19_goesOnFrom_9 0 rfl rfl)
theorem dX19_goesOnFrom_216 : decode cX19_goesOnFrom 216 = .ok (.iconst 1, 1) := dk_4 (dk_at dksX19_goesOnFrom_9 1 rfl rfl)
theorem dX19_goesOnFrom_217 : decode cX19_goesOnFrom 217 = .ok (.bastore, 1) := dk_84 (dk_at dksX19_goesOnFrom_9 2 rfl rfl)
theorem dX19_goesOnFrom_218 : decode cX19_goesOnFrom 218 = .ok (.iinc 5 1, 3) := dk_132 5 1 (dk_at dksX19_goesOnFrom_9 3 rfl rfl)
theorem dX19_goesOnFrom_221 : decode cX19_goesOnFrom 221 = .ok (.goto (-27), 3) := dk_167 255 229 (dk_at dksX19_goesOnFrom_9 6 rfl rfl)
theorem dX19_goesOnFrom_224 : decode cX19_goesOnFrom 224 = .ok (.iconst 0, 1) := dk_3 (dk_at dksX19_goesOnFrom_9 9 rfl rfl)
theorem dX19_goesOnFrom_225 : decode cX19_goesOnFrom 225 = .ok (.ireturn, 1) := dk_172 (dk_at dksX19_goesOnFrom_9 10 rfl rfl)
abbrev cX19_fitsOf : ByteArray := prog_23_method_61_code
def yX19_fitsOf : MethodName := ⟨RX19, "fitsOf", "(I)V"⟩
def dkwX19_fitsOf_4 : List UInt8 := [167, 255, 171, 177]
abbrev dktX19_fitsOf_4 : List UInt8 := dkwX19_fitsOf_4 ++ []
def dkwX19_fitsOf_3 : List UInt8 := [42, 180, 0, 24, 3, 182, 1, 95, 42, 180, 1, 73, 182, 1, 98, 104, 182, 1, 147, 132, 2, 1]
abbrev dktX19_fitsOf_3 : List UInt8 := dkwX19_fitsOf_3 ++ dktX19_fitsOf_4
def dkwX19_fitsOf_2 : List UInt8 := [180, 1, 1, 4, 100, 29, 100, 104, 122, 16, 7, 126, 182, 1, 110, 79, 132, 3, 1, 167, 255, 208, 42, 42]
abbrev dktX19_fitsOf_2 : List UInt8 := dkwX19_fitsOf_2 ++ dktX19_fitsOf_3
def dkwX19_fitsOf_1 : List UInt8 := [180, 1, 1, 162, 0, 43, 42, 180, 0, 24, 29, 42, 27, 42, 180, 0, 33, 28, 46, 6, 42, 180, 1, 73]
abbrev dktX19_fitsOf_1 : List UInt8 := dkwX19_fitsOf_1 ++ dktX19_fitsOf_2
def dkwX19_fitsOf_0 : List UInt8 := [42, 3, 181, 1, 144, 3, 61, 28, 42, 180, 1, 141, 162, 0, 83, 3, 62, 29, 42, 180, 1, 73]
abbrev dktX19_fitsOf_0 : List UInt8 := dkwX19_fitsOf_0 ++ dktX19_fitsOf_1
theorem dksX19_fitsOf_0 : cX19_fitsOf.data.toList.drop 0 = dktX19_fitsOf_0 := by decide +kernel
theorem dksX19_fitsOf_1 : cX19_fitsOf.data.toList.drop 22 = dktX19_fitsOf_1 := dk_seg dksX19_fitsOf_0 22 rfl rfl
theorem dksX19_fitsOf_2 : cX19_fitsOf.data.toList.drop 46 = dktX19_fitsOf_2 := dk_seg dksX19_fitsOf_1 24 rfl rfl
theorem dksX19_fitsOf_3 : cX19_fitsOf.data.toList.drop 70 = dktX19_fitsOf_3 := dk_seg dksX19_fitsOf_2 24 rfl rfl
theorem dksX19_fitsOf_4 : cX19_fitsOf.data.toList.drop 92 = dktX19_fitsOf_4 := dk_seg dksX19_fitsOf_3 22 rfl rfl
theorem dX19_fitsOf_0 : decode cX19_fitsOf 0 = .ok (.aload_n 0, 1) := dk_42 (dk_at dksX19_fitsOf_0 0 rfl rfl)
theorem dX19_fitsOf_1 : decode cX19_fitsOf 1 = .ok (.iconst 0, 1) := dk_3 (dk_at dksX19_fitsOf_0 1 rfl rfl)
theorem dX19_fitsOf_2 : decode cX19_fitsOf 2 = .ok (.putfield 400, 3) := dk_181 1 144 (dk_at dksX19_fitsOf_0 2 rfl rfl)
theorem dX19_fitsOf_5 : decode cX19_fitsOf 5 = .ok (.iconst 0, 1) := dk_3 (dk_at dksX19_fitsOf_0 5 rfl rfl)
theorem dX19_fitsOf_6 : decode cX19_fitsOf 6 = .ok (.istore_n 2, 1) := dk_61 (dk_at dksX19_fitsOf_0 6 rfl rfl)
theorem dX19_fitsOf_7 : decode cX19_fitsOf 7 = .ok (.iload_n 2, 1) := dk_28 (dk_at dksX19_fitsOf_0 7 rfl rfl)
theorem dX19_fitsOf_8 : decode cX19_fitsOf 8 = .ok (.aload_n 0, 1) := dk_42 (dk_at dksX19_fitsOf_0 8 rfl rfl)
theorem dX19_fitsOf_9 : decode cX19_fitsOf 9 = .ok (.getfield 397, 3) := dk_180 1 141 (dk_at dksX19_fitsOf_0 9 rfl rfl)
theorem dX19_fitsOf_12 : decode cX19_fitsOf 12 = .ok (.if_icmp .ge 83, 3) := dk_162 0 83 (dk_at dksX19_fitsOf_0 12 rfl rfl)
theorem dX19_fitsOf_15 : decode cX19_fitsOf 15 = .ok (.iconst 0, 1) := dk_3 (dk_at dksX19_fitsOf_0 15 rfl rfl)
theorem dX19_fitsOf_16 : decode cX19_fitsOf 16 = .ok (.istore_n 3, 1) := dk_62 (dk_at dksX19_fitsOf_0 16 rfl rfl)
theorem dX19_fitsOf_17 : decode cX19_fitsOf 17 = .ok (.iload_n 3, 1) := dk_29 (dk_at dksX19_fitsOf_0 17 rfl rfl)
theorem dX19_fitsOf_18 : decode cX19_fitsOf 18 = .ok (.aload_n 0, 1) := dk_42 (dk_at dksX19_fitsOf_0 18 rfl rfl)
theorem dX19_fitsOf_19 : decode cX19_fitsOf 19 = .ok (.getfield 329, 3) := dk_180 1 73 (dk_at dksX19_fitsOf_0 19 rfl rfl)
theorem dX19_fitsOf_22 : decode cX19_fitsOf 22 = .ok (.getfield 257, 3) := dk_180 1 1 (dk_at dksX19_fitsOf_1 0 rfl rfl)
theorem dX19_fitsOf_25 : decode cX19_fitsOf 25 = .ok (.if_icmp .ge 43, 3) := dk_162 0 43 (dk_at dksX19_fitsOf_1 3 rfl rfl)
theorem dX19_fitsOf_28 : decode cX19_fitsOf 28 = .ok (.aload_n 0, 1) := dk_42 (dk_at dksX19_fitsOf_1 6 rfl rfl)
theorem dX19_fitsOf_29 : decode cX19_fitsOf 29 = .ok (.getfield 24, 3) := dk_180 0 24 (dk_at dksX19_fitsOf_1 7 rfl rfl)
theorem dX19_fitsOf_32 : decode cX19_fitsOf 32 = .ok (.iload_n 3, 1) := dk_29 (dk_at dksX19_fitsOf_1 10 rfl rfl)
theorem dX19_fitsOf_33 : decode cX19_fitsOf 33 = .ok (.aload_n 0, 1) := dk_42 (dk_at dksX19_fitsOf_1 11 rfl rfl)
theorem dX19_fitsOf_34 : decode cX19_fitsOf 34 = .ok (.iload_n 1, 1) := dk_27 (dk_at dksX19_fitsOf_1 12 rfl rfl)
theorem dX19_fitsOf_35 : decode cX19_fitsOf 35 = .ok (.aload_n 0, 1) := dk_42 (dk_at dksX19_fitsOf_1 13 rfl rfl)
theorem dX19_fitsOf_36 : decode cX19_fitsOf 36 = .ok (.getfield 33, 3) := dk_180 0 33 (dk_at dksX19_fitsOf_1 14 rfl rfl)
theorem dX19_fitsOf_39 : decode cX19_fitsOf 39 = .ok (.iload_n 2, 1) := dk_28 (dk_at dksX19_fitsOf_1 17 rfl rfl)
theorem dX19_fitsOf_40 : decode cX19_fitsOf 40 = .ok (.iaload, 1) := dk_46 (dk_at dksX19_fitsOf_1 18 rfl rfl)
theorem dX19_fitsOf_41 : decode cX19_fitsOf 41 = .ok (.iconst 3, 1) := dk_6 (dk_at dksX19_fitsOf_1 19 rfl rfl)
theorem dX19_fitsOf_42 : decode cX19_fitsOf 42 = .ok (.aload_n 0, 1) := dk_42 (dk_at dksX19_fitsOf_1 20 rfl rfl)
theorem dX19_fitsOf_43 : decode cX19_fitsOf 43 = .ok (.getfield 329, 3) := dk_180 1 73 (dk_at dksX19_fitsOf_1 21 rfl rfl)
theorem dX19_fitsOf_46 : decode cX19_fitsOf 46 = .ok (.getfield 257, 3) := dk_180 1 1 (dk_at dksX19_fitsOf_2 0 rfl rfl)
theorem dX19_fitsOf_49 : decode cX19_fitsOf 49 = .ok (.iconst 1, 1) := dk_4 (dk_at dksX19_fitsOf_2 3 rfl rfl)
theorem dX19_fitsOf_50 : decode cX19_fitsOf 50 = .ok (.isub, 1) := dk_100 (dk_at dksX19_fitsOf_2 4 rfl rfl)
theorem dX19_fitsOf_51 : decode cX19_fitsOf 51 = .ok (.iload_n 3, 1) := dk_29 (dk_at dksX19_fitsOf_2 5 rfl rfl)
theorem dX19_fitsOf_52 : decode cX19_fitsOf 52 = .ok (.isub, 1) := dk_100 (dk_at dksX19_fitsOf_2 6 rfl rfl)
theorem dX19_fitsOf_53 : decode cX19_fitsOf 53 = .ok (.imul, 1) := dk_104 (dk_at dksX19_fitsOf_2 7 rfl rfl)
theorem dX19_fitsOf_54 : decode cX19_fitsOf 54 = .ok (.ishr, 1) := dk_122 (dk_at dksX19_fitsOf_2 8 rfl rfl)
theorem dX19_fitsOf_55 : decode cX19_fitsOf 55 = .ok (.bipush 7, 2) := dk_16 7 (dk_at dksX19_fitsOf_2 9 rfl rfl)
theorem dX19_fitsOf_57 : decode cX19_fitsOf 57 = .ok (.iand, 1) := dk_126 (dk_at dksX19_fitsOf_2 11 rfl rfl)
theorem dX19_fitsOf_58 : decode cX19_fitsOf 58 = .ok (.invokevirtual 366, 3) := dk_182 1 110 (dk_at dksX19_fitsOf_2 12 rfl rfl)
theorem dX19_fitsOf_61 : decode cX19_fitsOf 61 = .ok (.iastore, 1) := dk_79 (dk_at dksX19_fitsOf_2 15 rfl rfl)
theorem dX19_fitsOf_62 : decode cX19_fitsOf 62 = .ok (.iinc 3 1, 3) := dk_132 3 1 (dk_at dksX19_fitsOf_2 16 rfl rfl)
theorem dX19_fitsOf_65 : decode cX19_fitsOf 65 = .ok (.goto (-48), 3) := dk_167 255 208 (dk_at dksX19_fitsOf_2 19 rfl rfl)
theorem dX19_fitsOf_68 : decode cX19_fitsOf 68 = .ok (.aload_n 0, 1) := dk_42 (dk_at dksX19_fitsOf_2 22 rfl rfl)
theorem dX19_fitsOf_69 : decode cX19_fitsOf 69 = .ok (.aload_n 0, 1) := dk_42 (dk_at dksX19_fitsOf_2 23 rfl rfl)
theorem dX19_fitsOf_70 : decode cX19_fitsOf 70 = .ok (.aload_n 0, 1) := dk_42 (dk_at dksX19_fitsOf_3 0 rfl rfl)
theorem dX19_fitsOf_71 : decode cX19_fitsOf 71 = .ok (.getfield 24, 3) := dk_180 0 24 (dk_at dksX19_fitsOf_3 1 rfl rfl)
theorem dX19_fitsOf_74 : decode cX19_fitsOf 74 = .ok (.iconst 0, 1) := dk_3 (dk_at dksX19_fitsOf_3 4 rfl rfl)
theorem dX19_fitsOf_75 : decode cX19_fitsOf 75 = .ok (.invokevirtual 351, 3) := dk_182 1 95 (dk_at dksX19_fitsOf_3 5 rfl rfl)
theorem dX19_fitsOf_78 : decode cX19_fitsOf 78 = .ok (.aload_n 0, 1) := dk_42 (dk_at dksX19_fitsOf_3 8 rfl rfl)
theorem dX19_fitsOf_79 : decode cX19_fitsOf 79 = .ok (.getfield 329, 3) := dk_180 1 73 (dk_at dksX19_fitsOf_3 9 rfl rfl)
theorem dX19_fitsOf_82 : decode cX19_fitsOf 82 = .ok (.invokevirtual 354, 3) := dk_182 1 98 (dk_at dksX19_fitsOf_3 12 rfl rfl)
theorem dX19_fitsOf_85 : decode cX19_fitsOf 85 = .ok (.imul, 1) := dk_104 (dk_at dksX19_fitsOf_3 15 rfl rfl)
theorem dX19_fitsOf_86 : decode cX19_fitsOf 86 = .ok (.invokevirtual 403, 3) := dk_182 1 147 (dk_at dksX19_fitsOf_3 16 rfl rfl)
theorem dX19_fitsOf_89 : decode cX19_fitsOf 89 = .ok (.iinc 2 1, 3) := dk_132 2 1 (dk_at dksX19_fitsOf_3 19 rfl rfl)
theorem dX19_fitsOf_92 : decode cX19_fitsOf 92 = .ok (.goto (-85), 3) := dk_167 255 171 (dk_at dksX19_fitsOf_4 0 rfl rfl)
theorem dX19_fitsOf_95 : decode cX19_fitsOf 95 = .ok (.return_, 1) := dk_177 (dk_at dksX19_fitsOf_4 3 rfl rfl)
abbrev cX19_puts : ByteArray := prog_23_method_62_code
def yX19_puts : MethodName := ⟨RX19, "puts", "(I)V"⟩
def dkwX19_puts_4 : List UInt8 := [167, 255, 234, 42, 89, 180, 1, 144, 28, 96, 181, 1, 144, 177]
abbrev dktX19_puts_4 : List UInt8 := dkwX19_puts_4 ++ []
def dkwX19_puts_3 : List UInt8 := [54, 4, 21, 4, 28, 162, 0, 22, 42, 180, 0, 30, 29, 21, 4, 96, 27, 21, 4, 96, 79, 132, 4, 1]
abbrev dktX19_puts_3 : List UInt8 := dkwX19_puts_3 ++ dktX19_puts_4
def dkwX19_puts_2 : List UInt8 := [42, 180, 0, 30, 29, 21, 4, 100, 46, 79, 132, 4, 1, 167, 255, 227, 29, 28, 100, 62, 167, 255, 201, 3]
abbrev dktX19_puts_2 : List UInt8 := dkwX19_puts_2 ++ dktX19_puts_3
def dkwX19_puts_1 : List UInt8 := [46, 27, 164, 0, 45, 4, 54, 4, 21, 4, 28, 163, 0, 29, 42, 180, 0, 30, 29, 21, 4, 100, 28, 96]
abbrev dktX19_puts_1 : List UInt8 := dkwX19_puts_1 ++ dktX19_puts_2
def dkwX19_puts_0 : List UInt8 := [42, 180, 1, 73, 182, 1, 98, 61, 42, 180, 1, 144, 62, 29, 158, 0, 57, 42, 180, 0, 30, 29, 4, 100]
abbrev dktX19_puts_0 : List UInt8 := dkwX19_puts_0 ++ dktX19_puts_1
theorem dksX19_puts_0 : cX19_puts.data.toList.drop 0 = dktX19_puts_0 := by decide +kernel
theorem dksX19_puts_1 : cX19_puts.data.toList.drop 24 = dktX19_puts_1 := dk_seg dksX19_puts_0 24 rfl rfl
theorem dksX19_puts_2 : cX19_puts.data.toList.drop 48 = dktX19_puts_2 := dk_seg dksX19_puts_1 24 rfl rfl
theorem dksX19_puts_3 : cX19_puts.data.toList.drop 72 = dktX19_puts_3 := dk_seg dksX19_puts_2 24 rfl rfl
theorem dksX19_puts_4 : cX19_puts.data.toList.drop 96 = dktX19_puts_4 := dk_seg dksX19_puts_3 24 rfl rfl
theorem dX19_puts_0 : decode cX19_puts 0 = .ok (.aload_n 0, 1) := dk_42 (dk_at dksX19_puts_0 0 rfl rfl)
theorem dX19_puts_1 : decode cX19_puts 1 = .ok (.getfield 329, 3) := dk_180 1 73 (dk_at dksX19_puts_0 1 rfl rfl)
theorem dX19_puts_4 : decode cX19_puts 4 = .ok (.invokevirtual 354, 3) := dk_182 1 98 (dk_at dksX19_puts_0 4 rfl rfl)
theorem dX19_puts_7 : decode cX19_puts 7 = .ok (.istore_n 2, 1) := dk_61 (dk_at dksX19_puts_0 7 rfl rfl)
theorem dX19_puts_8 : decode cX19_puts 8 = .ok (.aload_n 0, 1) := dk_42 (dk_at dksX19_puts_0 8 rfl rfl)
theorem dX19_puts_9 : decode cX19_puts 9 = .ok (.getfield 400, 3) := dk_180 1 144 (dk_at dksX19_puts_0 9 rfl rfl)
theorem dX19_puts_12 : decode cX19_puts 12 = .ok (.istore_n 3, 1) := dk_62 (dk_at dksX19_puts_0 12 rfl rfl)
theorem dX19_puts_13 : decode cX19_puts 13 = .ok (.iload_n 3, 1) := dk_29 (dk_at dksX19_puts_0 13 rfl rfl)
theorem dX19_puts_14 : decode cX19_puts 14 = .ok (.ifCond .le 57, 3) := dk_158 0 57 (dk_at dksX19_puts_0 14 rfl rfl)
theorem dX19_puts_17 : decode cX19_puts 17 = .ok (.aload_n 0, 1) := dk_42 (dk_at dksX19_puts_0 17 rfl rfl)
theorem dX19_puts_18 : decode cX19_puts 18 = .ok (.getfield 30, 3) := dk_180 0 30 (dk_at dksX19_puts_0 18 rfl rfl)
theorem dX19_puts_21 : decode cX19_puts 21 = .ok (.iload_n 3, 1) := dk_29 (dk_at dksX19_puts_0 21 rfl rfl)
theorem dX19_puts_22 : decode cX19_puts 22 = .ok (.iconst 1, 1) := dk_4 (dk_at dksX19_puts_0 22 rfl rfl)
theorem dX19_puts_23 : decode cX19_puts 23 = .ok (.isub, 1) := dk_100 (dk_at dksX19_puts_0 23 rfl rfl)
theorem dX19_puts_24 : decode cX19_puts 24 = .ok (.iaload, 1) := dk_46 (dk_at dksX19_puts_1 0 rfl rfl)
theorem dX19_puts_25 : decode cX19_puts 25 = .ok (.iload_n 1, 1) := dk_27 (dk_at dksX19_puts_1 1 rfl rfl)
theorem dX19_puts_26 : decode cX19_puts 26 = .ok (.if_icmp .le 45, 3) := dk_164 0 45 (dk_at dksX19_puts_1 2 rfl rfl)
theorem dX19_puts_29 : decode cX19_puts 29 = .ok (.iconst 1, 1) := dk_4 (dk_at dksX19_puts_1 5 rfl rfl)
theorem dX19_puts_30 : decode cX19_puts 30 = .ok (.istore 4, 2) := dk_54 4 (dk_at dksX19_puts_1 6 rfl rfl)
theorem dX19_puts_32 : decode cX19_puts 32 = .ok (.iload 4, 2) := dk_21 4 (dk_at dksX19_puts_1 8 rfl rfl)
theorem dX19_puts_34 : decode cX19_puts 34 = .ok (.iload_n 2, 1) := dk_28 (dk_at dksX19_puts_1 10 rfl rfl)
theorem dX19_puts_35 : decode cX19_puts 35 = .ok (.if_icmp .gt 29, 3) := dk_163 0 29 (dk_at dksX19_puts_1 11 rfl rfl)
theorem dX19_puts_38 : decode cX19_puts 38 = .ok (.aload_n 0, 1) := dk_42 (dk_at dksX19_puts_1 14 rfl rfl)
theorem dX19_puts_39 : decode cX19_puts 39 = .ok (.getfield 30, 3) := dk_180 0 30 (dk_at dksX19_puts_1 15 rfl rfl)
theorem dX19_puts_42 : decode cX19_puts 42 = .ok (.iload_n 3, 1) := dk_29 (dk_at dksX19_puts_1 18 rfl rfl)
theorem dX19_puts_43 : decode cX19_puts 43 = .ok (.iload 4, 2) := dk_21 4 (dk_at dksX19_puts_1 19 rfl rfl)
theorem dX19_puts_45 : decode cX19_puts 45 = .ok (.isub, 1) := dk_100 (dk_at dksX19_puts_1 21 rfl rfl)
theorem dX19_puts_46 : decode cX19_puts 46 = .ok (.iload_n 2, 1) := dk_28 (dk_at dksX19_puts_1 22 rfl rfl)
theorem dX19_puts_47 : decode cX19_puts 47 = .ok (.iadd, 1) := dk_96 (dk_at dksX19_puts_1 23 rfl rfl)
theorem dX19_puts_48 : decode cX19_puts 48 = .ok (.aload_n 0, 1) := dk_42 (dk_at dksX19_puts_2 0 rfl rfl)
theorem dX19_puts_49 : decode cX19_puts 49 = .ok (.getfield 30, 3) := dk_180 0 30 (dk_at dksX19_puts_2 1 rfl rfl)
theorem dX19_puts_52 : decode cX19_puts 52 = .ok (.iload_n 3, 1) := dk_29 (dk_at dksX19_puts_2 4 rfl rfl)
theorem dX19_puts_53 : decode cX19_puts 53 = .ok (.iload 4, 2) := dk_21 4 (dk_at dksX19_puts_2 5 rfl rfl)
theorem dX19_puts_55 : decode cX19_puts 55 = .ok (.isub, 1) := dk_100 (dk_at dksX19_puts_2 7 rfl rfl)
theorem dX19_puts_56 : decode cX19_puts 56 = .ok (.iaload, 1) := dk_46 (dk_at dksX19_puts_2 8 rfl rfl)
theorem dX19_puts_57 : decode cX19_puts 57 = .ok (.iastore, 1) := dk_79 (dk_at dksX19_puts_2 9 rfl rfl)
theorem dX19_puts_58 : decode cX19_puts 58 = .ok (.iinc 4 1, 3) := dk_132 4 1 (dk_at dksX19_puts_2 10 rfl rfl)
theorem dX19_puts_61 : decode cX19_puts 61 = .ok (.goto (-29), 3) := dk_167 255 227 (dk_at dksX19_puts_2 13 rfl rfl)
theorem dX19_puts_64 : decode cX19_puts 64 = .ok (.iload_n 3, 1) := dk_29 (dk_at dksX19_puts_2 16 rfl rfl)
theorem dX19_puts_65 : decode cX19_puts 65 = .ok (.iload_n 2, 1) := dk_28 (dk_at dksX19_puts_2 17 rfl rfl)
theorem dX19_puts_66 : decode cX19_puts 66 = .ok (.isub, 1) := dk_100 (dk_at dksX19_puts_2 18 rfl rfl)
theorem dX19_puts_67 : decode cX19_puts 67 = .ok (.istore_n 3, 1) := dk_62 (dk_at dksX19_puts_2 19 rfl rfl)
theorem dX19_puts_68 : decode cX19_puts 68 = .ok (.goto (-55), 3) := dk_167 255 201 (dk_at dksX19_puts_2 20 rfl rfl)
theorem dX19_puts_71 : decode cX19_puts 71 = .ok (.iconst 0, 1) := dk_3 (dk_at dksX19_puts_2 23 rfl rfl)
theorem dX19_puts_72 : decode cX19_puts 72 = .ok (.istore 4, 2) := dk_54 4 (dk_at dksX19_puts_3 0 rfl rfl)
theorem dX19_puts_74 : decode cX19_puts 74 = .ok (.iload 4, 2) := dk_21 4 (dk_at dksX19_puts_3 2 rfl rfl)
theorem dX19_puts_76 : decode cX19_puts 76 = .ok (.iload_n 2, 1) := dk_28 (dk_at dksX19_puts_3 4 rfl rfl)
theorem dX19_puts_77 : decode cX19_puts 77 = .ok (.if_icmp .ge 22, 3) := dk_162 0 22 (dk_at dksX19_puts_3 5 rfl rfl)
theorem dX19_puts_80 : decode cX19_puts 80 = .ok (.aload_n 0, 1) := dk_42 (dk_at dksX19_puts_3 8 rfl rfl)
theorem dX19_puts_81 : decode cX19_puts 81 = .ok (.getfield 30, 3) := dk_180 0 30 (dk_at dksX19_puts_3 9 rfl rfl)
theorem dX19_puts_84 : decode cX19_puts 84 = .ok (.iload_n 3, 1) := dk_29 (dk_at dksX19_puts_3 12 rfl rfl)
theorem dX19_puts_85 : decode cX19_puts 85 = .ok (.iload 4, 2) := dk_21 4 (dk_at dksX19_puts_3 13 rfl rfl)
theorem dX19_puts_87 : decode cX19_puts 87 = .ok (.iadd, 1) := dk_96 (dk_at dksX19_puts_3 15 rfl rfl)
theorem dX19_puts_88 : decode cX19_puts 88 = .ok (.iload_n 1, 1) := dk_27 (dk_at dksX19_puts_3 16 rfl rfl)
theorem dX19_puts_89 : decode cX19_puts 89 = .ok (.iload 4, 2) := dk_21 4 (dk_at dksX19_puts_3 17 rfl rfl)
theorem dX19_puts_91 : decode cX19_puts 91 = .ok (.iadd, 1) := dk_96 (dk_at dksX19_puts_3 19 rfl rfl)
theorem dX19_puts_92 : decode cX19_puts 92 = .ok (.iastore, 1) := dk_79 (dk_at dksX19_puts_3 20 rfl rfl)
theorem dX19_puts_93 : decode cX19_puts 93 = .ok (.iinc 4 1, 3) := dk_132 4 1 (dk_at dksX19_puts_3 21 rfl rfl)
theorem dX19_puts_96 : decode cX19_puts 96 = .ok (.goto (-22), 3) := dk_167 255 234 (dk_at dksX19_puts_4 0 rfl rfl)
theorem dX19_puts_99 : decode cX19_puts 99 = .ok (.aload_n 0, 1) := dk_42 (dk_at dksX19_puts_4 3 rfl rfl)
theorem dX19_puts_100 : decode cX19_puts 100 = .ok (.dup, 1) := dk_89 (dk_at dksX19_puts_4 4 rfl rfl)
theorem dX19_puts_101 : decode cX19_puts 101 = .ok (.getfield 400, 3) := dk_180 1 144 (dk_at dksX19_puts_4 5 rfl rfl)
theorem dX19_puts_104 : decode cX19_puts 104 = .ok (.iload_n 2, 1) := dk_28 (dk_at dksX19_puts_4 8 rfl rfl)
theorem dX19_puts_105 : decode cX19_puts 105 = .ok (.iadd, 1) := dk_96 (dk_at dksX19_puts_4 9 rfl rfl)
theorem dX19_puts_106 : decode cX19_puts 106 = .ok (.putfield 400, 3) := dk_181 1 144 (dk_at dksX19_puts_4 10 rfl rfl)
theorem dX19_puts_109 : decode cX19_puts 109 = .ok (.return_, 1) := dk_177 (dk_at dksX19_puts_4 13 rfl rfl)
abbrev cX19_ownerOf : ByteArray := prog_23_method_89_code
def yX19_ownerOf : MethodName := ⟨RX19, "ownerOf", "(I)I"⟩
def dkwX19_ownerOf_1 : List UInt8 := [28, 46, 172]
abbrev dktX19_ownerOf_1 : List UInt8 := dkwX19_ownerOf_1 ++ []
def dkwX19_ownerOf_0 : List UInt8 := [42, 27, 182, 1, 199, 61, 42, 180, 0, 43, 28, 46, 2, 160, 0, 7, 2, 167, 0, 9, 42, 180, 0, 46]
abbrev dktX19_ownerOf_0 : List UInt8 := dkwX19_ownerOf_0 ++ dktX19_ownerOf_1
theorem dksX19_ownerOf_0 : cX19_ownerOf.data.toList.drop 0 = dktX19_ownerOf_0 := by decide +kernel
theorem dksX19_ownerOf_1 : cX19_ownerOf.data.toList.drop 24 = dktX19_ownerOf_1 := dk_seg dksX19_ownerOf_0 24 rfl rfl
theorem dX19_ownerOf_0 : decode cX19_ownerOf 0 = .ok (.aload_n 0, 1) := dk_42 (dk_at dksX19_ownerOf_0 0 rfl rfl)
theorem dX19_ownerOf_1 : decode cX19_ownerOf 1 = .ok (.iload_n 1, 1) := dk_27 (dk_at dksX19_ownerOf_0 1 rfl rfl)
theorem dX19_ownerOf_2 : decode cX19_ownerOf 2 = .ok (.invokevirtual 455, 3) := dk_182 1 199 (dk_at dksX19_ownerOf_0 2 rfl rfl)
theorem dX19_ownerOf_5 : decode cX19_ownerOf 5 = .ok (.istore_n 2, 1) := dk_61 (dk_at dksX19_ownerOf_0 5 rfl rfl)
theorem dX19_ownerOf_6 : decode cX19_ownerOf 6 = .ok (.aload_n 0, 1) := dk_42 (dk_at dksX19_ownerOf_0 6 rfl rfl)
theorem dX19_ownerOf_7 : decode cX19_ownerOf 7 = .ok (.getfield 43, 3) := dk_180 0 43 (dk_at dksX19_ownerOf_0 7 rfl rfl)
theorem dX19_ownerOf_10 : decode cX19_ownerOf 10 = .ok (.iload_n 2, 1) := dk_28 (dk_at dksX19_ownerOf_0 10 rfl rfl)
theorem dX19_ownerOf_11 : decode cX19_ownerOf 11 = .ok (.iaload, 1) := dk_46 (dk_at dksX19_ownerOf_0 11 rfl rfl)
theorem dX19_ownerOf_12 : decode cX19_ownerOf 12 = .ok (.iconst (-1), 1) := dk_2 (dk_at dksX19_ownerOf_0 12 rfl rfl)
theorem dX19_ownerOf_13 : decode cX19_ownerOf 13 = .ok (.if_icmp .ne 7, 3) := dk_160 0 7 (dk_at dksX19_ownerOf_0 13 rfl rfl)
theorem dX19_ownerOf_16 : decode cX19_ownerOf 16 = .ok (.iconst (-1), 1) := dk_2 (dk_at dksX19_ownerOf_0 16 rfl rfl)
theorem dX19_ownerOf_17 : decode cX19_ownerOf 17 = .ok (.goto 9, 3) := dk_167 0 9 (dk_at dksX19_ownerOf_0 17 rfl rfl)
theorem dX19_ownerOf_20 : decode cX19_ownerOf 20 = .ok (.aload_n 0, 1) := dk_42 (dk_at dksX19_ownerOf_0 20 rfl rfl)
theorem dX19_ownerOf_21 : decode cX19_ownerOf 21 = .ok (.getfield 46, 3) := dk_180 0 46 (dk_at dksX19_ownerOf_0 21 rfl rfl)
theorem dX19_ownerOf_24 : decode cX19_ownerOf 24 = .ok (.iload_n 2, 1) := dk_28 (dk_at dksX19_ownerOf_1 0 rfl rfl)
theorem dX19_ownerOf_25 : decode cX19_ownerOf 25 = .ok (.iaload, 1) := dk_46 (dk_at dksX19_ownerOf_1 1 rfl rfl)
theorem dX19_ownerOf_26 : decode cX19_ownerOf 26 = .ok (.ireturn, 1) := dk_172 (dk_at dksX19_ownerOf_1 2 rfl rfl)
abbrev cX19_slot : ByteArray := prog_23_method_86_code
def yX19_slot : MethodName := ⟨RX19, "slot", "(I)I"⟩
def dkwX19_slot_1 : List UInt8 := [46, 27, 159, 0, 14, 28, 4, 96, 17, 127, 255, 126, 61, 167, 255, 228, 28, 172]
abbrev dktX19_slot_1 : List UInt8 := dkwX19_slot_1 ++ []
def dkwX19_slot_0 : List UInt8 := [27, 19, 1, 198, 104, 16, 17, 124, 61, 42, 180, 0, 43, 28, 46, 2, 159, 0, 24, 42, 180, 0, 43, 28]
abbrev dktX19_slot_0 : List UInt8 := dkwX19_slot_0 ++ dktX19_slot_1
theorem dksX19_slot_0 : cX19_slot.data.toList.drop 0 = dktX19_slot_0 := by decide +kernel
theorem dksX19_slot_1 : cX19_slot.data.toList.drop 24 = dktX19_slot_1 := dk_seg dksX19_slot_0 24 rfl rfl
theorem dX19_slot_0 : decode cX19_slot 0 = .ok (.iload_n 1, 1) := dk_27 (dk_at dksX19_slot_0 0 rfl rfl)
theorem dX19_slot_1 : decode cX19_slot 1 = .ok (.ldc_w 454, 3) := dk_19 1 198 (dk_at dksX19_slot_0 1 rfl rfl)
theorem dX19_slot_4 : decode cX19_slot 4 = .ok (.imul, 1) := dk_104 (dk_at dksX19_slot_0 4 rfl rfl)
theorem dX19_slot_5 : decode cX19_slot 5 = .ok (.bipush 17, 2) := dk_16 17 (dk_at dksX19_slot_0 5 rfl rfl)
theorem dX19_slot_7 : decode cX19_slot 7 = .ok (.iushr, 1) := dk_124 (dk_at dksX19_slot_0 7 rfl rfl)
theorem dX19_slot_8 : decode cX19_slot 8 = .ok (.istore_n 2, 1) := dk_61 (dk_at dksX19_slot_0 8 rfl rfl)
theorem dX19_slot_9 : decode cX19_slot 9 = .ok (.aload_n 0, 1) := dk_42 (dk_at dksX19_slot_0 9 rfl rfl)
theorem dX19_slot_10 : decode cX19_slot 10 = .ok (.getfield 43, 3) := dk_180 0 43 (dk_at dksX19_slot_0 10 rfl rfl)
theorem dX19_slot_13 : decode cX19_slot 13 = .ok (.iload_n 2, 1) := dk_28 (dk_at dksX19_slot_0 13 rfl rfl)
theorem dX19_slot_14 : decode cX19_slot 14 = .ok (.iaload, 1) := dk_46 (dk_at dksX19_slot_0 14 rfl rfl)
theorem dX19_slot_15 : decode cX19_slot 15 = .ok (.iconst (-1), 1) := dk_2 (dk_at dksX19_slot_0 15 rfl rfl)
theorem dX19_slot_16 : decode cX19_slot 16 = .ok (.if_icmp .eq 24, 3) := dk_159 0 24 (dk_at dksX19_slot_0 16 rfl rfl)
theorem dX19_slot_19 : decode cX19_slot 19 = .ok (.aload_n 0, 1) := dk_42 (dk_at dksX19_slot_0 19 rfl rfl)
theorem dX19_slot_20 : decode cX19_slot 20 = .ok (.getfield 43, 3) := dk_180 0 43 (dk_at dksX19_slot_0 20 rfl rfl)
theorem dX19_slot_23 : decode cX19_slot 23 = .ok (.iload_n 2, 1) := dk_28 (dk_at dksX19_slot_0 23 rfl rfl)
theorem dX19_slot_24 : decode cX19_slot 24 = .ok (.iaload, 1) := dk_46 (dk_at dksX19_slot_1 0 rfl rfl)
theorem dX19_slot_25 : decode cX19_slot 25 = .ok (.iload_n 1, 1) := dk_27 (dk_at dksX19_slot_1 1 rfl rfl)
theorem dX19_slot_26 : decode cX19_slot 26 = .ok (.if_icmp .eq 14, 3) := dk_159 0 14 (dk_at dksX19_slot_1 2 rfl rfl)
theorem dX19_slot_29 : decode cX19_slot 29 = .ok (.iload_n 2, 1) := dk_28 (dk_at dksX19_slot_1 5 rfl rfl)
theorem dX19_slot_30 : decode cX19_slot 30 = .ok (.iconst 1, 1) := dk_4 (dk_at dksX19_slot_1 6 rfl rfl)
theorem dX19_slot_31 : decode cX19_slot 31 = .ok (.iadd, 1) := dk_96 (dk_at dksX19_slot_1 7 rfl rfl)
theorem dX19_slot_32 : decode cX19_slot 32 = .ok (.sipush 32767, 3) := dk_17 127 255 (dk_at dksX19_slot_1 8 rfl rfl)
theorem dX19_slot_35 : decode cX19_slot 35 = .ok (.iand, 1) := dk_126 (dk_at dksX19_slot_1 11 rfl rfl)
theorem dX19_slot_36 : decode cX19_slot 36 = .ok (.istore_n 2, 1) := dk_61 (dk_at dksX19_slot_1 12 rfl rfl)
theorem dX19_slot_37 : decode cX19_slot 37 = .ok (.goto (-28), 3) := dk_167 255 228 (dk_at dksX19_slot_1 13 rfl rfl)
theorem dX19_slot_40 : decode cX19_slot 40 = .ok (.iload_n 2, 1) := dk_28 (dk_at dksX19_slot_1 16 rfl rfl)
theorem dX19_slot_41 : decode cX19_slot 41 = .ok (.ireturn, 1) := dk_172 (dk_at dksX19_slot_1 17 rfl rfl)
abbrev cX19_takes : ByteArray := prog_23_method_97_code
def yX19_takes : MethodName := ⟨RX19, "takes", "(II)V"⟩
def dkwX19_takes_2 : List UInt8 := [177]
abbrev dktX19_takes_2 : List UInt8 := dkwX19_takes_2 ++ []
def dkwX19_takes_1 : List UInt8 := [21, 4, 79, 42, 21, 4, 29, 182, 1, 205, 21, 5, 54, 4, 42, 180, 0, 55, 29, 46, 62, 167, 255, 217]
abbrev dktX19_takes_1 : List UInt8 := dkwX19_takes_1 ++ dktX19_takes_2
def dkwX19_takes_0 : List UInt8 := [27, 62, 28, 54, 4, 29, 2, 159, 0, 40, 42, 180, 0, 49, 29, 46, 54, 5, 42, 180, 0, 49, 29]
abbrev dktX19_takes_0 : List UInt8 := dkwX19_takes_0 ++ dktX19_takes_1
theorem dksX19_takes_0 : cX19_takes.data.toList.drop 0 = dktX19_takes_0 := by decide +kernel
theorem dksX19_takes_1 : cX19_takes.data.toList.drop 23 = dktX19_takes_1 := dk_seg dksX19_takes_0 23 rfl rfl
theorem dksX19_takes_2 : cX19_takes.data.toList.drop 47 = dktX19_takes_2 := dk_seg dksX19_takes_1 24 rfl rfl
theorem dX19_takes_0 : decode cX19_takes 0 = .ok (.iload_n 1, 1) := dk_27 (dk_at dksX19_takes_0 0 rfl rfl)
theorem dX19_takes_1 : decode cX19_takes 1 = .ok (.istore_n 3, 1) := dk_62 (dk_at dksX19_takes_0 1 rfl rfl)
theorem dX19_takes_2 : decode cX19_takes 2 = .ok (.iload_n 2, 1) := dk_28 (dk_at dksX19_takes_0 2 rfl rfl)
theorem dX19_takes_3 : decode cX19_takes 3 = .ok (.istore 4, 2) := dk_54 4 (dk_at dksX19_takes_0 3 rfl rfl)
theorem dX19_takes_5 : decode cX19_takes 5 = .ok (.iload_n 3, 1) := dk_29 (dk_at dksX19_takes_0 5 rfl rfl)
theorem dX19_takes_6 : decode cX19_takes 6 = .ok (.iconst (-1), 1) := dk_2 (dk_at dksX19_takes_0 6 rfl rfl)
theorem dX19_takes_7 : decode cX19_takes 7 = .ok (.if_icmp .eq 40, 3) := dk_159 0 40 (dk_at dksX19_takes_0 7 rfl rfl)
theorem dX19_takes_10 : decode cX19_takes 10 = .ok (.aload_n 0, 1) := dk_42 (dk_at dksX19_takes_0 10 rfl rfl)
theorem dX19_takes_11 : decode cX19_takes 11 = .ok (.getfield 49, 3) := dk_180 0 49 (dk_at dksX19_takes_0 11 rfl rfl)
theorem dX19_takes_14 : decode cX19_takes 14 = .ok (.iload_n 3, 1) := dk_29 (dk_at dksX19_takes_0 14 rfl rfl)
theorem dX19_takes_15 : decode cX19_takes 15 = .ok (.iaload, 1) := dk_46 (dk_at dksX19_takes_0 15 rfl rfl)
theorem dX19_takes_16 : decode cX19_takes 16 = .ok (.istore 5, 2) := dk_54 5 (dk_at dksX19_takes_0 16 rfl rfl)
theorem dX19_takes_18 : decode cX19_takes 18 = .ok (.aload_n 0, 1) := dk_42 (dk_at dksX19_takes_0 18 rfl rfl)
theorem dX19_takes_19 : decode cX19_takes 19 = .ok (.getfield 49, 3) := dk_180 0 49 (dk_at dksX19_takes_0 19 rfl rfl)
theorem dX19_takes_22 : decode cX19_takes 22 = .ok (.iload_n 3, 1) := dk_29 (dk_at dksX19_takes_0 22 rfl rfl)
theorem dX19_takes_23 : decode cX19_takes 23 = .ok (.iload 4, 2) := dk_21 4 (dk_at dksX19_takes_1 0 rfl rfl)
theorem dX19_takes_25 : decode cX19_takes 25 = .ok (.iastore, 1) := dk_79 (dk_at dksX19_takes_1 2 rfl rfl)
theorem dX19_takes_26 : decode cX19_takes 26 = .ok (.aload_n 0, 1) := dk_42 (dk_at dksX19_takes_1 3 rfl rfl)
theorem dX19_takes_27 : decode cX19_takes 27 = .ok (.iload 4, 2) := dk_21 4 (dk_at dksX19_takes_1 4 rfl rfl)
theorem dX19_takes_29 : decode cX19_takes 29 = .ok (.iload_n 3, 1) := dk_29 (dk_at dksX19_takes_1 6 rfl rfl)
theorem dX19_takes_30 : decode cX19_takes 30 = .ok (.invokevirtual 461, 3) := dk_182 1 205 (dk_at dksX19_takes_1 7 rfl rfl)
theorem dX19_takes_33 : decode cX19_takes 33 = .ok (.iload 5, 2) := dk_21 5 (dk_at dksX19_takes_1 10 rfl rfl)
theorem dX19_takes_35 : decode cX19_takes 35 = .ok (.istore 4, 2) := dk_54 4 (dk_at dksX19_takes_1 12 rfl rfl)
theorem dX19_takes_37 : decode cX19_takes 37 = .ok (.aload_n 0, 1) := dk_42 (dk_at dksX19_takes_1 14 rfl rfl)
theorem dX19_takes_38 : decode cX19_takes 38 = .ok (.getfield 55, 3) := dk_180 0 55 (dk_at dksX19_takes_1 15 rfl rfl)
theorem dX19_takes_41 : decode cX19_takes 41 = .ok (.iload_n 3, 1) := dk_29 (dk_at dksX19_takes_1 18 rfl rfl)
theorem dX19_takes_42 : decode cX19_takes 42 = .ok (.iaload, 1) := dk_46 (dk_at dksX19_takes_1 19 rfl rfl)
theorem dX19_takes_43 : decode cX19_takes 43 = .ok (.istore_n 3, 1) := dk_62 (dk_at dksX19_takes_1 20 rfl rfl)
theorem dX19_takes_44 : decode cX19_takes 44 = .ok (.goto (-39), 3) := dk_167 255 217 (dk_at dksX19_takes_1 21 rfl rfl)
theorem dX19_takes_47 : decode cX19_takes 47 = .ok (.return_, 1) := dk_177 (dk_at dksX19_takes_2 0 rfl rfl)
abbrev cX19_owns : ByteArray := prog_23_method_88_code
def yX19_owns : MethodName := ⟨RX19, "owns", "(II)V"⟩
def dkwX19_owns_0 : List UInt8 := [42, 27, 182, 1, 199, 62, 42, 180, 0, 43, 29, 27, 79, 42, 180, 0, 46, 29, 28, 79, 177]
abbrev dktX19_owns_0 : List UInt8 := dkwX19_owns_0 ++ []
theorem dksX19_owns_0 : cX19_owns.data.toList.drop 0 = dktX19_owns_0 := by decide +kernel
theorem dX19_owns_0 : decode cX19_owns 0 = .ok (.aload_n 0, 1) := dk_42 (dk_at dksX19_owns_0 0 rfl rfl)
theorem dX19_owns_1 : decode cX19_owns 1 = .ok (.iload_n 1, 1) := dk_27 (dk_at dksX19_owns_0 1 rfl rfl)
theorem dX19_owns_2 : decode cX19_owns 2 = .ok (.invokevirtual 455, 3) := dk_182 1 199 (dk_at dksX19_owns_0 2 rfl rfl)
theorem dX19_owns_5 : decode cX19_owns 5 = .ok (.istore_n 3, 1) := dk_62 (dk_at dksX19_owns_0 5 rfl rfl)
theorem dX19_owns_6 : decode cX19_owns 6 = .ok (.aload_n 0, 1) := dk_42 (dk_at dksX19_owns_0 6 rfl rfl)
theorem dX19_owns_7 : decode cX19_owns 7 = .ok (.getfield 43, 3) := dk_180 0 43 (dk_at dksX19_owns_0 7 rfl rfl)
theorem dX19_owns_10 : decode cX19_owns 10 = .ok (.iload_n 3, 1) := dk_29 (dk_at dksX19_owns_0 10 rfl rfl)
theorem dX19_owns_11 : decode cX19_owns 11 = .ok (.iload_n 1, 1) := dk_27 (dk_at dksX19_owns_0 11 rfl rfl)
theorem dX19_owns_12 : decode cX19_owns 12 = .ok (.iastore, 1) := dk_79 (dk_at dksX19_owns_0 12 rfl rfl)
theorem dX19_owns_13 : decode cX19_owns 13 = .ok (.aload_n 0, 1) := dk_42 (dk_at dksX19_owns_0 13 rfl rfl)
theorem dX19_owns_14 : decode cX19_owns 14 = .ok (.getfield 46, 3) := dk_180 0 46 (dk_at dksX19_owns_0 14 rfl rfl)
theorem dX19_owns_17 : decode cX19_owns 17 = .ok (.iload_n 3, 1) := dk_29 (dk_at dksX19_owns_0 17 rfl rfl)
theorem dX19_owns_18 : decode cX19_owns 18 = .ok (.iload_n 2, 1) := dk_28 (dk_at dksX19_owns_0 18 rfl rfl)
theorem dX19_owns_19 : decode cX19_owns 19 = .ok (.iastore, 1) := dk_79 (dk_at dksX19_owns_0 19 rfl rfl)
theorem dX19_owns_20 : decode cX19_owns 20 = .ok (.return_, 1) := dk_177 (dk_at dksX19_owns_0 20 rfl rfl)
abbrev cX19_settles : ByteArray := prog_23_method_101_code
def yX19_settles : MethodName := ⟨RX19, "settles", "(II)Z"⟩
def dkwX19_settles_3 : List UInt8 := [27, 28, 79, 42, 28, 27, 182, 1, 205, 4, 172]
abbrev dktX19_settles_3 : List UInt8 := dkwX19_settles_3 ++ []
def dkwX19_settles_2 : List UInt8 := [21, 4, 27, 4, 96, 28, 182, 1, 229, 154, 0, 11, 42, 29, 27, 182, 1, 205, 3, 172, 42, 180, 0, 49]
abbrev dktX19_settles_2 : List UInt8 := dkwX19_settles_2 ++ dktX19_settles_3
def dkwX19_settles_1 : List UInt8 := [159, 0, 11, 21, 4, 27, 162, 0, 5, 3, 172, 42, 29, 2, 182, 1, 205, 21, 4, 2, 159, 0, 24, 42]
abbrev dktX19_settles_1 : List UInt8 := dkwX19_settles_1 ++ dktX19_settles_2
def dkwX19_settles_0 : List UInt8 := [42, 180, 0, 49, 27, 46, 62, 28, 29, 160, 0, 5, 4, 172, 42, 28, 182, 1, 214, 54, 4, 21, 4, 2]
abbrev dktX19_settles_0 : List UInt8 := dkwX19_settles_0 ++ dktX19_settles_1
theorem dksX19_settles_0 : cX19_settles.data.toList.drop 0 = dktX19_settles_0 := by decide +kernel
theorem dksX19_settles_1 : cX19_settles.data.toList.drop 24 = dktX19_settles_1 := dk_seg dksX19_settles_0 24 rfl rfl
theorem dksX19_settles_2 : cX19_settles.data.toList.drop 48 = dktX19_settles_2 := dk_seg dksX19_settles_1 24 rfl rfl
theorem dksX19_settles_3 : cX19_settles.data.toList.drop 72 = dktX19_settles_3 := dk_seg dksX19_settles_2 24 rfl rfl
theorem dX19_settles_0 : decode cX19_settles 0 = .ok (.aload_n 0, 1) := dk_42 (dk_at dksX19_settles_0 0 rfl rfl)
theorem dX19_settles_1 : decode cX19_settles 1 = .ok (.getfield 49, 3) := dk_180 0 49 (dk_at dksX19_settles_0 1 rfl rfl)
theorem dX19_settles_4 : decode cX19_settles 4 = .ok (.iload_n 1, 1) := dk_27 (dk_at dksX19_settles_0 4 rfl rfl)
theorem dX19_settles_5 : decode cX19_settles 5 = .ok (.iaload, 1) := dk_46 (dk_at dksX19_settles_0 5 rfl rfl)
theorem dX19_settles_6 : decode cX19_settles 6 = .ok (.istore_n 3, 1) := dk_62 (dk_at dksX19_settles_0 6 rfl rfl)
theorem dX19_settles_7 : decode cX19_settles 7 = .ok (.iload_n 2, 1) := dk_28 (dk_at dksX19_settles_0 7 rfl rfl)
theorem dX19_settles_8 : decode cX19_settles 8 = .ok (.iload_n 3, 1) := dk_29 (dk_at dksX19_settles_0 8 rfl rfl)
theorem dX19_settles_9 : decode cX19_settles 9 = .ok (.if_icmp .ne 5, 3) := dk_160 0 5 (dk_at dksX19_settles_0 9 rfl rfl)
theorem dX19_settles_12 : decode cX19_settles 12 = .ok (.iconst 1, 1) := dk_4 (dk_at dksX19_settles_0 12 rfl rfl)
theorem dX19_settles_13 : decode cX19_settles 13 = .ok (.ireturn, 1) := dk_172 (dk_at dksX19_settles_0 13 rfl rfl)
theorem dX19_settles_14 : decode cX19_settles 14 = .ok (.aload_n 0, 1) := dk_42 (dk_at dksX19_settles_0 14 rfl rfl)
theorem dX19_settles_15 : decode cX19_settles 15 = .ok (.iload_n 2, 1) := dk_28 (dk_at dksX19_settles_0 15 rfl rfl)
theorem dX19_settles_16 : decode cX19_settles 16 = .ok (.invokevirtual 470, 3) := dk_182 1 214 (dk_at dksX19_settles_0 16 rfl rfl)
theorem dX19_settles_19 : decode cX19_settles 19 = .ok (.istore 4, 2) := dk_54 4 (dk_at dksX19_settles_0 19 rfl rfl)
theorem dX19_settles_21 : decode cX19_settles 21 = .ok (.iload 4, 2) := dk_21 4 (dk_at dksX19_settles_0 21 rfl rfl)
theorem dX19_settles_23 : decode cX19_settles 23 = .ok (.iconst (-1), 1) := dk_2 (dk_at dksX19_settles_0 23 rfl rfl)
theorem dX19_settles_24 : decode cX19_settles 24 = .ok (.if_icmp .eq 11, 3) := dk_159 0 11 (dk_at dksX19_settles_1 0 rfl rfl)
theorem dX19_settles_27 : decode cX19_settles 27 = .ok (.iload 4, 2) := dk_21 4 (dk_at dksX19_settles_1 3 rfl rfl)
theorem dX19_settles_29 : decode cX19_settles 29 = .ok (.iload_n 1, 1) := dk_27 (dk_at dksX19_settles_1 5 rfl rfl)
theorem dX19_settles_30 : decode cX19_settles 30 = .ok (.if_icmp .ge 5, 3) := dk_162 0 5 (dk_at dksX19_settles_1 6 rfl rfl)
theorem dX19_settles_33 : decode cX19_settles 33 = .ok (.iconst 0, 1) := dk_3 (dk_at dksX19_settles_1 9 rfl rfl)
theorem dX19_settles_34 : decode cX19_settles 34 = .ok (.ireturn, 1) := dk_172 (dk_at dksX19_settles_1 10 rfl rfl)
theorem dX19_settles_35 : decode cX19_settles 35 = .ok (.aload_n 0, 1) := dk_42 (dk_at dksX19_settles_1 11 rfl rfl)
theorem dX19_settles_36 : decode cX19_settles 36 = .ok (.iload_n 3, 1) := dk_29 (dk_at dksX19_settles_1 12 rfl rfl)
theorem dX19_settles_37 : decode cX19_settles 37 = .ok (.iconst (-1), 1) := dk_2 (dk_at dksX19_settles_1 13 rfl rfl)
theorem dX19_settles_38 : decode cX19_settles 38 = .ok (.invokevirtual 461, 3) := dk_182 1 205 (dk_at dksX19_settles_1 14 rfl rfl)
theorem dX19_settles_41 : decode cX19_settles 41 = .ok (.iload 4, 2) := dk_21 4 (dk_at dksX19_settles_1 17 rfl rfl)
theorem dX19_settles_43 : decode cX19_settles 43 = .ok (.iconst (-1), 1) := dk_2 (dk_at dksX19_settles_1 19 rfl rfl)
theorem dX19_settles_44 : decode cX19_settles 44 = .ok (.if_icmp .eq 24, 3) := dk_159 0 24 (dk_at dksX19_settles_1 20 rfl rfl)
theorem dX19_settles_47 : decode cX19_settles 47 = .ok (.aload_n 0, 1) := dk_42 (dk_at dksX19_settles_1 23 rfl rfl)
theorem dX19_settles_48 : decode cX19_settles 48 = .ok (.iload 4, 2) := dk_21 4 (dk_at dksX19_settles_2 0 rfl rfl)
theorem dX19_settles_50 : decode cX19_settles 50 = .ok (.iload_n 1, 1) := dk_27 (dk_at dksX19_settles_2 2 rfl rfl)
theorem dX19_settles_51 : decode cX19_settles 51 = .ok (.iconst 1, 1) := dk_4 (dk_at dksX19_settles_2 3 rfl rfl)
theorem dX19_settles_52 : decode cX19_settles 52 = .ok (.iadd, 1) := dk_96 (dk_at dksX19_settles_2 4 rfl rfl)
theorem dX19_settles_53 : decode cX19_settles 53 = .ok (.iload_n 2, 1) := dk_28 (dk_at dksX19_settles_2 5 rfl rfl)
theorem dX19_settles_54 : decode cX19_settles 54 = .ok (.invokevirtual 485, 3) := dk_182 1 229 (dk_at dksX19_settles_2 6 rfl rfl)
theorem dX19_settles_57 : decode cX19_settles 57 = .ok (.ifCond .ne 11, 3) := dk_154 0 11 (dk_at dksX19_settles_2 9 rfl rfl)
theorem dX19_settles_60 : decode cX19_settles 60 = .ok (.aload_n 0, 1) := dk_42 (dk_at dksX19_settles_2 12 rfl rfl)
theorem dX19_settles_61 : decode cX19_settles 61 = .ok (.iload_n 3, 1) := dk_29 (dk_at dksX19_settles_2 13 rfl rfl)
theorem dX19_settles_62 : decode cX19_settles 62 = .ok (.iload_n 1, 1) := dk_27 (dk_at dksX19_settles_2 14 rfl rfl)
theorem dX19_settles_63 : decode cX19_settles 63 = .ok (.invokevirtual 461, 3) := dk_182 1 205 (dk_at dksX19_settles_2 15 rfl rfl)
theorem dX19_settles_66 : decode cX19_settles 66 = .ok (.iconst 0, 1) := dk_3 (dk_at dksX19_settles_2 18 rfl rfl)
theorem dX19_settles_67 : decode cX19_settles 67 = .ok (.ireturn, 1) := dk_172 (dk_at dksX19_settles_2 19 rfl rfl)
theorem dX19_settles_68 : decode cX19_settles 68 = .ok (.aload_n 0, 1) := dk_42 (dk_at dksX19_settles_2 20 rfl rfl)
theorem dX19_settles_69 : decode cX19_settles 69 = .ok (.getfield 49, 3) := dk_180 0 49 (dk_at dksX19_settles_2 21 rfl rfl)
theorem dX19_settles_72 : decode cX19_settles 72 = .ok (.iload_n 1, 1) := dk_27 (dk_at dksX19_settles_3 0 rfl rfl)
theorem dX19_settles_73 : decode cX19_settles 73 = .ok (.iload_n 2, 1) := dk_28 (dk_at dksX19_settles_3 1 rfl rfl)
theorem dX19_settles_74 : decode cX19_settles 74 = .ok (.iastore, 1) := dk_79 (dk_at dksX19_settles_3 2 rfl rfl)
theorem dX19_settles_75 : decode cX19_settles 75 = .ok (.aload_n 0, 1) := dk_42 (dk_at dksX19_settles_3 3 rfl rfl)
theorem dX19_settles_76 : decode cX19_settles 76 = .ok (.iload_n 2, 1) := dk_28 (dk_at dksX19_settles_3 4 rfl rfl)
theorem dX19_settles_77 : decode cX19_settles 77 = .ok (.iload_n 1, 1) := dk_27 (dk_at dksX19_settles_3 5 rfl rfl)
theorem dX19_settles_78 : decode cX19_settles 78 = .ok (.invokevirtual 461, 3) := dk_182 1 205 (dk_at dksX19_settles_3 6 rfl rfl)
theorem dX19_settles_81 : decode cX19_settles 81 = .ok (.iconst 1, 1) := dk_4 (dk_at dksX19_settles_3 9 rfl rfl)
theorem dX19_settles_82 : decode cX19_settles 82 = .ok (.ireturn, 1) := dk_172 (dk_at dksX19_settles_3 10 rfl rfl)
abbrev cX19_kept : ByteArray := prog_23_method_72_code
def yX19_kept : MethodName := ⟨RX19, "kept", "(III)I"⟩
def dkwX19_kept_7 : List UInt8 := [182, 0, 96, 172, 132, 5, 1, 132, 6, 1, 167, 255, 163, 42, 4, 182, 0, 92, 172]
abbrev dktX19_kept_7 : List UInt8 := dkwX19_kept_7 ++ []
def dkwX19_kept_6 : List UInt8 := [132, 8, 1, 167, 255, 217, 21, 7, 154, 0, 6, 167, 0, 19, 21, 5, 29, 160, 0, 10, 42, 21, 6]
abbrev dktX19_kept_6 : List UInt8 := dkwX19_kept_6 ++ dktX19_kept_7
def dkwX19_kept_5 : List UInt8 := [21, 7, 153, 0, 19, 42, 180, 0, 24, 21, 8, 46, 21, 6, 159, 0, 7, 4, 167, 0, 4, 3, 54, 7]
abbrev dktX19_kept_5 : List UInt8 := dkwX19_kept_5 ++ dktX19_kept_6
def dkwX19_kept_4 : List UInt8 := [42, 28, 21, 6, 182, 1, 113, 54, 7, 3, 54, 8, 21, 8, 42, 180, 1, 73, 180, 1, 1, 162, 0, 33]
abbrev dktX19_kept_4 : List UInt8 := dkwX19_kept_4 ++ dktX19_kept_5
def dkwX19_kept_3 : List UInt8 := [180, 0, 24, 182, 1, 125, 3, 54, 5, 3, 54, 6, 21, 6, 42, 180, 1, 73, 180, 0, 194, 162, 0, 87]
abbrev dktX19_kept_3 : List UInt8 := dkwX19_kept_3 ++ dktX19_kept_4
def dkwX19_kept_2 : List UInt8 := [182, 1, 177, 54, 4, 21, 4, 16, 254, 160, 0, 10, 42, 16, 6, 182, 0, 92, 172, 42, 21, 4, 42]
abbrev dktX19_kept_2 : List UInt8 := dkwX19_kept_2 ++ dktX19_kept_3
def dkwX19_kept_1 : List UInt8 := [180, 1, 73, 180, 0, 255, 4, 100, 184, 0, 168, 154, 0, 9, 42, 4, 182, 0, 92, 172, 42, 27, 28]
abbrev dktX19_kept_1 : List UInt8 := dkwX19_kept_1 ++ dktX19_kept_2
def dkwX19_kept_0 : List UInt8 := [42, 3, 181, 0, 86, 42, 27, 182, 1, 174, 153, 0, 28, 42, 28, 182, 1, 119, 153, 0, 20, 29, 3, 42]
abbrev dktX19_kept_0 : List UInt8 := dkwX19_kept_0 ++ dktX19_kept_1
theorem dksX19_kept_0 : cX19_kept.data.toList.drop 0 = dktX19_kept_0 := by decide +kernel
theorem dksX19_kept_1 : cX19_kept.data.toList.drop 24 = dktX19_kept_1 := dk_seg dksX19_kept_0 24 rfl rfl
theorem dksX19_kept_2 : cX19_kept.data.toList.drop 47 = dktX19_kept_2 := dk_seg dksX19_kept_1 23 rfl rfl
theorem dksX19_kept_3 : cX19_kept.data.toList.drop 70 = dktX19_kept_3 := dk_seg dksX19_kept_2 23 rfl rfl
theorem dksX19_kept_4 : cX19_kept.data.toList.drop 94 = dktX19_kept_4 := dk_seg dksX19_kept_3 24 rfl rfl
theorem dksX19_kept_5 : cX19_kept.data.toList.drop 118 = dktX19_kept_5 := dk_seg dksX19_kept_4 24 rfl rfl
theorem dksX19_kept_6 : cX19_kept.data.toList.drop 142 = dktX19_kept_6 := dk_seg dksX19_kept_5 24 rfl rfl
theorem dksX19_kept_7 : cX19_kept.data.toList.drop 165 = dktX19_kept_7 := dk_seg dksX19_kept_6 23 rfl rfl
theorem dX19_kept_0 : decode cX19_kept 0 = .ok (.aload_n 0, 1) := dk_42 (dk_at dksX19_kept_0 0 rfl rfl)
theorem dX19_kept_1 : decode cX19_kept 1 = .ok (.iconst 0, 1) := dk_3 (dk_at dksX19_kept_0 1 rfl rfl)
theorem dX19_kept_2 : decode cX19_kept 2 = .ok (.putfield 86, 3) := dk_181 0 86 (dk_at dksX19_kept_0 2 rfl rfl)
theorem dX19_kept_5 : decode cX19_kept 5 = .ok (.aload_n 0, 1) := dk_42 (dk_at dksX19_kept_0 5 rfl rfl)
theorem dX19_kept_6 : decode cX19_kept 6 = .ok (.iload_n 1, 1) := dk_27 (dk_at dksX19_kept_0 6 rfl rfl)
theorem dX19_kept_7 : decode cX19_kept 7 = .ok (.invokevirtual 430, 3) := dk_182 1 174 (dk_at dksX19_kept_0 7 rfl rfl)
theorem dX19_kept_10 : decode cX19_kept 10 = .ok (.ifCond .eq 28, 3) := dk_153 0 28 (dk_at dksX19_kept_0 10 rfl rfl)
theorem dX19_kept_13 : decode cX19_kept 13 = .ok (.aload_n 0, 1) := dk_42 (dk_at dksX19_kept_0 13 rfl rfl)
theorem dX19_kept_14 : decode cX19_kept 14 = .ok (.iload_n 2, 1) := dk_28 (dk_at dksX19_kept_0 14 rfl rfl)
theorem dX19_kept_15 : decode cX19_kept 15 = .ok (.invokevirtual 375, 3) := dk_182 1 119 (dk_at dksX19_kept_0 15 rfl rfl)
theorem dX19_kept_18 : decode cX19_kept 18 = .ok (.ifCond .eq 20, 3) := dk_153 0 20 (dk_at dksX19_kept_0 18 rfl rfl)
theorem dX19_kept_21 : decode cX19_kept 21 = .ok (.iload_n 3, 1) := dk_29 (dk_at dksX19_kept_0 21 rfl rfl)
theorem dX19_kept_22 : decode cX19_kept 22 = .ok (.iconst 0, 1) := dk_3 (dk_at dksX19_kept_0 22 rfl rfl)
theorem dX19_kept_23 : decode cX19_kept 23 = .ok (.aload_n 0, 1) := dk_42 (dk_at dksX19_kept_0 23 rfl rfl)
theorem dX19_kept_24 : decode cX19_kept 24 = .ok (.getfield 329, 3) := dk_180 1 73 (dk_at dksX19_kept_1 0 rfl rfl)
theorem dX19_kept_27 : decode cX19_kept 27 = .ok (.getfield 255, 3) := dk_180 0 255 (dk_at dksX19_kept_1 3 rfl rfl)
theorem dX19_kept_30 : decode cX19_kept 30 = .ok (.iconst 1, 1) := dk_4 (dk_at dksX19_kept_1 6 rfl rfl)
theorem dX19_kept_31 : decode cX19_kept 31 = .ok (.isub, 1) := dk_100 (dk_at dksX19_kept_1 7 rfl rfl)
theorem dX19_kept_32 : decode cX19_kept 32 = .ok (.invokestatic 168, 3) := dk_184 0 168 (dk_at dksX19_kept_1 8 rfl rfl)
theorem dX19_kept_35 : decode cX19_kept 35 = .ok (.ifCond .ne 9, 3) := dk_154 0 9 (dk_at dksX19_kept_1 11 rfl rfl)
theorem dX19_kept_38 : decode cX19_kept 38 = .ok (.aload_n 0, 1) := dk_42 (dk_at dksX19_kept_1 14 rfl rfl)
theorem dX19_kept_39 : decode cX19_kept 39 = .ok (.iconst 1, 1) := dk_4 (dk_at dksX19_kept_1 15 rfl rfl)
theorem dX19_kept_40 : decode cX19_kept 40 = .ok (.invokevirtual 92, 3) := dk_182 0 92 (dk_at dksX19_kept_1 16 rfl rfl)
theorem dX19_kept_43 : decode cX19_kept 43 = .ok (.ireturn, 1) := dk_172 (dk_at dksX19_kept_1 19 rfl rfl)
theorem dX19_kept_44 : decode cX19_kept 44 = .ok (.aload_n 0, 1) := dk_42 (dk_at dksX19_kept_1 20 rfl rfl)
theorem dX19_kept_45 : decode cX19_kept 45 = .ok (.iload_n 1, 1) := dk_27 (dk_at dksX19_kept_1 21 rfl rfl)
theorem dX19_kept_46 : decode cX19_kept 46 = .ok (.iload_n 2, 1) := dk_28 (dk_at dksX19_kept_1 22 rfl rfl)
theorem dX19_kept_47 : decode cX19_kept 47 = .ok (.invokevirtual 433, 3) := dk_182 1 177 (dk_at dksX19_kept_2 0 rfl rfl)
theorem dX19_kept_50 : decode cX19_kept 50 = .ok (.istore 4, 2) := dk_54 4 (dk_at dksX19_kept_2 3 rfl rfl)
theorem dX19_kept_52 : decode cX19_kept 52 = .ok (.iload 4, 2) := dk_21 4 (dk_at dksX19_kept_2 5 rfl rfl)
theorem dX19_kept_54 : decode cX19_kept 54 = .ok (.bipush (-2), 2) := dk_16 254 (dk_at dksX19_kept_2 7 rfl rfl)
theorem dX19_kept_56 : decode cX19_kept 56 = .ok (.if_icmp .ne 10, 3) := dk_160 0 10 (dk_at dksX19_kept_2 9 rfl rfl)
theorem dX19_kept_59 : decode cX19_kept 59 = .ok (.aload_n 0, 1) := dk_42 (dk_at dksX19_kept_2 12 rfl rfl)
theorem dX19_kept_60 : decode cX19_kept 60 = .ok (.bipush 6, 2) := dk_16 6 (dk_at dksX19_kept_2 13 rfl rfl)
theorem dX19_kept_62 : decode cX19_kept 62 = .ok (.invokevirtual 92, 3) := dk_182 0 92 (dk_at dksX19_kept_2 15 rfl rfl)
theorem dX19_kept_65 : decode cX19_kept 65 = .ok (.ireturn, 1) := dk_172 (dk_at dksX19_kept_2 18 rfl rfl)
theorem dX19_kept_66 : decode cX19_kept 66 = .ok (.aload_n 0, 1) := dk_42 (dk_at dksX19_kept_2 19 rfl rfl)
theorem dX19_kept_67 : decode cX19_kept 67 = .ok (.iload 4, 2) := dk_21 4 (dk_at dksX19_kept_2 20 rfl rfl)
theorem dX19_kept_69 : decode cX19_kept 69 = .ok (.aload_n 0, 1) := dk_42 (dk_at dksX19_kept_2 22 rfl rfl)
theorem dX19_kept_70 : decode cX19_kept 70 = .ok (.getfield 24, 3) := dk_180 0 24 (dk_at dksX19_kept_3 0 rfl rfl)
theorem dX19_kept_73 : decode cX19_kept 73 = .ok (.invokevirtual 381, 3) := dk_182 1 125 (dk_at dksX19_kept_3 3 rfl rfl)
theorem dX19_kept_76 : decode cX19_kept 76 = .ok (.iconst 0, 1) := dk_3 (dk_at dksX19_kept_3 6 rfl rfl)
theorem dX19_kept_77 : decode cX19_kept 77 = .ok (.istore 5, 2) := dk_54 5 (dk_at dksX19_kept_3 7 rfl rfl)
theorem dX19_kept_79 : decode cX19_kept 79 = .ok (.iconst 0, 1) := dk_3 (dk_at dksX19_kept_3 9 rfl rfl)
theorem dX19_kept_80 : decode cX19_kept 80 = .ok (.istore 6, 2) := dk_54 6 (dk_at dksX19_kept_3 10 rfl rfl)
theorem dX19_kept_82 : decode cX19_kept 82 = .ok (.iload 6, 2) := dk_21 6 (dk_at dksX19_kept_3 12 rfl rfl)
theorem dX19_kept_84 : decode cX19_kept 84 = .ok (.aload_n 0, 1) := dk_42 (dk_at dksX19_kept_3 14 rfl rfl)
theorem dX19_kept_85 : decode cX19_kept 85 = .ok (.getfield 329, 3) := dk_180 1 73 (dk_at dksX19_kept_3 15 rfl rfl)
theorem dX19_kept_88 : decode cX19_kept 88 = .ok (.getfield 194, 3) := dk_180 0 194 (dk_at dksX19_kept_3 18 rfl rfl)
theorem dX19_kept_91 : decode cX19_kept 91 = .ok (.if_icmp .ge 87, 3) := dk_162 0 87 (dk_at dksX19_kept_3 21 rfl rfl)
theorem dX19_kept_94 : decode cX19_kept 94 = .ok (.aload_n 0, 1) := dk_42 (dk_at dksX19_kept_4 0 rfl rfl)
theorem dX19_kept_95 : decode cX19_kept 95 = .ok (.iload_n 2, 1) := dk_28 (dk_at dksX19_kept_4 1 rfl rfl)
theorem dX19_kept_96 : decode cX19_kept 96 = .ok (.iload 6, 2) := dk_21 6 (dk_at dksX19_kept_4 2 rfl rfl)
theorem dX19_kept_98 : decode cX19_kept 98 = .ok (.invokevirtual 369, 3) := dk_182 1 113 (dk_at dksX19_kept_4 4 rfl rfl)
theorem dX19_kept_101 : decode cX19_kept 101 = .ok (.istore 7, 2) := dk_54 7 (dk_at dksX19_kept_4 7 rfl rfl)
theorem dX19_kept_103 : decode cX19_kept 103 = .ok (.iconst 0, 1) := dk_3 (dk_at dksX19_kept_4 9 rfl rfl)
theorem dX19_kept_104 : decode cX19_kept 104 = .ok (.istore 8, 2) := dk_54 8 (dk_at dksX19_kept_4 10 rfl rfl)
theorem dX19_kept_106 : decode cX19_kept 106 = .ok (.iload 8, 2) := dk_21 8 (dk_at dksX19_kept_4 12 rfl rfl)
theorem dX19_kept_108 : decode cX19_kept 108 = .ok (.aload_n 0, 1) := dk_42 (dk_at dksX19_kept_4 14 rfl rfl)
theorem dX19_kept_109 : decode cX19_kept 109 = .ok (.getfield 329, 3) := dk_180 1 73 (dk_at dksX19_kept_4 15 rfl rfl)
theorem dX19_kept_112 : decode cX19_kept 112 = .ok (.getfield 257, 3) := dk_180 1 1 (dk_at dksX19_kept_4 18 rfl rfl)
theorem dX19_kept_115 : decode cX19_kept 115 = .ok (.if_icmp .ge 33, 3) := dk_162 0 33 (dk_at dksX19_kept_4 21 rfl rfl)
theorem dX19_kept_118 : decode cX19_kept 118 = .ok (.iload 7, 2) := dk_21 7 (dk_at dksX19_kept_5 0 rfl rfl)
theorem dX19_kept_120 : decode cX19_kept 120 = .ok (.ifCond .eq 19, 3) := dk_153 0 19 (dk_at dksX19_kept_5 2 rfl rfl)
theorem dX19_kept_123 : decode cX19_kept 123 = .ok (.aload_n 0, 1) := dk_42 (dk_at dksX19_kept_5 5 rfl rfl)
theorem dX19_kept_124 : decode cX19_kept 124 = .ok (.getfield 24, 3) := dk_180 0 24 (dk_at dksX19_kept_5 6 rfl rfl)
theorem dX19_kept_127 : decode cX19_kept 127 = .ok (.iload 8, 2) := dk_21 8 (dk_at dksX19_kept_5 9 rfl rfl)
theorem dX19_kept_129 : decode cX19_kept 129 = .ok (.iaload, 1) := dk_46 (dk_at dksX19_kept_5 11 rfl rfl)
theorem dX19_kept_130 : decode cX19_kept 130 = .ok (.iload 6, 2) := dk_21 6 (dk_at dksX19_kept_5 12 rfl rfl)
theorem dX19_kept_132 : decode cX19_kept 132 = .ok (.if_icmp .eq 7, 3) := dk_159 0 7 (dk_at dksX19_kept_5 14 rfl rfl)
theorem dX19_kept_135 : decode cX19_kept 135 = .ok (.iconst 1, 1) := dk_4 (dk_at dksX19_kept_5 17 rfl rfl)
theorem dX19_kept_136 : decode cX19_kept 136 = .ok (.goto 4, 3) := dk_167 0 4 (dk_at dksX19_kept_5 18 rfl rfl)
theorem dX19_kept_139 : decode cX19_kept 139 = .ok (.iconst 0, 1) := dk_3 (dk_at dksX19_kept_5 21 rfl rfl)
theorem dX19_kept_140 : decode cX19_kept 140 = .ok (.istore 7, 2) := dk_54 7 (dk_at dksX19_kept_5 22 rfl rfl)
theorem dX19_kept_142 : decode cX19_kept 142 = .ok (.iinc 8 1, 3) := dk_132 8 1 (dk_at dksX19_kept_6 0 rfl rfl)
theorem dX19_kept_145 : decode cX19_kept 145 = .ok (.goto (-39), 3) := dk_167 255 217 (dk_at dksX19_kept_6 3 rfl rfl)
theorem dX19_kept_148 : decode cX19_kept 148 = .ok (.iload 7, 2) := dk_21 7 (dk_at dksX19_kept_6 6 rfl rfl)
theorem dX19_kept_150 : decode cX19_kept 150 = .ok (.ifCond .ne 6, 3) := dk_154 0 6 (dk_at dksX19_kept_6 8 rfl rfl)
theorem dX19_kept_153 : decode cX19_kept 153 = .ok (.goto 19, 3) := dk_167 0 19 (dk_at dksX19_kept_6 11 rfl rfl)
theorem dX19_kept_156 : decode cX19_kept 156 = .ok (.iload 5, 2) := dk_21 5 (dk_at dksX19_kept_6 14 rfl rfl)
theorem dX19_kept_158 : decode cX19_kept 158 = .ok (.iload_n 3, 1) := dk_29 (dk_at dksX19_kept_6 16 rfl rfl)
theorem dX19_kept_159 : decode cX19_kept 159 = .ok (.if_icmp .ne 10, 3) := dk_160 0 10 (dk_at dksX19_kept_6 17 rfl rfl)
theorem dX19_kept_162 : decode cX19_kept 162 = .ok (.aload_n 0, 1) := dk_42 (dk_at dksX19_kept_6 20 rfl rfl)
theorem dX19_kept_163 : decode cX19_kept 163 = .ok (.iload 6, 2) := dk_21 6 (dk_at dksX19_kept_6 21 rfl rfl)
theorem dX19_kept_165 : decode cX19_kept 165 = .ok (.invokevirtual 96, 3) := dk_182 0 96 (dk_at dksX19_kept_7 0 rfl rfl)
theorem dX19_kept_168 : decode cX19_kept 168 = .ok (.ireturn, 1) := dk_172 (dk_at dksX19_kept_7 3 rfl rfl)
theorem dX19_kept_169 : decode cX19_kept 169 = .ok (.iinc 5 1, 3) := dk_132 5 1 (dk_at dksX19_kept_7 4 rfl rfl)
theorem dX19_kept_172 : decode cX19_kept 172 = .ok (.iinc 6 1, 3) := dk_132 6 1 (dk_at dksX19_kept_7 7 rfl rfl)
theorem dX19_kept_175 : decode cX19_kept 175 = .ok (.goto (-93), 3) := dk_167 255 163 (dk_at dksX19_kept_7 10 rfl rfl)
theorem dX19_kept_178 : decode cX19_kept 178 = .ok (.aload_n 0, 1) := dk_42 (dk_at dksX19_kept_7 13 rfl rfl)
theorem dX19_kept_179 : decode cX19_kept 179 = .ok (.iconst 1, 1) := dk_4 (dk_at dksX19_kept_7 14 rfl rfl)
theorem dX19_kept_180 : decode cX19_kept 180 = .ok (.invokevirtual 92, 3) := dk_182 0 92 (dk_at dksX19_kept_7 15 rfl rfl)
theorem dX19_kept_183 : decode cX19_kept 183 = .ok (.ireturn, 1) := dk_172 (dk_at dksX19_kept_7 18 rfl rfl)
abbrev cX19_says : ByteArray := prog_23_method_76_code
def yX19_says : MethodName := ⟨RX19, "says", "(II)I"⟩
def dkwX19_says_1 : List UInt8 := [182, 0, 92, 172, 42, 27, 182, 1, 180, 42, 42, 28, 182, 1, 183, 182, 0, 96, 172]
abbrev dktX19_says_1 : List UInt8 := dkwX19_says_1 ++ []
def dkwX19_says_0 : List UInt8 := [42, 3, 181, 0, 86, 42, 27, 182, 1, 174, 153, 0, 11, 42, 28, 182, 1, 122, 154, 0, 9, 42, 4]
abbrev dktX19_says_0 : List UInt8 := dkwX19_says_0 ++ dktX19_says_1
theorem dksX19_says_0 : cX19_says.data.toList.drop 0 = dktX19_says_0 := by decide +kernel
theorem dksX19_says_1 : cX19_says.data.toList.drop 23 = dktX19_says_1 := dk_seg dksX19_says_0 23 rfl rfl
theorem dX19_says_0 : decode cX19_says 0 = .ok (.aload_n 0, 1) := dk_42 (dk_at dksX19_says_0 0 rfl rfl)
theorem dX19_says_1 : decode cX19_says 1 = .ok (.iconst 0, 1) := dk_3 (dk_at dksX19_says_0 1 rfl rfl)
theorem dX19_says_2 : decode cX19_says 2 = .ok (.putfield 86, 3) := dk_181 0 86 (dk_at dksX19_says_0 2 rfl rfl)
theorem dX19_says_5 : decode cX19_says 5 = .ok (.aload_n 0, 1) := dk_42 (dk_at dksX19_says_0 5 rfl rfl)
theorem dX19_says_6 : decode cX19_says 6 = .ok (.iload_n 1, 1) := dk_27 (dk_at dksX19_says_0 6 rfl rfl)
theorem dX19_says_7 : decode cX19_says 7 = .ok (.invokevirtual 430, 3) := dk_182 1 174 (dk_at dksX19_says_0 7 rfl rfl)
theorem dX19_says_10 : decode cX19_says 10 = .ok (.ifCond .eq 11, 3) := dk_153 0 11 (dk_at dksX19_says_0 10 rfl rfl)
theorem dX19_says_13 : decode cX19_says 13 = .ok (.aload_n 0, 1) := dk_42 (dk_at dksX19_says_0 13 rfl rfl)
theorem dX19_says_14 : decode cX19_says 14 = .ok (.iload_n 2, 1) := dk_28 (dk_at dksX19_says_0 14 rfl rfl)
theorem dX19_says_15 : decode cX19_says 15 = .ok (.invokevirtual 378, 3) := dk_182 1 122 (dk_at dksX19_says_0 15 rfl rfl)
theorem dX19_says_18 : decode cX19_says 18 = .ok (.ifCond .ne 9, 3) := dk_154 0 9 (dk_at dksX19_says_0 18 rfl rfl)
theorem dX19_says_21 : decode cX19_says 21 = .ok (.aload_n 0, 1) := dk_42 (dk_at dksX19_says_0 21 rfl rfl)
theorem dX19_says_22 : decode cX19_says 22 = .ok (.iconst 1, 1) := dk_4 (dk_at dksX19_says_0 22 rfl rfl)
theorem dX19_says_23 : decode cX19_says 23 = .ok (.invokevirtual 92, 3) := dk_182 0 92 (dk_at dksX19_says_1 0 rfl rfl)
theorem dX19_says_26 : decode cX19_says 26 = .ok (.ireturn, 1) := dk_172 (dk_at dksX19_says_1 3 rfl rfl)
theorem dX19_says_27 : decode cX19_says 27 = .ok (.aload_n 0, 1) := dk_42 (dk_at dksX19_says_1 4 rfl rfl)
theorem dX19_says_28 : decode cX19_says 28 = .ok (.iload_n 1, 1) := dk_27 (dk_at dksX19_says_1 5 rfl rfl)
theorem dX19_says_29 : decode cX19_says 29 = .ok (.invokevirtual 436, 3) := dk_182 1 180 (dk_at dksX19_says_1 6 rfl rfl)
theorem dX19_says_32 : decode cX19_says 32 = .ok (.aload_n 0, 1) := dk_42 (dk_at dksX19_says_1 9 rfl rfl)
theorem dX19_says_33 : decode cX19_says 33 = .ok (.aload_n 0, 1) := dk_42 (dk_at dksX19_says_1 10 rfl rfl)
theorem dX19_says_34 : decode cX19_says 34 = .ok (.iload_n 2, 1) := dk_28 (dk_at dksX19_says_1 11 rfl rfl)
theorem dX19_says_35 : decode cX19_says 35 = .ok (.invokevirtual 439, 3) := dk_182 1 183 (dk_at dksX19_says_1 12 rfl rfl)
theorem dX19_says_38 : decode cX19_says 38 = .ok (.invokevirtual 96, 3) := dk_182 0 96 (dk_at dksX19_says_1 15 rfl rfl)
theorem dX19_says_41 : decode cX19_says 41 = .ok (.ireturn, 1) := dk_172 (dk_at dksX19_says_1 18 rfl rfl)
abbrev cX19_laysAll : ByteArray := prog_23_method_73_code
def yX19_laysAll : MethodName := ⟨RX19, "laysAll", "(I)V"⟩
def dkwX19_laysAll_1 : List UInt8 := [132, 2, 1, 167, 255, 233, 177]
abbrev dktX19_laysAll_1 : List UInt8 := dkwX19_laysAll_1 ++ []
def dkwX19_laysAll_0 : List UInt8 := [3, 61, 28, 42, 180, 1, 100, 162, 0, 21, 42, 180, 0, 36, 28, 42, 27, 28, 182, 1, 177, 79]
abbrev dktX19_laysAll_0 : List UInt8 := dkwX19_laysAll_0 ++ dktX19_laysAll_1
theorem dksX19_laysAll_0 : cX19_laysAll.data.toList.drop 0 = dktX19_laysAll_0 := by decide +kernel
theorem dksX19_laysAll_1 : cX19_laysAll.data.toList.drop 22 = dktX19_laysAll_1 := dk_seg dksX19_laysAll_0 22 rfl rfl
theorem dX19_laysAll_0 : decode cX19_laysAll 0 = .ok (.iconst 0, 1) := dk_3 (dk_at dksX19_laysAll_0 0 rfl rfl)
theorem dX19_laysAll_1 : decode cX19_laysAll 1 = .ok (.istore_n 2, 1) := dk_61 (dk_at dksX19_laysAll_0 1 rfl rfl)
theorem dX19_laysAll_2 : decode cX19_laysAll 2 = .ok (.iload_n 2, 1) := dk_28 (dk_at dksX19_laysAll_0 2 rfl rfl)
theorem dX19_laysAll_3 : decode cX19_laysAll 3 = .ok (.aload_n 0, 1) := dk_42 (dk_at dksX19_laysAll_0 3 rfl rfl)
theorem dX19_laysAll_4 : decode cX19_laysAll 4 = .ok (.getfield 356, 3) := dk_180 1 100 (dk_at dksX19_laysAll_0 4 rfl rfl)
theorem dX19_laysAll_7 : decode cX19_laysAll 7 = .ok (.if_icmp .ge 21, 3) := dk_162 0 21 (dk_at dksX19_laysAll_0 7 rfl rfl)
theorem dX19_laysAll_10 : decode cX19_laysAll 10 = .ok (.aload_n 0, 1) := dk_42 (dk_at dksX19_laysAll_0 10 rfl rfl)
theorem dX19_laysAll_11 : decode cX19_laysAll 11 = .ok (.getfield 36, 3) := dk_180 0 36 (dk_at dksX19_laysAll_0 11 rfl rfl)
theorem dX19_laysAll_14 : decode cX19_laysAll 14 = .ok (.iload_n 2, 1) := dk_28 (dk_at dksX19_laysAll_0 14 rfl rfl)
theorem dX19_laysAll_15 : decode cX19_laysAll 15 = .ok (.aload_n 0, 1) := dk_42 (dk_at dksX19_laysAll_0 15 rfl rfl)
theorem dX19_laysAll_16 : decode cX19_laysAll 16 = .ok (.iload_n 1, 1) := dk_27 (dk_at dksX19_laysAll_0 16 rfl rfl)
theorem dX19_laysAll_17 : decode cX19_laysAll 17 = .ok (.iload_n 2, 1) := dk_28 (dk_at dksX19_laysAll_0 17 rfl rfl)
theorem dX19_laysAll_18 : decode cX19_laysAll 18 = .ok (.invokevirtual 433, 3) := dk_182 1 177 (dk_at dksX19_laysAll_0 18 rfl rfl)
theorem dX19_laysAll_21 : decode cX19_laysAll 21 = .ok (.iastore, 1) := dk_79 (dk_at dksX19_laysAll_0 21 rfl rfl)
theorem dX19_laysAll_22 : decode cX19_laysAll 22 = .ok (.iinc 2 1, 3) := dk_132 2 1 (dk_at dksX19_laysAll_1 0 rfl rfl)
theorem dX19_laysAll_25 : decode cX19_laysAll 25 = .ok (.goto (-23), 3) := dk_167 255 233 (dk_at dksX19_laysAll_1 3 rfl rfl)
theorem dX19_laysAll_28 : decode cX19_laysAll 28 = .ok (.return_, 1) := dk_177 (dk_at dksX19_laysAll_1 6 rfl rfl)
abbrev cX19_firstWith : ByteArray := prog_23_method_75_code
def yX19_firstWith : MethodName := ⟨RX19, "firstWith", "(I)I"⟩
def dkwX19_firstWith_1 : List UInt8 := [132, 2, 1, 167, 255, 233, 16, 254, 172]
abbrev dktX19_firstWith_1 : List UInt8 := dkwX19_firstWith_1 ++ []
def dkwX19_firstWith_0 : List UInt8 := [3, 61, 28, 42, 180, 1, 100, 162, 0, 21, 42, 180, 0, 36, 28, 46, 27, 160, 0, 5, 28, 172]
abbrev dktX19_firstWith_0 : List UInt8 := dkwX19_firstWith_0 ++ dktX19_firstWith_1
theorem dksX19_firstWith_0 : cX19_firstWith.data.toList.drop 0 = dktX19_firstWith_0 := by decide +kernel
theorem dksX19_firstWith_1 : cX19_firstWith.data.toList.drop 22 = dktX19_firstWith_1 := dk_seg dksX19_firstWith_0 22 rfl rfl
theorem dX19_firstWith_0 : decode cX19_firstWith 0 = .ok (.iconst 0, 1) := dk_3 (dk_at dksX19_firstWith_0 0 rfl rfl)
theorem dX19_firstWith_1 : decode cX19_firstWith 1 = .ok (.istore_n 2, 1) := dk_61 (dk_at dksX19_firstWith_0 1 rfl rfl)
theorem dX19_firstWith_2 : decode cX19_firstWith 2 = .ok (.iload_n 2, 1) := dk_28 (dk_at dksX19_firstWith_0 2 rfl rfl)
theorem dX19_firstWith_3 : decode cX19_firstWith 3 = .ok (.aload_n 0, 1) := dk_42 (dk_at dksX19_firstWith_0 3 rfl rfl)
theorem dX19_firstWith_4 : decode cX19_firstWith 4 = .ok (.getfield 356, 3) := dk_180 1 100 (dk_at dksX19_firstWith_0 4 rfl rfl)
theorem dX19_firstWith_7 : decode cX19_firstWith 7 = .ok (.if_icmp .ge 21, 3) := dk_162 0 21 (dk_at dksX19_firstWith_0 7 rfl rfl)
theorem dX19_firstWith_10 : decode cX19_firstWith 10 = .ok (.aload_n 0, 1) := dk_42 (dk_at dksX19_firstWith_0 10 rfl rfl)
theorem dX19_firstWith_11 : decode cX19_firstWith 11 = .ok (.getfield 36, 3) := dk_180 0 36 (dk_at dksX19_firstWith_0 11 rfl rfl)
theorem dX19_firstWith_14 : decode cX19_firstWith 14 = .ok (.iload_n 2, 1) := dk_28 (dk_at dksX19_firstWith_0 14 rfl rfl)
theorem dX19_firstWith_15 : decode cX19_firstWith 15 = .ok (.iaload, 1) := dk_46 (dk_at dksX19_firstWith_0 15 rfl rfl)
theorem dX19_firstWith_16 : decode cX19_firstWith 16 = .ok (.iload_n 1, 1) := dk_27 (dk_at dksX19_firstWith_0 16 rfl rfl)
theorem dX19_firstWith_17 : decode cX19_firstWith 17 = .ok (.if_icmp .ne 5, 3) := dk_160 0 5 (dk_at dksX19_firstWith_0 17 rfl rfl)
theorem dX19_firstWith_20 : decode cX19_firstWith 20 = .ok (.iload_n 2, 1) := dk_28 (dk_at dksX19_firstWith_0 20 rfl rfl)
theorem dX19_firstWith_21 : decode cX19_firstWith 21 = .ok (.ireturn, 1) := dk_172 (dk_at dksX19_firstWith_0 21 rfl rfl)
theorem dX19_firstWith_22 : decode cX19_firstWith 22 = .ok (.iinc 2 1, 3) := dk_132 2 1 (dk_at dksX19_firstWith_1 0 rfl rfl)
theorem dX19_firstWith_25 : decode cX19_firstWith 25 = .ok (.goto (-23), 3) := dk_167 255 233 (dk_at dksX19_firstWith_1 3 rfl rfl)
theorem dX19_firstWith_28 : decode cX19_firstWith 28 = .ok (.bipush (-2), 2) := dk_16 254 (dk_at dksX19_firstWith_1 6 rfl rfl)
theorem dX19_firstWith_30 : decode cX19_firstWith 30 = .ok (.ireturn, 1) := dk_172 (dk_at dksX19_firstWith_1 8 rfl rfl)
abbrev cX19_works : ByteArray := prog_23_method_79_code
def yX19_works : MethodName := ⟨RX19, "works", "(I)I"⟩
def dkwX19_works_1 : List UInt8 := [42, 42, 182, 1, 189, 153, 0, 7, 4, 167, 0, 4, 3, 182, 0, 96, 172]
abbrev dktX19_works_1 : List UInt8 := dkwX19_works_1 ++ []
def dkwX19_works_0 : List UInt8 := [42, 3, 181, 0, 86, 42, 27, 182, 1, 174, 154, 0, 9, 42, 4, 182, 0, 92, 172, 42, 27, 182, 1, 180]
abbrev dktX19_works_0 : List UInt8 := dkwX19_works_0 ++ dktX19_works_1
theorem dksX19_works_0 : cX19_works.data.toList.drop 0 = dktX19_works_0 := by decide +kernel
theorem dksX19_works_1 : cX19_works.data.toList.drop 24 = dktX19_works_1 := dk_seg dksX19_works_0 24 rfl rfl
theorem dX19_works_0 : decode cX19_works 0 = .ok (.aload_n 0, 1) := dk_42 (dk_at dksX19_works_0 0 rfl rfl)
theorem dX19_works_1 : decode cX19_works 1 = .ok (.iconst 0, 1) := dk_3 (dk_at dksX19_works_0 1 rfl rfl)
theorem dX19_works_2 : decode cX19_works 2 = .ok (.putfield 86, 3) := dk_181 0 86 (dk_at dksX19_works_0 2 rfl rfl)
theorem dX19_works_5 : decode cX19_works 5 = .ok (.aload_n 0, 1) := dk_42 (dk_at dksX19_works_0 5 rfl rfl)
theorem dX19_works_6 : decode cX19_works 6 = .ok (.iload_n 1, 1) := dk_27 (dk_at dksX19_works_0 6 rfl rfl)
theorem dX19_works_7 : decode cX19_works 7 = .ok (.invokevirtual 430, 3) := dk_182 1 174 (dk_at dksX19_works_0 7 rfl rfl)
theorem dX19_works_10 : decode cX19_works 10 = .ok (.ifCond .ne 9, 3) := dk_154 0 9 (dk_at dksX19_works_0 10 rfl rfl)
theorem dX19_works_13 : decode cX19_works 13 = .ok (.aload_n 0, 1) := dk_42 (dk_at dksX19_works_0 13 rfl rfl)
theorem dX19_works_14 : decode cX19_works 14 = .ok (.iconst 1, 1) := dk_4 (dk_at dksX19_works_0 14 rfl rfl)
theorem dX19_works_15 : decode cX19_works 15 = .ok (.invokevirtual 92, 3) := dk_182 0 92 (dk_at dksX19_works_0 15 rfl rfl)
theorem dX19_works_18 : decode cX19_works 18 = .ok (.ireturn, 1) := dk_172 (dk_at dksX19_works_0 18 rfl rfl)
theorem dX19_works_19 : decode cX19_works 19 = .ok (.aload_n 0, 1) := dk_42 (dk_at dksX19_works_0 19 rfl rfl)
theorem dX19_works_20 : decode cX19_works 20 = .ok (.iload_n 1, 1) := dk_27 (dk_at dksX19_works_0 20 rfl rfl)
theorem dX19_works_21 : decode cX19_works 21 = .ok (.invokevirtual 436, 3) := dk_182 1 180 (dk_at dksX19_works_0 21 rfl rfl)
theorem dX19_works_24 : decode cX19_works 24 = .ok (.aload_n 0, 1) := dk_42 (dk_at dksX19_works_1 0 rfl rfl)
theorem dX19_works_25 : decode cX19_works 25 = .ok (.aload_n 0, 1) := dk_42 (dk_at dksX19_works_1 1 rfl rfl)
theorem dX19_works_26 : decode cX19_works 26 = .ok (.invokevirtual 445, 3) := dk_182 1 189 (dk_at dksX19_works_1 2 rfl rfl)
theorem dX19_works_29 : decode cX19_works 29 = .ok (.ifCond .eq 7, 3) := dk_153 0 7 (dk_at dksX19_works_1 5 rfl rfl)
theorem dX19_works_32 : decode cX19_works 32 = .ok (.iconst 1, 1) := dk_4 (dk_at dksX19_works_1 8 rfl rfl)
theorem dX19_works_33 : decode cX19_works 33 = .ok (.goto 4, 3) := dk_167 0 4 (dk_at dksX19_works_1 9 rfl rfl)
theorem dX19_works_36 : decode cX19_works 36 = .ok (.iconst 0, 1) := dk_3 (dk_at dksX19_works_1 12 rfl rfl)
theorem dX19_works_37 : decode cX19_works 37 = .ok (.invokevirtual 96, 3) := dk_182 0 96 (dk_at dksX19_works_1 13 rfl rfl)
theorem dX19_works_40 : decode cX19_works 40 = .ok (.ireturn, 1) := dk_172 (dk_at dksX19_works_1 16 rfl rfl)
abbrev cX19_isWorking : ByteArray := prog_23_method_78_code
def yX19_isWorking : MethodName := ⟨RX19, "isWorking", "()Z"⟩
def dkwX19_isWorking_1 : List UInt8 := [132, 1, 1, 167, 255, 232, 42, 182, 1, 186, 16, 254, 160, 0, 7, 4, 167, 0, 4, 3, 172]
abbrev dktX19_isWorking_1 : List UInt8 := dkwX19_isWorking_1 ++ []
def dkwX19_isWorking_0 : List UInt8 := [3, 60, 27, 42, 180, 1, 100, 162, 0, 22, 42, 180, 0, 36, 27, 46, 16, 254, 160, 0, 5, 3, 172]
abbrev dktX19_isWorking_0 : List UInt8 := dkwX19_isWorking_0 ++ dktX19_isWorking_1
theorem dksX19_isWorking_0 : cX19_isWorking.data.toList.drop 0 = dktX19_isWorking_0 := by decide +kernel
theorem dksX19_isWorking_1 : cX19_isWorking.data.toList.drop 23 = dktX19_isWorking_1 := dk_seg dksX19_isWorking_0 23 rfl rfl
theorem dX19_isWorking_0 : decode cX19_isWorking 0 = .ok (.iconst 0, 1) := dk_3 (dk_at dksX19_isWorking_0 0 rfl rfl)
theorem dX19_isWorking_1 : decode cX19_isWorking 1 = .ok (.istore_n 1, 1) := dk_60 (dk_at dksX19_isWorking_0 1 rfl rfl)
theorem dX19_isWorking_2 : decode cX19_isWorking 2 = .ok (.iload_n 1, 1) := dk_27 (dk_at dksX19_isWorking_0 2 rfl rfl)
theorem dX19_isWorking_3 : decode cX19_isWorking 3 = .ok (.aload_n 0, 1) := dk_42 (dk_at dksX19_isWorking_0 3 rfl rfl)
theorem dX19_isWorking_4 : decode cX19_isWorking 4 = .ok (.getfield 356, 3) := dk_180 1 100 (dk_at dksX19_isWorking_0 4 rfl rfl)
theorem dX19_isWorking_7 : decode cX19_isWorking 7 = .ok (.if_icmp .ge 22, 3) := dk_162 0 22 (dk_at dksX19_isWorking_0 7 rfl rfl)
theorem dX19_isWorking_10 : decode cX19_isWorking 10 = .ok (.aload_n 0, 1) := dk_42 (dk_at dksX19_isWorking_0 10 rfl rfl)
theorem dX19_isWorking_11 : decode cX19_isWorking 11 = .ok (.getfield 36, 3) := dk_180 0 36 (dk_at dksX19_isWorking_0 11 rfl rfl)
theorem dX19_isWorking_14 : decode cX19_isWorking 14 = .ok (.iload_n 1, 1) := dk_27 (dk_at dksX19_isWorking_0 14 rfl rfl)
theorem dX19_isWorking_15 : decode cX19_isWorking 15 = .ok (.iaload, 1) := dk_46 (dk_at dksX19_isWorking_0 15 rfl rfl)
theorem dX19_isWorking_16 : decode cX19_isWorking 16 = .ok (.bipush (-2), 2) := dk_16 254 (dk_at dksX19_isWorking_0 16 rfl rfl)
theorem dX19_isWorking_18 : decode cX19_isWorking 18 = .ok (.if_icmp .ne 5, 3) := dk_160 0 5 (dk_at dksX19_isWorking_0 18 rfl rfl)
theorem dX19_isWorking_21 : decode cX19_isWorking 21 = .ok (.iconst 0, 1) := dk_3 (dk_at dksX19_isWorking_0 21 rfl rfl)
theorem dX19_isWorking_22 : decode cX19_isWorking 22 = .ok (.ireturn, 1) := dk_172 (dk_at dksX19_isWorking_0 22 rfl rfl)
theorem dX19_isWorking_23 : decode cX19_isWorking 23 = .ok (.iinc 1 1, 3) := dk_132 1 1 (dk_at dksX19_isWorking_1 0 rfl rfl)
theorem dX19_isWorking_26 : decode cX19_isWorking 26 = .ok (.goto (-24), 3) := dk_167 255 232 (dk_at dksX19_isWorking_1 3 rfl rfl)
theorem dX19_isWorking_29 : decode cX19_isWorking 29 = .ok (.aload_n 0, 1) := dk_42 (dk_at dksX19_isWorking_1 6 rfl rfl)
theorem dX19_isWorking_30 : decode cX19_isWorking 30 = .ok (.invokevirtual 442, 3) := dk_182 1 186 (dk_at dksX19_isWorking_1 7 rfl rfl)
theorem dX19_isWorking_33 : decode cX19_isWorking 33 = .ok (.bipush (-2), 2) := dk_16 254 (dk_at dksX19_isWorking_1 10 rfl rfl)
theorem dX19_isWorking_35 : decode cX19_isWorking 35 = .ok (.if_icmp .ne 7, 3) := dk_160 0 7 (dk_at dksX19_isWorking_1 12 rfl rfl)
theorem dX19_isWorking_38 : decode cX19_isWorking 38 = .ok (.iconst 1, 1) := dk_4 (dk_at dksX19_isWorking_1 15 rfl rfl)
theorem dX19_isWorking_39 : decode cX19_isWorking 39 = .ok (.goto 4, 3) := dk_167 0 4 (dk_at dksX19_isWorking_1 16 rfl rfl)
theorem dX19_isWorking_42 : decode cX19_isWorking 42 = .ok (.iconst 0, 1) := dk_3 (dk_at dksX19_isWorking_1 19 rfl rfl)
theorem dX19_isWorking_43 : decode cX19_isWorking 43 = .ok (.ireturn, 1) := dk_172 (dk_at dksX19_isWorking_1 20 rfl rfl)
abbrev cX19_clashNow : ByteArray := prog_23_method_77_code
def yX19_clashNow : MethodName := ⟨RX19, "clashNow", "()I"⟩
def dkwX19_clashNow_1 : List UInt8 := [180, 0, 36, 27, 46, 182, 1, 183, 27, 162, 0, 5, 27, 172, 132, 1, 1, 167, 255, 218, 16, 254, 172]
abbrev dktX19_clashNow_1 : List UInt8 := dkwX19_clashNow_1 ++ []
def dkwX19_clashNow_0 : List UInt8 := [3, 60, 27, 42, 180, 1, 100, 162, 0, 36, 42, 180, 0, 36, 27, 46, 16, 254, 159, 0, 19, 42, 42]
abbrev dktX19_clashNow_0 : List UInt8 := dkwX19_clashNow_0 ++ dktX19_clashNow_1
theorem dksX19_clashNow_0 : cX19_clashNow.data.toList.drop 0 = dktX19_clashNow_0 := by decide +kernel
theorem dksX19_clashNow_1 : cX19_clashNow.data.toList.drop 23 = dktX19_clashNow_1 := dk_seg dksX19_clashNow_0 23 rfl rfl
theorem dX19_clashNow_0 : decode cX19_clashNow 0 = .ok (.iconst 0, 1) := dk_3 (dk_at dksX19_clashNow_0 0 rfl rfl)
theorem dX19_clashNow_1 : decode cX19_clashNow 1 = .ok (.istore_n 1, 1) := dk_60 (dk_at dksX19_clashNow_0 1 rfl rfl)
theorem dX19_clashNow_2 : decode cX19_clashNow 2 = .ok (.iload_n 1, 1) := dk_27 (dk_at dksX19_clashNow_0 2 rfl rfl)
theorem dX19_clashNow_3 : decode cX19_clashNow 3 = .ok (.aload_n 0, 1) := dk_42 (dk_at dksX19_clashNow_0 3 rfl rfl)
theorem dX19_clashNow_4 : decode cX19_clashNow 4 = .ok (.getfield 356, 3) := dk_180 1 100 (dk_at dksX19_clashNow_0 4 rfl rfl)
theorem dX19_clashNow_7 : decode cX19_clashNow 7 = .ok (.if_icmp .ge 36, 3) := dk_162 0 36 (dk_at dksX19_clashNow_0 7 rfl rfl)
theorem dX19_clashNow_10 : decode cX19_clashNow 10 = .ok (.aload_n 0, 1) := dk_42 (dk_at dksX19_clashNow_0 10 rfl rfl)
theorem dX19_clashNow_11 : decode cX19_clashNow 11 = .ok (.getfield 36, 3) := dk_180 0 36 (dk_at dksX19_clashNow_0 11 rfl rfl)
theorem dX19_clashNow_14 : decode cX19_clashNow 14 = .ok (.iload_n 1, 1) := dk_27 (dk_at dksX19_clashNow_0 14 rfl rfl)
theorem dX19_clashNow_15 : decode cX19_clashNow 15 = .ok (.iaload, 1) := dk_46 (dk_at dksX19_clashNow_0 15 rfl rfl)
theorem dX19_clashNow_16 : decode cX19_clashNow 16 = .ok (.bipush (-2), 2) := dk_16 254 (dk_at dksX19_clashNow_0 16 rfl rfl)
theorem dX19_clashNow_18 : decode cX19_clashNow 18 = .ok (.if_icmp .eq 19, 3) := dk_159 0 19 (dk_at dksX19_clashNow_0 18 rfl rfl)
theorem dX19_clashNow_21 : decode cX19_clashNow 21 = .ok (.aload_n 0, 1) := dk_42 (dk_at dksX19_clashNow_0 21 rfl rfl)
theorem dX19_clashNow_22 : decode cX19_clashNow 22 = .ok (.aload_n 0, 1) := dk_42 (dk_at dksX19_clashNow_0 22 rfl rfl)
theorem dX19_clashNow_23 : decode cX19_clashNow 23 = .ok (.getfield 36, 3) := dk_180 0 36 (dk_at dksX19_clashNow_1 0 rfl rfl)
theorem dX19_clashNow_26 : decode cX19_clashNow 26 = .ok (.iload_n 1, 1) := dk_27 (dk_at dksX19_clashNow_1 3 rfl rfl)
theorem dX19_clashNow_27 : decode cX19_clashNow 27 = .ok (.iaload, 1) := dk_46 (dk_at dksX19_clashNow_1 4 rfl rfl)
theorem dX19_clashNow_28 : decode cX19_clashNow 28 = .ok (.invokevirtual 439, 3) := dk_182 1 183 (dk_at dksX19_clashNow_1 5 rfl rfl)
theorem dX19_clashNow_31 : decode cX19_clashNow 31 = .ok (.iload_n 1, 1) := dk_27 (dk_at dksX19_clashNow_1 8 rfl rfl)
theorem dX19_clashNow_32 : decode cX19_clashNow 32 = .ok (.if_icmp .ge 5, 3) := dk_162 0 5 (dk_at dksX19_clashNow_1 9 rfl rfl)
theorem dX19_clashNow_35 : decode cX19_clashNow 35 = .ok (.iload_n 1, 1) := dk_27 (dk_at dksX19_clashNow_1 12 rfl rfl)
theorem dX19_clashNow_36 : decode cX19_clashNow 36 = .ok (.ireturn, 1) := dk_172 (dk_at dksX19_clashNow_1 13 rfl rfl)
theorem dX19_clashNow_37 : decode cX19_clashNow 37 = .ok (.iinc 1 1, 3) := dk_132 1 1 (dk_at dksX19_clashNow_1 14 rfl rfl)
theorem dX19_clashNow_40 : decode cX19_clashNow 40 = .ok (.goto (-38), 3) := dk_167 255 218 (dk_at dksX19_clashNow_1 17 rfl rfl)
theorem dX19_clashNow_43 : decode cX19_clashNow 43 = .ok (.bipush (-2), 2) := dk_16 254 (dk_at dksX19_clashNow_1 20 rfl rfl)
theorem dX19_clashNow_45 : decode cX19_clashNow 45 = .ok (.ireturn, 1) := dk_172 (dk_at dksX19_clashNow_1 22 rfl rfl)
abbrev cX19_clash : ByteArray := prog_23_method_80_code
def yX19_clash : MethodName := ⟨RX19, "clash", "(IZ)I"⟩
def dkwX19_clash_2 : List UInt8 := [180, 0, 36, 29, 46, 182, 1, 183, 182, 0, 96, 172]
abbrev dktX19_clash_2 : List UInt8 := dkwX19_clash_2 ++ []
def dkwX19_clash_1 : List UInt8 := [42, 182, 1, 186, 62, 42, 29, 16, 254, 159, 0, 7, 28, 154, 0, 7, 29, 167, 0, 13, 42, 42]
abbrev dktX19_clash_1 : List UInt8 := dkwX19_clash_1 ++ dktX19_clash_2
def dkwX19_clash_0 : List UInt8 := [42, 3, 181, 0, 86, 42, 27, 182, 1, 174, 154, 0, 9, 42, 4, 182, 0, 92, 172, 42, 27, 182, 1, 180]
abbrev dktX19_clash_0 : List UInt8 := dkwX19_clash_0 ++ dktX19_clash_1
theorem dksX19_clash_0 : cX19_clash.data.toList.drop 0 = dktX19_clash_0 := by decide +kernel
theorem dksX19_clash_1 : cX19_clash.data.toList.drop 24 = dktX19_clash_1 := dk_seg dksX19_clash_0 24 rfl rfl
theorem dksX19_clash_2 : cX19_clash.data.toList.drop 46 = dktX19_clash_2 := dk_seg dksX19_clash_1 22 rfl rfl
theorem dX19_clash_0 : decode cX19_clash 0 = .ok (.aload_n 0, 1) := dk_42 (dk_at dksX19_clash_0 0 rfl rfl)
theorem dX19_clash_1 : decode cX19_clash 1 = .ok (.iconst 0, 1) := dk_3 (dk_at dksX19_clash_0 1 rfl rfl)
theorem dX19_clash_2 : decode cX19_clash 2 = .ok (.putfield 86, 3) := dk_181 0 86 (dk_at dksX19_clash_0 2 rfl rfl)
theorem dX19_clash_5 : decode cX19_clash 5 = .ok (.aload_n 0, 1) := dk_42 (dk_at dksX19_clash_0 5 rfl rfl)
theorem dX19_clash_6 : decode cX19_clash 6 = .ok (.iload_n 1, 1) := dk_27 (dk_at dksX19_clash_0 6 rfl rfl)
theorem dX19_clash_7 : decode cX19_clash 7 = .ok (.invokevirtual 430, 3) := dk_182 1 174 (dk_at dksX19_clash_0 7 rfl rfl)
theorem dX19_clash_10 : decode cX19_clash 10 = .ok (.ifCond .ne 9, 3) := dk_154 0 9 (dk_at dksX19_clash_0 10 rfl rfl)
theorem dX19_clash_13 : decode cX19_clash 13 = .ok (.aload_n 0, 1) := dk_42 (dk_at dksX19_clash_0 13 rfl rfl)
theorem dX19_clash_14 : decode cX19_clash 14 = .ok (.iconst 1, 1) := dk_4 (dk_at dksX19_clash_0 14 rfl rfl)
theorem dX19_clash_15 : decode cX19_clash 15 = .ok (.invokevirtual 92, 3) := dk_182 0 92 (dk_at dksX19_clash_0 15 rfl rfl)
theorem dX19_clash_18 : decode cX19_clash 18 = .ok (.ireturn, 1) := dk_172 (dk_at dksX19_clash_0 18 rfl rfl)
theorem dX19_clash_19 : decode cX19_clash 19 = .ok (.aload_n 0, 1) := dk_42 (dk_at dksX19_clash_0 19 rfl rfl)
theorem dX19_clash_20 : decode cX19_clash 20 = .ok (.iload_n 1, 1) := dk_27 (dk_at dksX19_clash_0 20 rfl rfl)
theorem dX19_clash_21 : decode cX19_clash 21 = .ok (.invokevirtual 436, 3) := dk_182 1 180 (dk_at dksX19_clash_0 21 rfl rfl)
theorem dX19_clash_24 : decode cX19_clash 24 = .ok (.aload_n 0, 1) := dk_42 (dk_at dksX19_clash_1 0 rfl rfl)
theorem dX19_clash_25 : decode cX19_clash 25 = .ok (.invokevirtual 442, 3) := dk_182 1 186 (dk_at dksX19_clash_1 1 rfl rfl)
theorem dX19_clash_28 : decode cX19_clash 28 = .ok (.istore_n 3, 1) := dk_62 (dk_at dksX19_clash_1 4 rfl rfl)
theorem dX19_clash_29 : decode cX19_clash 29 = .ok (.aload_n 0, 1) := dk_42 (dk_at dksX19_clash_1 5 rfl rfl)
theorem dX19_clash_30 : decode cX19_clash 30 = .ok (.iload_n 3, 1) := dk_29 (dk_at dksX19_clash_1 6 rfl rfl)
theorem dX19_clash_31 : decode cX19_clash 31 = .ok (.bipush (-2), 2) := dk_16 254 (dk_at dksX19_clash_1 7 rfl rfl)
theorem dX19_clash_33 : decode cX19_clash 33 = .ok (.if_icmp .eq 7, 3) := dk_159 0 7 (dk_at dksX19_clash_1 9 rfl rfl)
theorem dX19_clash_36 : decode cX19_clash 36 = .ok (.iload_n 2, 1) := dk_28 (dk_at dksX19_clash_1 12 rfl rfl)
theorem dX19_clash_37 : decode cX19_clash 37 = .ok (.ifCond .ne 7, 3) := dk_154 0 7 (dk_at dksX19_clash_1 13 rfl rfl)
theorem dX19_clash_40 : decode cX19_clash 40 = .ok (.iload_n 3, 1) := dk_29 (dk_at dksX19_clash_1 16 rfl rfl)
theorem dX19_clash_41 : decode cX19_clash 41 = .ok (.goto 13, 3) := dk_167 0 13 (dk_at dksX19_clash_1 17 rfl rfl)
theorem dX19_clash_44 : decode cX19_clash 44 = .ok (.aload_n 0, 1) := dk_42 (dk_at dksX19_clash_1 20 rfl rfl)
theorem dX19_clash_45 : decode cX19_clash 45 = .ok (.aload_n 0, 1) := dk_42 (dk_at dksX19_clash_1 21 rfl rfl)
theorem dX19_clash_46 : decode cX19_clash 46 = .ok (.getfield 36, 3) := dk_180 0 36 (dk_at dksX19_clash_2 0 rfl rfl)
theorem dX19_clash_49 : decode cX19_clash 49 = .ok (.iload_n 3, 1) := dk_29 (dk_at dksX19_clash_2 3 rfl rfl)
theorem dX19_clash_50 : decode cX19_clash 50 = .ok (.iaload, 1) := dk_46 (dk_at dksX19_clash_2 4 rfl rfl)
theorem dX19_clash_51 : decode cX19_clash 51 = .ok (.invokevirtual 439, 3) := dk_182 1 183 (dk_at dksX19_clash_2 5 rfl rfl)
theorem dX19_clash_54 : decode cX19_clash 54 = .ok (.invokevirtual 96, 3) := dk_182 0 96 (dk_at dksX19_clash_2 8 rfl rfl)
theorem dX19_clash_57 : decode cX19_clash 57 = .ok (.ireturn, 1) := dk_172 (dk_at dksX19_clash_2 11 rfl rfl)
abbrev cX19_laid : ByteArray := prog_23_method_81_code
def yX19_laid : MethodName := ⟨RX19, "laid", "(I)I"⟩
def dkwX19_laid_3 : List UInt8 := [167, 255, 212, 42, 28, 182, 0, 96, 172]
abbrev dktX19_laid_3 : List UInt8 := dkwX19_laid_3 ++ []
def dkwX19_laid_2 : List UInt8 := [42, 42, 180, 0, 36, 29, 46, 182, 1, 183, 29, 160, 0, 7, 4, 167, 0, 4, 3, 96, 61, 132, 3, 1]
abbrev dktX19_laid_2 : List UInt8 := dkwX19_laid_2 ++ dktX19_laid_3
def dkwX19_laid_1 : List UInt8 := [3, 61, 3, 62, 29, 42, 180, 1, 100, 162, 0, 42, 28, 42, 180, 0, 36, 29, 46, 16, 254, 159, 0, 21]
abbrev dktX19_laid_1 : List UInt8 := dkwX19_laid_1 ++ dktX19_laid_2
def dkwX19_laid_0 : List UInt8 := [42, 3, 181, 0, 86, 42, 27, 182, 1, 174, 154, 0, 9, 42, 4, 182, 0, 92, 172, 42, 27, 182, 1, 180]
abbrev dktX19_laid_0 : List UInt8 := dkwX19_laid_0 ++ dktX19_laid_1
theorem dksX19_laid_0 : cX19_laid.data.toList.drop 0 = dktX19_laid_0 := by decide +kernel
theorem dksX19_laid_1 : cX19_laid.data.toList.drop 24 = dktX19_laid_1 := dk_seg dksX19_laid_0 24 rfl rfl
theorem dksX19_laid_2 : cX19_laid.data.toList.drop 48 = dktX19_laid_2 := dk_seg dksX19_laid_1 24 rfl rfl
theorem dksX19_laid_3 : cX19_laid.data.toList.drop 72 = dktX19_laid_3 := dk_seg dksX19_laid_2 24 rfl rfl
theorem dX19_laid_0 : decode cX19_laid 0 = .ok (.aload_n 0, 1) := dk_42 (dk_at dksX19_laid_0 0 rfl rfl)
theorem dX19_laid_1 : decode cX19_laid 1 = .ok (.iconst 0, 1) := dk_3 (dk_at dksX19_laid_0 1 rfl rfl)
theorem dX19_laid_2 : decode cX19_laid 2 = .ok (.putfield 86, 3) := dk_181 0 86 (dk_at dksX19_laid_0 2 rfl rfl)
theorem dX19_laid_5 : decode cX19_laid 5 = .ok (.aload_n 0, 1) := dk_42 (dk_at dksX19_laid_0 5 rfl rfl)
theorem dX19_laid_6 : decode cX19_laid 6 = .ok (.iload_n 1, 1) := dk_27 (dk_at dksX19_laid_0 6 rfl rfl)
theorem dX19_laid_7 : decode cX19_laid 7 = .ok (.invokevirtual 430, 3) := dk_182 1 174 (dk_at dksX19_laid_0 7 rfl rfl)
theorem dX19_laid_10 : decode cX19_laid 10 = .ok (.ifCond .ne 9, 3) := dk_154 0 9 (dk_at dksX19_laid_0 10 rfl rfl)
theorem dX19_laid_13 : decode cX19_laid 13 = .ok (.aload_n 0, 1) := dk_42 (dk_at dksX19_laid_0 13 rfl rfl)
theorem dX19_laid_14 : decode cX19_laid 14 = .ok (.iconst 1, 1) := dk_4 (dk_at dksX19_laid_0 14 rfl rfl)
theorem dX19_laid_15 : decode cX19_laid 15 = .ok (.invokevirtual 92, 3) := dk_182 0 92 (dk_at dksX19_laid_0 15 rfl rfl)
theorem dX19_laid_18 : decode cX19_laid 18 = .ok (.ireturn, 1) := dk_172 (dk_at dksX19_laid_0 18 rfl rfl)
theorem dX19_laid_19 : decode cX19_laid 19 = .ok (.aload_n 0, 1) := dk_42 (dk_at dksX19_laid_0 19 rfl rfl)
theorem dX19_laid_20 : decode cX19_laid 20 = .ok (.iload_n 1, 1) := dk_27 (dk_at dksX19_laid_0 20 rfl rfl)
theorem dX19_laid_21 : decode cX19_laid 21 = .ok (.invokevirtual 436, 3) := dk_182 1 180 (dk_at dksX19_laid_0 21 rfl rfl)
theorem dX19_laid_24 : decode cX19_laid 24 = .ok (.iconst 0, 1) := dk_3 (dk_at dksX19_laid_1 0 rfl rfl)
theorem dX19_laid_25 : decode cX19_laid 25 = .ok (.istore_n 2, 1) := dk_61 (dk_at dksX19_laid_1 1 rfl rfl)
theorem dX19_laid_26 : decode cX19_laid 26 = .ok (.iconst 0, 1) := dk_3 (dk_at dksX19_laid_1 2 rfl rfl)
theorem dX19_laid_27 : decode cX19_laid 27 = .ok (.istore_n 3, 1) := dk_62 (dk_at dksX19_laid_1 3 rfl rfl)
theorem dX19_laid_28 : decode cX19_laid 28 = .ok (.iload_n 3, 1) := dk_29 (dk_at dksX19_laid_1 4 rfl rfl)
theorem dX19_laid_29 : decode cX19_laid 29 = .ok (.aload_n 0, 1) := dk_42 (dk_at dksX19_laid_1 5 rfl rfl)
theorem dX19_laid_30 : decode cX19_laid 30 = .ok (.getfield 356, 3) := dk_180 1 100 (dk_at dksX19_laid_1 6 rfl rfl)
theorem dX19_laid_33 : decode cX19_laid 33 = .ok (.if_icmp .ge 42, 3) := dk_162 0 42 (dk_at dksX19_laid_1 9 rfl rfl)
theorem dX19_laid_36 : decode cX19_laid 36 = .ok (.iload_n 2, 1) := dk_28 (dk_at dksX19_laid_1 12 rfl rfl)
theorem dX19_laid_37 : decode cX19_laid 37 = .ok (.aload_n 0, 1) := dk_42 (dk_at dksX19_laid_1 13 rfl rfl)
theorem dX19_laid_38 : decode cX19_laid 38 = .ok (.getfield 36, 3) := dk_180 0 36 (dk_at dksX19_laid_1 14 rfl rfl)
theorem dX19_laid_41 : decode cX19_laid 41 = .ok (.iload_n 3, 1) := dk_29 (dk_at dksX19_laid_1 17 rfl rfl)
theorem dX19_laid_42 : decode cX19_laid 42 = .ok (.iaload, 1) := dk_46 (dk_at dksX19_laid_1 18 rfl rfl)
theorem dX19_laid_43 : decode cX19_laid 43 = .ok (.bipush (-2), 2) := dk_16 254 (dk_at dksX19_laid_1 19 rfl rfl)
theorem dX19_laid_45 : decode cX19_laid 45 = .ok (.if_icmp .eq 21, 3) := dk_159 0 21 (dk_at dksX19_laid_1 21 rfl rfl)
theorem dX19_laid_48 : decode cX19_laid 48 = .ok (.aload_n 0, 1) := dk_42 (dk_at dksX19_laid_2 0 rfl rfl)
theorem dX19_laid_49 : decode cX19_laid 49 = .ok (.aload_n 0, 1) := dk_42 (dk_at dksX19_laid_2 1 rfl rfl)
theorem dX19_laid_50 : decode cX19_laid 50 = .ok (.getfield 36, 3) := dk_180 0 36 (dk_at dksX19_laid_2 2 rfl rfl)
theorem dX19_laid_53 : decode cX19_laid 53 = .ok (.iload_n 3, 1) := dk_29 (dk_at dksX19_laid_2 5 rfl rfl)
theorem dX19_laid_54 : decode cX19_laid 54 = .ok (.iaload, 1) := dk_46 (dk_at dksX19_laid_2 6 rfl rfl)
theorem dX19_laid_55 : decode cX19_laid 55 = .ok (.invokevirtual 439, 3) := dk_182 1 183 (dk_at dksX19_laid_2 7 rfl rfl)
theorem dX19_laid_58 : decode cX19_laid 58 = .ok (.iload_n 3, 1) := dk_29 (dk_at dksX19_laid_2 10 rfl rfl)
theorem dX19_laid_59 : decode cX19_laid 59 = .ok (.if_icmp .ne 7, 3) := dk_160 0 7 (dk_at dksX19_laid_2 11 rfl rfl)
theorem dX19_laid_62 : decode cX19_laid 62 = .ok (.iconst 1, 1) := dk_4 (dk_at dksX19_laid_2 14 rfl rfl)
theorem dX19_laid_63 : decode cX19_laid 63 = .ok (.goto 4, 3) := dk_167 0 4 (dk_at dksX19_laid_2 15 rfl rfl)
theorem dX19_laid_66 : decode cX19_laid 66 = .ok (.iconst 0, 1) := dk_3 (dk_at dksX19_laid_2 18 rfl rfl)
theorem dX19_laid_67 : decode cX19_laid 67 = .ok (.iadd, 1) := dk_96 (dk_at dksX19_laid_2 19 rfl rfl)
theorem dX19_laid_68 : decode cX19_laid 68 = .ok (.istore_n 2, 1) := dk_61 (dk_at dksX19_laid_2 20 rfl rfl)
theorem dX19_laid_69 : decode cX19_laid 69 = .ok (.iinc 3 1, 3) := dk_132 3 1 (dk_at dksX19_laid_2 21 rfl rfl)
theorem dX19_laid_72 : decode cX19_laid 72 = .ok (.goto (-44), 3) := dk_167 255 212 (dk_at dksX19_laid_3 0 rfl rfl)
theorem dX19_laid_75 : decode cX19_laid 75 = .ok (.aload_n 0, 1) := dk_42 (dk_at dksX19_laid_3 3 rfl rfl)
theorem dX19_laid_76 : decode cX19_laid 76 = .ok (.iload_n 2, 1) := dk_28 (dk_at dksX19_laid_3 4 rfl rfl)
theorem dX19_laid_77 : decode cX19_laid 77 = .ok (.invokevirtual 96, 3) := dk_182 0 96 (dk_at dksX19_laid_3 5 rfl rfl)
theorem dX19_laid_80 : decode cX19_laid 80 = .ok (.ireturn, 1) := dk_172 (dk_at dksX19_laid_3 8 rfl rfl)
abbrev cX19_fails : ByteArray := prog_23_method_82_code
def yX19_fails : MethodName := ⟨RX19, "fails", "(I)I"⟩
def dkwX19_fails_2 : List UInt8 := [4, 167, 0, 4, 3, 96, 61, 132, 3, 1, 167, 255, 226, 42, 28, 182, 0, 96, 172]
abbrev dktX19_fails_2 : List UInt8 := dkwX19_fails_2 ++ []
def dkwX19_fails_1 : List UInt8 := [3, 61, 3, 62, 29, 42, 180, 1, 100, 162, 0, 28, 28, 42, 180, 0, 36, 29, 46, 16, 254, 160, 0, 7]
abbrev dktX19_fails_1 : List UInt8 := dkwX19_fails_1 ++ dktX19_fails_2
def dkwX19_fails_0 : List UInt8 := [42, 3, 181, 0, 86, 42, 27, 182, 1, 174, 154, 0, 9, 42, 4, 182, 0, 92, 172, 42, 27, 182, 1, 180]
abbrev dktX19_fails_0 : List UInt8 := dkwX19_fails_0 ++ dktX19_fails_1
theorem dksX19_fails_0 : cX19_fails.data.toList.drop 0 = dktX19_fails_0 := by decide +kernel
theorem dksX19_fails_1 : cX19_fails.data.toList.drop 24 = dktX19_fails_1 := dk_seg dksX19_fails_0 24 rfl rfl
theorem dksX19_fails_2 : cX19_fails.data.toList.drop 48 = dktX19_fails_2 := dk_seg dksX19_fails_1 24 rfl rfl
theorem dX19_fails_0 : decode cX19_fails 0 = .ok (.aload_n 0, 1) := dk_42 (dk_at dksX19_fails_0 0 rfl rfl)
theorem dX19_fails_1 : decode cX19_fails 1 = .ok (.iconst 0, 1) := dk_3 (dk_at dksX19_fails_0 1 rfl rfl)
theorem dX19_fails_2 : decode cX19_fails 2 = .ok (.putfield 86, 3) := dk_181 0 86 (dk_at dksX19_fails_0 2 rfl rfl)
theorem dX19_fails_5 : decode cX19_fails 5 = .ok (.aload_n 0, 1) := dk_42 (dk_at dksX19_fails_0 5 rfl rfl)
theorem dX19_fails_6 : decode cX19_fails 6 = .ok (.iload_n 1, 1) := dk_27 (dk_at dksX19_fails_0 6 rfl rfl)
theorem dX19_fails_7 : decode cX19_fails 7 = .ok (.invokevirtual 430, 3) := dk_182 1 174 (dk_at dksX19_fails_0 7 rfl rfl)
theorem dX19_fails_10 : decode cX19_fails 10 = .ok (.ifCond .ne 9, 3) := dk_154 0 9 (dk_at dksX19_fails_0 10 rfl rfl)
theorem dX19_fails_13 : decode cX19_fails 13 = .ok (.aload_n 0, 1) := dk_42 (dk_at dksX19_fails_0 13 rfl rfl)
theorem dX19_fails_14 : decode cX19_fails 14 = .ok (.iconst 1, 1) := dk_4 (dk_at dksX19_fails_0 14 rfl rfl)
theorem dX19_fails_15 : decode cX19_fails 15 = .ok (.invokevirtual 92, 3) := dk_182 0 92 (dk_at dksX19_fails_0 15 rfl rfl)
theorem dX19_fails_18 : decode cX19_fails 18 = .ok (.ireturn, 1) := dk_172 (dk_at dksX19_fails_0 18 rfl rfl)
theorem dX19_fails_19 : decode cX19_fails 19 = .ok (.aload_n 0, 1) := dk_42 (dk_at dksX19_fails_0 19 rfl rfl)
theorem dX19_fails_20 : decode cX19_fails 20 = .ok (.iload_n 1, 1) := dk_27 (dk_at dksX19_fails_0 20 rfl rfl)
theorem dX19_fails_21 : decode cX19_fails 21 = .ok (.invokevirtual 436, 3) := dk_182 1 180 (dk_at dksX19_fails_0 21 rfl rfl)
theorem dX19_fails_24 : decode cX19_fails 24 = .ok (.iconst 0, 1) := dk_3 (dk_at dksX19_fails_1 0 rfl rfl)
theorem dX19_fails_25 : decode cX19_fails 25 = .ok (.istore_n 2, 1) := dk_61 (dk_at dksX19_fails_1 1 rfl rfl)
theorem dX19_fails_26 : decode cX19_fails 26 = .ok (.iconst 0, 1) := dk_3 (dk_at dksX19_fails_1 2 rfl rfl)
theorem dX19_fails_27 : decode cX19_fails 27 = .ok (.istore_n 3, 1) := dk_62 (dk_at dksX19_fails_1 3 rfl rfl)
theorem dX19_fails_28 : decode cX19_fails 28 = .ok (.iload_n 3, 1) := dk_29 (dk_at dksX19_fails_1 4 rfl rfl)
theorem dX19_fails_29 : decode cX19_fails 29 = .ok (.aload_n 0, 1) := dk_42 (dk_at dksX19_fails_1 5 rfl rfl)
theorem dX19_fails_30 : decode cX19_fails 30 = .ok (.getfield 356, 3) := dk_180 1 100 (dk_at dksX19_fails_1 6 rfl rfl)
theorem dX19_fails_33 : decode cX19_fails 33 = .ok (.if_icmp .ge 28, 3) := dk_162 0 28 (dk_at dksX19_fails_1 9 rfl rfl)
theorem dX19_fails_36 : decode cX19_fails 36 = .ok (.iload_n 2, 1) := dk_28 (dk_at dksX19_fails_1 12 rfl rfl)
theorem dX19_fails_37 : decode cX19_fails 37 = .ok (.aload_n 0, 1) := dk_42 (dk_at dksX19_fails_1 13 rfl rfl)
theorem dX19_fails_38 : decode cX19_fails 38 = .ok (.getfield 36, 3) := dk_180 0 36 (dk_at dksX19_fails_1 14 rfl rfl)
theorem dX19_fails_41 : decode cX19_fails 41 = .ok (.iload_n 3, 1) := dk_29 (dk_at dksX19_fails_1 17 rfl rfl)
theorem dX19_fails_42 : decode cX19_fails 42 = .ok (.iaload, 1) := dk_46 (dk_at dksX19_fails_1 18 rfl rfl)
theorem dX19_fails_43 : decode cX19_fails 43 = .ok (.bipush (-2), 2) := dk_16 254 (dk_at dksX19_fails_1 19 rfl rfl)
theorem dX19_fails_45 : decode cX19_fails 45 = .ok (.if_icmp .ne 7, 3) := dk_160 0 7 (dk_at dksX19_fails_1 21 rfl rfl)
theorem dX19_fails_48 : decode cX19_fails 48 = .ok (.iconst 1, 1) := dk_4 (dk_at dksX19_fails_2 0 rfl rfl)
theorem dX19_fails_49 : decode cX19_fails 49 = .ok (.goto 4, 3) := dk_167 0 4 (dk_at dksX19_fails_2 1 rfl rfl)
theorem dX19_fails_52 : decode cX19_fails 52 = .ok (.iconst 0, 1) := dk_3 (dk_at dksX19_fails_2 4 rfl rfl)
theorem dX19_fails_53 : decode cX19_fails 53 = .ok (.iadd, 1) := dk_96 (dk_at dksX19_fails_2 5 rfl rfl)
theorem dX19_fails_54 : decode cX19_fails 54 = .ok (.istore_n 2, 1) := dk_61 (dk_at dksX19_fails_2 6 rfl rfl)
theorem dX19_fails_55 : decode cX19_fails 55 = .ok (.iinc 3 1, 3) := dk_132 3 1 (dk_at dksX19_fails_2 7 rfl rfl)
theorem dX19_fails_58 : decode cX19_fails 58 = .ok (.goto (-30), 3) := dk_167 255 226 (dk_at dksX19_fails_2 10 rfl rfl)
theorem dX19_fails_61 : decode cX19_fails 61 = .ok (.aload_n 0, 1) := dk_42 (dk_at dksX19_fails_2 13 rfl rfl)
theorem dX19_fails_62 : decode cX19_fails 62 = .ok (.iload_n 2, 1) := dk_28 (dk_at dksX19_fails_2 14 rfl rfl)
theorem dX19_fails_63 : decode cX19_fails 63 = .ok (.invokevirtual 96, 3) := dk_182 0 96 (dk_at dksX19_fails_2 15 rfl rfl)
theorem dX19_fails_66 : decode cX19_fails 66 = .ok (.ireturn, 1) := dk_172 (dk_at dksX19_fails_2 18 rfl rfl)
abbrev cX19_seen : ByteArray := prog_23_method_91_code
def yX19_seen : MethodName := ⟨RX19, "seen", "(I)I"⟩
def dkwX19_seen_1 : List UInt8 := [42, 182, 1, 208, 42, 42, 182, 1, 211, 153, 0, 7, 4, 167, 0, 4, 3, 182, 0, 96, 172]
abbrev dktX19_seen_1 : List UInt8 := dkwX19_seen_1 ++ []
def dkwX19_seen_0 : List UInt8 := [42, 3, 181, 0, 86, 42, 27, 182, 1, 174, 154, 0, 9, 42, 4, 182, 0, 92, 172, 42, 27, 182, 1, 180]
abbrev dktX19_seen_0 : List UInt8 := dkwX19_seen_0 ++ dktX19_seen_1
theorem dksX19_seen_0 : cX19_seen.data.toList.drop 0 = dktX19_seen_0 := by decide +kernel
theorem dksX19_seen_1 : cX19_seen.data.toList.drop 24 = dktX19_seen_1 := dk_seg dksX19_seen_0 24 rfl rfl
theorem dX19_seen_0 : decode cX19_seen 0 = .ok (.aload_n 0, 1) := dk_42 (dk_at dksX19_seen_0 0 rfl rfl)
theorem dX19_seen_1 : decode cX19_seen 1 = .ok (.iconst 0, 1) := dk_3 (dk_at dksX19_seen_0 1 rfl rfl)
theorem dX19_seen_2 : decode cX19_seen 2 = .ok (.putfield 86, 3) := dk_181 0 86 (dk_at dksX19_seen_0 2 rfl rfl)
theorem dX19_seen_5 : decode cX19_seen 5 = .ok (.aload_n 0, 1) := dk_42 (dk_at dksX19_seen_0 5 rfl rfl)
theorem dX19_seen_6 : decode cX19_seen 6 = .ok (.iload_n 1, 1) := dk_27 (dk_at dksX19_seen_0 6 rfl rfl)
theorem dX19_seen_7 : decode cX19_seen 7 = .ok (.invokevirtual 430, 3) := dk_182 1 174 (dk_at dksX19_seen_0 7 rfl rfl)
theorem dX19_seen_10 : decode cX19_seen 10 = .ok (.ifCond .ne 9, 3) := dk_154 0 9 (dk_at dksX19_seen_0 10 rfl rfl)
theorem dX19_seen_13 : decode cX19_seen 13 = .ok (.aload_n 0, 1) := dk_42 (dk_at dksX19_seen_0 13 rfl rfl)
theorem dX19_seen_14 : decode cX19_seen 14 = .ok (.iconst 1, 1) := dk_4 (dk_at dksX19_seen_0 14 rfl rfl)
theorem dX19_seen_15 : decode cX19_seen 15 = .ok (.invokevirtual 92, 3) := dk_182 0 92 (dk_at dksX19_seen_0 15 rfl rfl)
theorem dX19_seen_18 : decode cX19_seen 18 = .ok (.ireturn, 1) := dk_172 (dk_at dksX19_seen_0 18 rfl rfl)
theorem dX19_seen_19 : decode cX19_seen 19 = .ok (.aload_n 0, 1) := dk_42 (dk_at dksX19_seen_0 19 rfl rfl)
theorem dX19_seen_20 : decode cX19_seen 20 = .ok (.iload_n 1, 1) := dk_27 (dk_at dksX19_seen_0 20 rfl rfl)
theorem dX19_seen_21 : decode cX19_seen 21 = .ok (.invokevirtual 436, 3) := dk_182 1 180 (dk_at dksX19_seen_0 21 rfl rfl)
theorem dX19_seen_24 : decode cX19_seen 24 = .ok (.aload_n 0, 1) := dk_42 (dk_at dksX19_seen_1 0 rfl rfl)
theorem dX19_seen_25 : decode cX19_seen 25 = .ok (.invokevirtual 464, 3) := dk_182 1 208 (dk_at dksX19_seen_1 1 rfl rfl)
theorem dX19_seen_28 : decode cX19_seen 28 = .ok (.aload_n 0, 1) := dk_42 (dk_at dksX19_seen_1 4 rfl rfl)
theorem dX19_seen_29 : decode cX19_seen 29 = .ok (.aload_n 0, 1) := dk_42 (dk_at dksX19_seen_1 5 rfl rfl)
theorem dX19_seen_30 : decode cX19_seen 30 = .ok (.invokevirtual 467, 3) := dk_182 1 211 (dk_at dksX19_seen_1 6 rfl rfl)
theorem dX19_seen_33 : decode cX19_seen 33 = .ok (.ifCond .eq 7, 3) := dk_153 0 7 (dk_at dksX19_seen_1 9 rfl rfl)
theorem dX19_seen_36 : decode cX19_seen 36 = .ok (.iconst 1, 1) := dk_4 (dk_at dksX19_seen_1 12 rfl rfl)
theorem dX19_seen_37 : decode cX19_seen 37 = .ok (.goto 4, 3) := dk_167 0 4 (dk_at dksX19_seen_1 13 rfl rfl)
theorem dX19_seen_40 : decode cX19_seen 40 = .ok (.iconst 0, 1) := dk_3 (dk_at dksX19_seen_1 16 rfl rfl)
theorem dX19_seen_41 : decode cX19_seen 41 = .ok (.invokevirtual 96, 3) := dk_182 0 96 (dk_at dksX19_seen_1 17 rfl rfl)
theorem dX19_seen_44 : decode cX19_seen 44 = .ok (.ireturn, 1) := dk_172 (dk_at dksX19_seen_1 20 rfl rfl)
abbrev cX19_ownsLaid : ByteArray := prog_23_method_90_code
def yX19_ownsLaid : MethodName := ⟨RX19, "ownsLaid", "()V"⟩
def dkwX19_ownsLaid_2 : List UInt8 := [167, 255, 218, 177]
abbrev dktX19_ownsLaid_2 : List UInt8 := dkwX19_ownsLaid_2 ++ []
def dkwX19_ownsLaid_1 : List UInt8 := [159, 0, 19, 42, 42, 180, 0, 36, 27, 46, 42, 180, 0, 36, 27, 46, 182, 1, 205, 132, 1, 1]
abbrev dktX19_ownsLaid_1 : List UInt8 := dkwX19_ownsLaid_1 ++ dktX19_ownsLaid_2
def dkwX19_ownsLaid_0 : List UInt8 := [42, 182, 1, 202, 3, 60, 27, 42, 180, 1, 100, 162, 0, 36, 42, 180, 0, 36, 27, 46, 16, 254]
abbrev dktX19_ownsLaid_0 : List UInt8 := dkwX19_ownsLaid_0 ++ dktX19_ownsLaid_1
theorem dksX19_ownsLaid_0 : cX19_ownsLaid.data.toList.drop 0 = dktX19_ownsLaid_0 := by decide +kernel
theorem dksX19_ownsLaid_1 : cX19_ownsLaid.data.toList.drop 22 = dktX19_ownsLaid_1 := dk_seg dksX19_ownsLaid_0 22 rfl rfl
theorem dksX19_ownsLaid_2 : cX19_ownsLaid.data.toList.drop 44 = dktX19_ownsLaid_2 := dk_seg dksX19_ownsLaid_1 22 rfl rfl
theorem dX19_ownsLaid_0 : decode cX19_ownsLaid 0 = .ok (.aload_n 0, 1) := dk_42 (dk_at dksX19_ownsLaid_0 0 rfl rfl)
theorem dX19_ownsLaid_1 : decode cX19_ownsLaid 1 = .ok (.invokevirtual 458, 3) := dk_182 1 202 (dk_at dksX19_ownsLaid_0 1 rfl rfl)
theorem dX19_ownsLaid_4 : decode cX19_ownsLaid 4 = .ok (.iconst 0, 1) := dk_3 (dk_at dksX19_ownsLaid_0 4 rfl rfl)
theorem dX19_ownsLaid_5 : decode cX19_ownsLaid 5 = .ok (.istore_n 1, 1) := dk_60 (dk_at dksX19_ownsLaid_0 5 rfl rfl)
theorem dX19_ownsLaid_6 : decode cX19_ownsLaid 6 = .ok (.iload_n 1, 1) := dk_27 (dk_at dksX19_ownsLaid_0 6 rfl rfl)
theorem dX19_ownsLaid_7 : decode cX19_ownsLaid 7 = .ok (.aload_n 0, 1) := dk_42 (dk_at dksX19_ownsLaid_0 7 rfl rfl)
theorem dX19_ownsLaid_8 : decode cX19_ownsLaid 8 = .ok (.getfield 356, 3) := dk_180 1 100 (dk_at dksX19_ownsLaid_0 8 rfl rfl)
theorem dX19_ownsLaid_11 : decode cX19_ownsLaid 11 = .ok (.if_icmp .ge 36, 3) := dk_162 0 36 (dk_at dksX19_ownsLaid_0 11 rfl rfl)
theorem dX19_ownsLaid_14 : decode cX19_ownsLaid 14 = .ok (.aload_n 0, 1) := dk_42 (dk_at dksX19_ownsLaid_0 14 rfl rfl)
theorem dX19_ownsLaid_15 : decode cX19_ownsLaid 15 = .ok (.getfield 36, 3) := dk_180 0 36 (dk_at dksX19_ownsLaid_0 15 rfl rfl)
theorem dX19_ownsLaid_18 : decode cX19_ownsLaid 18 = .ok (.iload_n 1, 1) := dk_27 (dk_at dksX19_ownsLaid_0 18 rfl rfl)
theorem dX19_ownsLaid_19 : decode cX19_ownsLaid 19 = .ok (.iaload, 1) := dk_46 (dk_at dksX19_ownsLaid_0 19 rfl rfl)
theorem dX19_ownsLaid_20 : decode cX19_ownsLaid 20 = .ok (.bipush (-2), 2) := dk_16 254 (dk_at dksX19_ownsLaid_0 20 rfl rfl)
theorem dX19_ownsLaid_22 : decode cX19_ownsLaid 22 = .ok (.if_icmp .eq 19, 3) := dk_159 0 19 (dk_at dksX19_ownsLaid_1 0 rfl rfl)
theorem dX19_ownsLaid_25 : decode cX19_ownsLaid 25 = .ok (.aload_n 0, 1) := dk_42 (dk_at dksX19_ownsLaid_1 3 rfl rfl)
theorem dX19_ownsLaid_26 : decode cX19_ownsLaid 26 = .ok (.aload_n 0, 1) := dk_42 (dk_at dksX19_ownsLaid_1 4 rfl rfl)
theorem dX19_ownsLaid_27 : decode cX19_ownsLaid 27 = .ok (.getfield 36, 3) := dk_180 0 36 (dk_at dksX19_ownsLaid_1 5 rfl rfl)
theorem dX19_ownsLaid_30 : decode cX19_ownsLaid 30 = .ok (.iload_n 1, 1) := dk_27 (dk_at dksX19_ownsLaid_1 8 rfl rfl)
theorem dX19_ownsLaid_31 : decode cX19_ownsLaid 31 = .ok (.iaload, 1) := dk_46 (dk_at dksX19_ownsLaid_1 9 rfl rfl)
theorem dX19_ownsLaid_32 : decode cX19_ownsLaid 32 = .ok (.aload_n 0, 1) := dk_42 (dk_at dksX19_ownsLaid_1 10 rfl rfl)
theorem dX19_ownsLaid_33 : decode cX19_ownsLaid 33 = .ok (.getfield 36, 3) := dk_180 0 36 (dk_at dksX19_ownsLaid_1 11 rfl rfl)
theorem dX19_ownsLaid_36 : decode cX19_ownsLaid 36 = .ok (.iload_n 1, 1) := dk_27 (dk_at dksX19_ownsLaid_1 14 rfl rfl)
theorem dX19_ownsLaid_37 : decode cX19_ownsLaid 37 = .ok (.iaload, 1) := dk_46 (dk_at dksX19_ownsLaid_1 15 rfl rfl)
theorem dX19_ownsLaid_38 : decode cX19_ownsLaid 38 = .ok (.invokevirtual 461, 3) := dk_182 1 205 (dk_at dksX19_ownsLaid_1 16 rfl rfl)
theorem dX19_ownsLaid_41 : decode cX19_ownsLaid 41 = .ok (.iinc 1 1, 3) := dk_132 1 1 (dk_at dksX19_ownsLaid_1 19 rfl rfl)
theorem dX19_ownsLaid_44 : decode cX19_ownsLaid 44 = .ok (.goto (-38), 3) := dk_167 255 218 (dk_at dksX19_ownsLaid_2 0 rfl rfl)
theorem dX19_ownsLaid_47 : decode cX19_ownsLaid 47 = .ok (.return_, 1) := dk_177 (dk_at dksX19_ownsLaid_2 3 rfl rfl)
abbrev cX19_isSeen : ByteArray := prog_23_method_84_code
def yX19_isSeen : MethodName := ⟨RX19, "isSeen", "()Z"⟩
def dkwX19_isSeen_3 : List UInt8 := [172]
abbrev dktX19_isSeen_3 : List UInt8 := dkwX19_isSeen_3 ++ []
def dkwX19_isSeen_2 : List UInt8 := [182, 1, 192, 182, 1, 195, 153, 0, 5, 3, 172, 132, 2, 1, 167, 255, 209, 132, 1, 1, 167, 255, 193, 4]
abbrev dktX19_isSeen_2 : List UInt8 := dkwX19_isSeen_2 ++ dktX19_isSeen_3
def dkwX19_isSeen_1 : List UInt8 := [162, 0, 40, 42, 180, 0, 36, 27, 46, 16, 254, 159, 0, 23, 42, 42, 42, 180, 0, 36, 27, 46, 28]
abbrev dktX19_isSeen_1 : List UInt8 := dkwX19_isSeen_1 ++ dktX19_isSeen_2
def dkwX19_isSeen_0 : List UInt8 := [3, 60, 27, 42, 180, 1, 100, 162, 0, 61, 3, 61, 28, 4, 96, 42, 180, 1, 73, 180, 1, 1]
abbrev dktX19_isSeen_0 : List UInt8 := dkwX19_isSeen_0 ++ dktX19_isSeen_1
theorem dksX19_isSeen_0 : cX19_isSeen.data.toList.drop 0 = dktX19_isSeen_0 := by decide +kernel
theorem dksX19_isSeen_1 : cX19_isSeen.data.toList.drop 22 = dktX19_isSeen_1 := dk_seg dksX19_isSeen_0 22 rfl rfl
theorem dksX19_isSeen_2 : cX19_isSeen.data.toList.drop 45 = dktX19_isSeen_2 := dk_seg dksX19_isSeen_1 23 rfl rfl
theorem dksX19_isSeen_3 : cX19_isSeen.data.toList.drop 69 = dktX19_isSeen_3 := dk_seg dksX19_isSeen_2 24 rfl rfl
theorem dX19_isSeen_0 : decode cX19_isSeen 0 = .ok (.iconst 0, 1) := dk_3 (dk_at dksX19_isSeen_0 0 rfl rfl)
theorem dX19_isSeen_1 : decode cX19_isSeen 1 = .ok (.istore_n 1, 1) := dk_60 (dk_at dksX19_isSeen_0 1 rfl rfl)
theorem dX19_isSeen_2 : decode cX19_isSeen 2 = .ok (.iload_n 1, 1) := dk_27 (dk_at dksX19_isSeen_0 2 rfl rfl)
theorem dX19_isSeen_3 : decode cX19_isSeen 3 = .ok (.aload_n 0, 1) := dk_42 (dk_at dksX19_isSeen_0 3 rfl rfl)
theorem dX19_isSeen_4 : decode cX19_isSeen 4 = .ok (.getfield 356, 3) := dk_180 1 100 (dk_at dksX19_isSeen_0 4 rfl rfl)
theorem dX19_isSeen_7 : decode cX19_isSeen 7 = .ok (.if_icmp .ge 61, 3) := dk_162 0 61 (dk_at dksX19_isSeen_0 7 rfl rfl)
theorem dX19_isSeen_10 : decode cX19_isSeen 10 = .ok (.iconst 0, 1) := dk_3 (dk_at dksX19_isSeen_0 10 rfl rfl)
theorem dX19_isSeen_11 : decode cX19_isSeen 11 = .ok (.istore_n 2, 1) := dk_61 (dk_at dksX19_isSeen_0 11 rfl rfl)
theorem dX19_isSeen_12 : decode cX19_isSeen 12 = .ok (.iload_n 2, 1) := dk_28 (dk_at dksX19_isSeen_0 12 rfl rfl)
theorem dX19_isSeen_13 : decode cX19_isSeen 13 = .ok (.iconst 1, 1) := dk_4 (dk_at dksX19_isSeen_0 13 rfl rfl)
theorem dX19_isSeen_14 : decode cX19_isSeen 14 = .ok (.iadd, 1) := dk_96 (dk_at dksX19_isSeen_0 14 rfl rfl)
theorem dX19_isSeen_15 : decode cX19_isSeen 15 = .ok (.aload_n 0, 1) := dk_42 (dk_at dksX19_isSeen_0 15 rfl rfl)
theorem dX19_isSeen_16 : decode cX19_isSeen 16 = .ok (.getfield 329, 3) := dk_180 1 73 (dk_at dksX19_isSeen_0 16 rfl rfl)
theorem dX19_isSeen_19 : decode cX19_isSeen 19 = .ok (.getfield 257, 3) := dk_180 1 1 (dk_at dksX19_isSeen_0 19 rfl rfl)
theorem dX19_isSeen_22 : decode cX19_isSeen 22 = .ok (.if_icmp .ge 40, 3) := dk_162 0 40 (dk_at dksX19_isSeen_1 0 rfl rfl)
theorem dX19_isSeen_25 : decode cX19_isSeen 25 = .ok (.aload_n 0, 1) := dk_42 (dk_at dksX19_isSeen_1 3 rfl rfl)
theorem dX19_isSeen_26 : decode cX19_isSeen 26 = .ok (.getfield 36, 3) := dk_180 0 36 (dk_at dksX19_isSeen_1 4 rfl rfl)
theorem dX19_isSeen_29 : decode cX19_isSeen 29 = .ok (.iload_n 1, 1) := dk_27 (dk_at dksX19_isSeen_1 7 rfl rfl)
theorem dX19_isSeen_30 : decode cX19_isSeen 30 = .ok (.iaload, 1) := dk_46 (dk_at dksX19_isSeen_1 8 rfl rfl)
theorem dX19_isSeen_31 : decode cX19_isSeen 31 = .ok (.bipush (-2), 2) := dk_16 254 (dk_at dksX19_isSeen_1 9 rfl rfl)
theorem dX19_isSeen_33 : decode cX19_isSeen 33 = .ok (.if_icmp .eq 23, 3) := dk_159 0 23 (dk_at dksX19_isSeen_1 11 rfl rfl)
theorem dX19_isSeen_36 : decode cX19_isSeen 36 = .ok (.aload_n 0, 1) := dk_42 (dk_at dksX19_isSeen_1 14 rfl rfl)
theorem dX19_isSeen_37 : decode cX19_isSeen 37 = .ok (.aload_n 0, 1) := dk_42 (dk_at dksX19_isSeen_1 15 rfl rfl)
theorem dX19_isSeen_38 : decode cX19_isSeen 38 = .ok (.aload_n 0, 1) := dk_42 (dk_at dksX19_isSeen_1 16 rfl rfl)
theorem dX19_isSeen_39 : decode cX19_isSeen 39 = .ok (.getfield 36, 3) := dk_180 0 36 (dk_at dksX19_isSeen_1 17 rfl rfl)
theorem dX19_isSeen_42 : decode cX19_isSeen 42 = .ok (.iload_n 1, 1) := dk_27 (dk_at dksX19_isSeen_1 20 rfl rfl)
theorem dX19_isSeen_43 : decode cX19_isSeen 43 = .ok (.iaload, 1) := dk_46 (dk_at dksX19_isSeen_1 21 rfl rfl)
theorem dX19_isSeen_44 : decode cX19_isSeen 44 = .ok (.iload_n 2, 1) := dk_28 (dk_at dksX19_isSeen_1 22 rfl rfl)
theorem dX19_isSeen_45 : decode cX19_isSeen 45 = .ok (.invokevirtual 448, 3) := dk_182 1 192 (dk_at dksX19_isSeen_2 0 rfl rfl)
theorem dX19_isSeen_48 : decode cX19_isSeen 48 = .ok (.invokevirtual 451, 3) := dk_182 1 195 (dk_at dksX19_isSeen_2 3 rfl rfl)
theorem dX19_isSeen_51 : decode cX19_isSeen 51 = .ok (.ifCond .eq 5, 3) := dk_153 0 5 (dk_at dksX19_isSeen_2 6 rfl rfl)
theorem dX19_isSeen_54 : decode cX19_isSeen 54 = .ok (.iconst 0, 1) := dk_3 (dk_at dksX19_isSeen_2 9 rfl rfl)
theorem dX19_isSeen_55 : decode cX19_isSeen 55 = .ok (.ireturn, 1) := dk_172 (dk_at dksX19_isSeen_2 10 rfl rfl)
theorem dX19_isSeen_56 : decode cX19_isSeen 56 = .ok (.iinc 2 1, 3) := dk_132 2 1 (dk_at dksX19_isSeen_2 11 rfl rfl)
theorem dX19_isSeen_59 : decode cX19_isSeen 59 = .ok (.goto (-47), 3) := dk_167 255 209 (dk_at dksX19_isSeen_2 14 rfl rfl)
theorem dX19_isSeen_62 : decode cX19_isSeen 62 = .ok (.iinc 1 1, 3) := dk_132 1 1 (dk_at dksX19_isSeen_2 17 rfl rfl)
theorem dX19_isSeen_65 : decode cX19_isSeen 65 = .ok (.goto (-63), 3) := dk_167 255 193 (dk_at dksX19_isSeen_2 20 rfl rfl)
theorem dX19_isSeen_68 : decode cX19_isSeen 68 = .ok (.iconst 1, 1) := dk_4 (dk_at dksX19_isSeen_2 23 rfl rfl)
theorem dX19_isSeen_69 : decode cX19_isSeen 69 = .ok (.ireturn, 1) := dk_172 (dk_at dksX19_isSeen_3 0 rfl rfl)
abbrev cX19_becomes : ByteArray := prog_23_method_83_code
def yX19_becomes : MethodName := ⟨RX19, "becomes", "(II)I"⟩
def dkwX19_becomes_4 : List UInt8 := [42, 180, 1, 73, 182, 1, 98, 104, 21, 4, 96, 172]
abbrev dktX19_becomes_4 : List UInt8 := dkwX19_becomes_4 ++ []
def dkwX19_becomes_3 : List UInt8 := [21, 5, 21, 6, 159, 0, 11, 21, 4, 6, 28, 120, 130, 54, 4, 42, 42, 180, 0, 39, 3, 182, 1, 95]
abbrev dktX19_becomes_3 : List UInt8 := dkwX19_becomes_3 ++ dktX19_becomes_4
def dkwX19_becomes_2 : List UInt8 := [182, 1, 98, 112, 54, 4, 21, 4, 28, 122, 4, 126, 54, 5, 21, 4, 28, 4, 96, 122, 4, 126, 54, 6]
abbrev dktX19_becomes_2 : List UInt8 := dkwX19_becomes_2 ++ dktX19_becomes_3
def dkwX19_becomes_1 : List UInt8 := [180, 0, 39, 28, 4, 96, 46, 79, 42, 180, 0, 39, 28, 4, 96, 29, 79, 27, 42, 180, 1, 73]
abbrev dktX19_becomes_1 : List UInt8 := dkwX19_becomes_1 ++ dktX19_becomes_2
def dkwX19_becomes_0 : List UInt8 := [42, 27, 42, 180, 0, 39, 182, 1, 125, 42, 180, 0, 39, 28, 46, 62, 42, 180, 0, 39, 28, 42]
abbrev dktX19_becomes_0 : List UInt8 := dkwX19_becomes_0 ++ dktX19_becomes_1
theorem dksX19_becomes_0 : cX19_becomes.data.toList.drop 0 = dktX19_becomes_0 := by decide +kernel
theorem dksX19_becomes_1 : cX19_becomes.data.toList.drop 22 = dktX19_becomes_1 := dk_seg dksX19_becomes_0 22 rfl rfl
theorem dksX19_becomes_2 : cX19_becomes.data.toList.drop 44 = dktX19_becomes_2 := dk_seg dksX19_becomes_1 22 rfl rfl
theorem dksX19_becomes_3 : cX19_becomes.data.toList.drop 68 = dktX19_becomes_3 := dk_seg dksX19_becomes_2 24 rfl rfl
theorem dksX19_becomes_4 : cX19_becomes.data.toList.drop 92 = dktX19_becomes_4 := dk_seg dksX19_becomes_3 24 rfl rfl
theorem dX19_becomes_0 : decode cX19_becomes 0 = .ok (.aload_n 0, 1) := dk_42 (dk_at dksX19_becomes_0 0 rfl rfl)
theorem dX19_becomes_1 : decode cX19_becomes 1 = .ok (.iload_n 1, 1) := dk_27 (dk_at dksX19_becomes_0 1 rfl rfl)
theorem dX19_becomes_2 : decode cX19_becomes 2 = .ok (.aload_n 0, 1) := dk_42 (dk_at dksX19_becomes_0 2 rfl rfl)
theorem dX19_becomes_3 : decode cX19_becomes 3 = .ok (.getfield 39, 3) := dk_180 0 39 (dk_at dksX19_becomes_0 3 rfl rfl)
theorem dX19_becomes_6 : decode cX19_becomes 6 = .ok (.invokevirtual 381, 3) := dk_182 1 125 (dk_at dksX19_becomes_0 6 rfl rfl)
theorem dX19_becomes_9 : decode cX19_becomes 9 = .ok (.aload_n 0, 1) := dk_42 (dk_at dksX19_becomes_0 9 rfl rfl)
theorem dX19_becomes_10 : decode cX19_becomes 10 = .ok (.getfield 39, 3) := dk_180 0 39 (dk_at dksX19_becomes_0 10 rfl rfl)
theorem dX19_becomes_13 : decode cX19_becomes 13 = .ok (.iload_n 2, 1) := dk_28 (dk_at dksX19_becomes_0 13 rfl rfl)
theorem dX19_becomes_14 : decode cX19_becomes 14 = .ok (.iaload, 1) := dk_46 (dk_at dksX19_becomes_0 14 rfl rfl)
theorem dX19_becomes_15 : decode cX19_becomes 15 = .ok (.istore_n 3, 1) := dk_62 (dk_at dksX19_becomes_0 15 rfl rfl)
theorem dX19_becomes_16 : decode cX19_becomes 16 = .ok (.aload_n 0, 1) := dk_42 (dk_at dksX19_becomes_0 16 rfl rfl)
theorem dX19_becomes_17 : decode cX19_becomes 17 = .ok (.getfield 39, 3) := dk_180 0 39 (dk_at dksX19_becomes_0 17 rfl rfl)
theorem dX19_becomes_20 : decode cX19_becomes 20 = .ok (.iload_n 2, 1) := dk_28 (dk_at dksX19_becomes_0 20 rfl rfl)
theorem dX19_becomes_21 : decode cX19_becomes 21 = .ok (.aload_n 0, 1) := dk_42 (dk_at dksX19_becomes_0 21 rfl rfl)
theorem dX19_becomes_22 : decode cX19_becomes 22 = .ok (.getfield 39, 3) := dk_180 0 39 (dk_at dksX19_becomes_1 0 rfl rfl)
theorem dX19_becomes_25 : decode cX19_becomes 25 = .ok (.iload_n 2, 1) := dk_28 (dk_at dksX19_becomes_1 3 rfl rfl)
theorem dX19_becomes_26 : decode cX19_becomes 26 = .ok (.iconst 1, 1) := dk_4 (dk_at dksX19_becomes_1 4 rfl rfl)
theorem dX19_becomes_27 : decode cX19_becomes 27 = .ok (.iadd, 1) := dk_96 (dk_at dksX19_becomes_1 5 rfl rfl)
theorem dX19_becomes_28 : decode cX19_becomes 28 = .ok (.iaload, 1) := dk_46 (dk_at dksX19_becomes_1 6 rfl rfl)
theorem dX19_becomes_29 : decode cX19_becomes 29 = .ok (.iastore, 1) := dk_79 (dk_at dksX19_becomes_1 7 rfl rfl)
theorem dX19_becomes_30 : decode cX19_becomes 30 = .ok (.aload_n 0, 1) := dk_42 (dk_at dksX19_becomes_1 8 rfl rfl)
theorem dX19_becomes_31 : decode cX19_becomes 31 = .ok (.getfield 39, 3) := dk_180 0 39 (dk_at dksX19_becomes_1 9 rfl rfl)
theorem dX19_becomes_34 : decode cX19_becomes 34 = .ok (.iload_n 2, 1) := dk_28 (dk_at dksX19_becomes_1 12 rfl rfl)
theorem dX19_becomes_35 : decode cX19_becomes 35 = .ok (.iconst 1, 1) := dk_4 (dk_at dksX19_becomes_1 13 rfl rfl)
theorem dX19_becomes_36 : decode cX19_becomes 36 = .ok (.iadd, 1) := dk_96 (dk_at dksX19_becomes_1 14 rfl rfl)
theorem dX19_becomes_37 : decode cX19_becomes 37 = .ok (.iload_n 3, 1) := dk_29 (dk_at dksX19_becomes_1 15 rfl rfl)
theorem dX19_becomes_38 : decode cX19_becomes 38 = .ok (.iastore, 1) := dk_79 (dk_at dksX19_becomes_1 16 rfl rfl)
theorem dX19_becomes_39 : decode cX19_becomes 39 = .ok (.iload_n 1, 1) := dk_27 (dk_at dksX19_becomes_1 17 rfl rfl)
theorem dX19_becomes_40 : decode cX19_becomes 40 = .ok (.aload_n 0, 1) := dk_42 (dk_at dksX19_becomes_1 18 rfl rfl)
theorem dX19_becomes_41 : decode cX19_becomes 41 = .ok (.getfield 329, 3) := dk_180 1 73 (dk_at dksX19_becomes_1 19 rfl rfl)
theorem dX19_becomes_44 : decode cX19_becomes 44 = .ok (.invokevirtual 354, 3) := dk_182 1 98 (dk_at dksX19_becomes_2 0 rfl rfl)
theorem dX19_becomes_47 : decode cX19_becomes 47 = .ok (.irem, 1) := dk_112 (dk_at dksX19_becomes_2 3 rfl rfl)
theorem dX19_becomes_48 : decode cX19_becomes 48 = .ok (.istore 4, 2) := dk_54 4 (dk_at dksX19_becomes_2 4 rfl rfl)
theorem dX19_becomes_50 : decode cX19_becomes 50 = .ok (.iload 4, 2) := dk_21 4 (dk_at dksX19_becomes_2 6 rfl rfl)
theorem dX19_becomes_52 : decode cX19_becomes 52 = .ok (.iload_n 2, 1) := dk_28 (dk_at dksX19_becomes_2 8 rfl rfl)
theorem dX19_becomes_53 : decode cX19_becomes 53 = .ok (.ishr, 1) := dk_122 (dk_at dksX19_becomes_2 9 rfl rfl)
theorem dX19_becomes_54 : decode cX19_becomes 54 = .ok (.iconst 1, 1) := dk_4 (dk_at dksX19_becomes_2 10 rfl rfl)
theorem dX19_becomes_55 : decode cX19_becomes 55 = .ok (.iand, 1) := dk_126 (dk_at dksX19_becomes_2 11 rfl rfl)
theorem dX19_becomes_56 : decode cX19_becomes 56 = .ok (.istore 5, 2) := dk_54 5 (dk_at dksX19_becomes_2 12 rfl rfl)
theorem dX19_becomes_58 : decode cX19_becomes 58 = .ok (.iload 4, 2) := dk_21 4 (dk_at dksX19_becomes_2 14 rfl rfl)
theorem dX19_becomes_60 : decode cX19_becomes 60 = .ok (.iload_n 2, 1) := dk_28 (dk_at dksX19_becomes_2 16 rfl rfl)
theorem dX19_becomes_61 : decode cX19_becomes 61 = .ok (.iconst 1, 1) := dk_4 (dk_at dksX19_becomes_2 17 rfl rfl)
theorem dX19_becomes_62 : decode cX19_becomes 62 = .ok (.iadd, 1) := dk_96 (dk_at dksX19_becomes_2 18 rfl rfl)
theorem dX19_becomes_63 : decode cX19_becomes 63 = .ok (.ishr, 1) := dk_122 (dk_at dksX19_becomes_2 19 rfl rfl)
theorem dX19_becomes_64 : decode cX19_becomes 64 = .ok (.iconst 1, 1) := dk_4 (dk_at dksX19_becomes_2 20 rfl rfl)
theorem dX19_becomes_65 : decode cX19_becomes 65 = .ok (.iand, 1) := dk_126 (dk_at dksX19_becomes_2 21 rfl rfl)
theorem dX19_becomes_66 : decode cX19_becomes 66 = .ok (.istore 6, 2) := dk_54 6 (dk_at dksX19_becomes_2 22 rfl rfl)
theorem dX19_becomes_68 : decode cX19_becomes 68 = .ok (.iload 5, 2) := dk_21 5 (dk_at dksX19_becomes_3 0 rfl rfl)
theorem dX19_becomes_70 : decode cX19_becomes 70 = .ok (.iload 6, 2) := dk_21 6 (dk_at dksX19_becomes_3 2 rfl rfl)
theorem dX19_becomes_72 : decode cX19_becomes 72 = .ok (.if_icmp .eq 11, 3) := dk_159 0 11 (dk_at dksX19_becomes_3 4 rfl rfl)
theorem dX19_becomes_75 : decode cX19_becomes 75 = .ok (.iload 4, 2) := dk_21 4 (dk_at dksX19_becomes_3 7 rfl rfl)
theorem dX19_becomes_77 : decode cX19_becomes 77 = .ok (.iconst 3, 1) := dk_6 (dk_at dksX19_becomes_3 9 rfl rfl)
theorem dX19_becomes_78 : decode cX19_becomes 78 = .ok (.iload_n 2, 1) := dk_28 (dk_at dksX19_becomes_3 10 rfl rfl)
theorem dX19_becomes_79 : decode cX19_becomes 79 = .ok (.ishl, 1) := dk_120 (dk_at dksX19_becomes_3 11 rfl rfl)
theorem dX19_becomes_80 : decode cX19_becomes 80 = .ok (.ixor, 1) := dk_130 (dk_at dksX19_becomes_3 12 rfl rfl)
theorem dX19_becomes_81 : decode cX19_becomes 81 = .ok (.istore 4, 2) := dk_54 4 (dk_at dksX19_becomes_3 13 rfl rfl)
theorem dX19_becomes_83 : decode cX19_becomes 83 = .ok (.aload_n 0, 1) := dk_42 (dk_at dksX19_becomes_3 15 rfl rfl)
theorem dX19_becomes_84 : decode cX19_becomes 84 = .ok (.aload_n 0, 1) := dk_42 (dk_at dksX19_becomes_3 16 rfl rfl)
theorem dX19_becomes_85 : decode cX19_becomes 85 = .ok (.getfield 39, 3) := dk_180 0 39 (dk_at dksX19_becomes_3 17 rfl rfl)
theorem dX19_becomes_88 : decode cX19_becomes 88 = .ok (.iconst 0, 1) := dk_3 (dk_at dksX19_becomes_3 20 rfl rfl)
theorem dX19_becomes_89 : decode cX19_becomes 89 = .ok (.invokevirtual 351, 3) := dk_182 1 95 (dk_at dksX19_becomes_3 21 rfl rfl)
theorem dX19_becomes_92 : decode cX19_becomes 92 = .ok (.aload_n 0, 1) := dk_42 (dk_at dksX19_becomes_4 0 rfl rfl)
theorem dX19_becomes_93 : decode cX19_becomes 93 = .ok (.getfield 329, 3) := dk_180 1 73 (dk_at dksX19_becomes_4 1 rfl rfl)
theorem dX19_becomes_96 : decode cX19_becomes 96 = .ok (.invokevirtual 354, 3) := dk_182 1 98 (dk_at dksX19_becomes_4 4 rfl rfl)
theorem dX19_becomes_99 : decode cX19_becomes 99 = .ok (.imul, 1) := dk_104 (dk_at dksX19_becomes_4 7 rfl rfl)
theorem dX19_becomes_100 : decode cX19_becomes 100 = .ok (.iload 4, 2) := dk_21 4 (dk_at dksX19_becomes_4 8 rfl rfl)
theorem dX19_becomes_102 : decode cX19_becomes 102 = .ok (.iadd, 1) := dk_96 (dk_at dksX19_becomes_4 10 rfl rfl)
theorem dX19_becomes_103 : decode cX19_becomes 103 = .ok (.ireturn, 1) := dk_172 (dk_at dksX19_becomes_4 11 rfl rfl)
abbrev cX19_isOwned : ByteArray := prog_23_method_87_code
def yX19_isOwned : MethodName := ⟨RX19, "isOwned", "(I)Z"⟩
def dkwX19_isOwned_0 : List UInt8 := [42, 180, 0, 43, 42, 27, 182, 1, 199, 46, 2, 159, 0, 7, 4, 167, 0, 4, 3, 172]
abbrev dktX19_isOwned_0 : List UInt8 := dkwX19_isOwned_0 ++ []
theorem dksX19_isOwned_0 : cX19_isOwned.data.toList.drop 0 = dktX19_isOwned_0 := by decide +kernel
theorem dX19_isOwned_0 : decode cX19_isOwned 0 = .ok (.aload_n 0, 1) := dk_42 (dk_at dksX19_isOwned_0 0 rfl rfl)
theorem dX19_isOwned_1 : decode cX19_isOwned 1 = .ok (.getfield 43, 3) := dk_180 0 43 (dk_at dksX19_isOwned_0 1 rfl rfl)
theorem dX19_isOwned_4 : decode cX19_isOwned 4 = .ok (.aload_n 0, 1) := dk_42 (dk_at dksX19_isOwned_0 4 rfl rfl)
theorem dX19_isOwned_5 : decode cX19_isOwned 5 = .ok (.iload_n 1, 1) := dk_27 (dk_at dksX19_isOwned_0 5 rfl rfl)
theorem dX19_isOwned_6 : decode cX19_isOwned 6 = .ok (.invokevirtual 455, 3) := dk_182 1 199 (dk_at dksX19_isOwned_0 6 rfl rfl)
theorem dX19_isOwned_9 : decode cX19_isOwned 9 = .ok (.iaload, 1) := dk_46 (dk_at dksX19_isOwned_0 9 rfl rfl)
theorem dX19_isOwned_10 : decode cX19_isOwned 10 = .ok (.iconst (-1), 1) := dk_2 (dk_at dksX19_isOwned_0 10 rfl rfl)
theorem dX19_isOwned_11 : decode cX19_isOwned 11 = .ok (.if_icmp .eq 7, 3) := dk_159 0 7 (dk_at dksX19_isOwned_0 11 rfl rfl)
theorem dX19_isOwned_14 : decode cX19_isOwned 14 = .ok (.iconst 1, 1) := dk_4 (dk_at dksX19_isOwned_0 14 rfl rfl)
theorem dX19_isOwned_15 : decode cX19_isOwned 15 = .ok (.goto 4, 3) := dk_167 0 4 (dk_at dksX19_isOwned_0 15 rfl rfl)
theorem dX19_isOwned_18 : decode cX19_isOwned 18 = .ok (.iconst 0, 1) := dk_3 (dk_at dksX19_isOwned_0 18 rfl rfl)
theorem dX19_isOwned_19 : decode cX19_isOwned 19 = .ok (.ireturn, 1) := dk_172 (dk_at dksX19_isOwned_0 19 rfl rfl)
abbrev cX19_borne : ByteArray := prog_23_method_93_code
def yX19_borne : MethodName := ⟨RX19, "borne", "(I)I"⟩
def dkwX19_borne_2 : List UInt8 := [182, 0, 96, 172]
abbrev dktX19_borne_2 : List UInt8 := dkwX19_borne_2 ++ []
def dkwX19_borne_1 : List UInt8 := [42, 182, 1, 208, 42, 42, 182, 1, 211, 153, 0, 14, 42, 182, 1, 217, 153, 0, 7, 4, 167, 0, 4, 3]
abbrev dktX19_borne_1 : List UInt8 := dkwX19_borne_1 ++ dktX19_borne_2
def dkwX19_borne_0 : List UInt8 := [42, 3, 181, 0, 86, 42, 27, 182, 1, 174, 154, 0, 9, 42, 4, 182, 0, 92, 172, 42, 27, 182, 1, 180]
abbrev dktX19_borne_0 : List UInt8 := dkwX19_borne_0 ++ dktX19_borne_1
theorem dksX19_borne_0 : cX19_borne.data.toList.drop 0 = dktX19_borne_0 := by decide +kernel
theorem dksX19_borne_1 : cX19_borne.data.toList.drop 24 = dktX19_borne_1 := dk_seg dksX19_borne_0 24 rfl rfl
theorem dksX19_borne_2 : cX19_borne.data.toList.drop 48 = dktX19_borne_2 := dk_seg dksX19_borne_1 24 rfl rfl
theorem dX19_borne_0 : decode cX19_borne 0 = .ok (.aload_n 0, 1) := dk_42 (dk_at dksX19_borne_0 0 rfl rfl)
theorem dX19_borne_1 : decode cX19_borne 1 = .ok (.iconst 0, 1) := dk_3 (dk_at dksX19_borne_0 1 rfl rfl)
theorem dX19_borne_2 : decode cX19_borne 2 = .ok (.putfield 86, 3) := dk_181 0 86 (dk_at dksX19_borne_0 2 rfl rfl)
theorem dX19_borne_5 : decode cX19_borne 5 = .ok (.aload_n 0, 1) := dk_42 (dk_at dksX19_borne_0 5 rfl rfl)
theorem dX19_borne_6 : decode cX19_borne 6 = .ok (.iload_n 1, 1) := dk_27 (dk_at dksX19_borne_0 6 rfl rfl)
theorem dX19_borne_7 : decode cX19_borne 7 = .ok (.invokevirtual 430, 3) := dk_182 1 174 (dk_at dksX19_borne_0 7 rfl rfl)
theorem dX19_borne_10 : decode cX19_borne 10 = .ok (.ifCond .ne 9, 3) := dk_154 0 9 (dk_at dksX19_borne_0 10 rfl rfl)
theorem dX19_borne_13 : decode cX19_borne 13 = .ok (.aload_n 0, 1) := dk_42 (dk_at dksX19_borne_0 13 rfl rfl)
theorem dX19_borne_14 : decode cX19_borne 14 = .ok (.iconst 1, 1) := dk_4 (dk_at dksX19_borne_0 14 rfl rfl)
theorem dX19_borne_15 : decode cX19_borne 15 = .ok (.invokevirtual 92, 3) := dk_182 0 92 (dk_at dksX19_borne_0 15 rfl rfl)
theorem dX19_borne_18 : decode cX19_borne 18 = .ok (.ireturn, 1) := dk_172 (dk_at dksX19_borne_0 18 rfl rfl)
theorem dX19_borne_19 : decode cX19_borne 19 = .ok (.aload_n 0, 1) := dk_42 (dk_at dksX19_borne_0 19 rfl rfl)
theorem dX19_borne_20 : decode cX19_borne 20 = .ok (.iload_n 1, 1) := dk_27 (dk_at dksX19_borne_0 20 rfl rfl)
theorem dX19_borne_21 : decode cX19_borne 21 = .ok (.invokevirtual 436, 3) := dk_182 1 180 (dk_at dksX19_borne_0 21 rfl rfl)
theorem dX19_borne_24 : decode cX19_borne 24 = .ok (.aload_n 0, 1) := dk_42 (dk_at dksX19_borne_1 0 rfl rfl)
theorem dX19_borne_25 : decode cX19_borne 25 = .ok (.invokevirtual 464, 3) := dk_182 1 208 (dk_at dksX19_borne_1 1 rfl rfl)
theorem dX19_borne_28 : decode cX19_borne 28 = .ok (.aload_n 0, 1) := dk_42 (dk_at dksX19_borne_1 4 rfl rfl)
theorem dX19_borne_29 : decode cX19_borne 29 = .ok (.aload_n 0, 1) := dk_42 (dk_at dksX19_borne_1 5 rfl rfl)
theorem dX19_borne_30 : decode cX19_borne 30 = .ok (.invokevirtual 467, 3) := dk_182 1 211 (dk_at dksX19_borne_1 6 rfl rfl)
theorem dX19_borne_33 : decode cX19_borne 33 = .ok (.ifCond .eq 14, 3) := dk_153 0 14 (dk_at dksX19_borne_1 9 rfl rfl)
theorem dX19_borne_36 : decode cX19_borne 36 = .ok (.aload_n 0, 1) := dk_42 (dk_at dksX19_borne_1 12 rfl rfl)
theorem dX19_borne_37 : decode cX19_borne 37 = .ok (.invokevirtual 473, 3) := dk_182 1 217 (dk_at dksX19_borne_1 13 rfl rfl)
theorem dX19_borne_40 : decode cX19_borne 40 = .ok (.ifCond .eq 7, 3) := dk_153 0 7 (dk_at dksX19_borne_1 16 rfl rfl)
theorem dX19_borne_43 : decode cX19_borne 43 = .ok (.iconst 1, 1) := dk_4 (dk_at dksX19_borne_1 19 rfl rfl)
theorem dX19_borne_44 : decode cX19_borne 44 = .ok (.goto 4, 3) := dk_167 0 4 (dk_at dksX19_borne_1 20 rfl rfl)
theorem dX19_borne_47 : decode cX19_borne 47 = .ok (.iconst 0, 1) := dk_3 (dk_at dksX19_borne_1 23 rfl rfl)
theorem dX19_borne_48 : decode cX19_borne 48 = .ok (.invokevirtual 96, 3) := dk_182 0 96 (dk_at dksX19_borne_2 0 rfl rfl)
theorem dX19_borne_51 : decode cX19_borne 51 = .ok (.ireturn, 1) := dk_172 (dk_at dksX19_borne_2 3 rfl rfl)
abbrev cX19_isBorne : ByteArray := prog_23_method_92_code
def yX19_isBorne : MethodName := ⟨RX19, "isBorne", "()Z"⟩
def dkwX19_isBorne_4 : List UInt8 := [132, 1, 1, 167, 255, 164, 4, 172]
abbrev dktX19_isBorne_4 : List UInt8 := dkwX19_isBorne_4 ++ []
def dkwX19_isBorne_3 : List UInt8 := [46, 159, 0, 5, 3, 172, 42, 29, 42, 180, 0, 36, 27, 46, 182, 1, 205, 132, 2, 1, 167, 255, 180]
abbrev dktX19_isBorne_3 : List UInt8 := dkwX19_isBorne_3 ++ dktX19_isBorne_4
def dkwX19_isBorne_2 : List UInt8 := [182, 1, 192, 62, 42, 29, 182, 1, 214, 54, 4, 21, 4, 2, 159, 0, 16, 21, 4, 42, 180, 0, 36, 27]
abbrev dktX19_isBorne_2 : List UInt8 := dkwX19_isBorne_2 ++ dktX19_isBorne_3
def dkwX19_isBorne_1 : List UInt8 := [162, 0, 69, 42, 180, 0, 36, 27, 46, 16, 254, 159, 0, 58, 42, 42, 180, 0, 36, 27, 46, 28]
abbrev dktX19_isBorne_1 : List UInt8 := dkwX19_isBorne_1 ++ dktX19_isBorne_2
def dkwX19_isBorne_0 : List UInt8 := [3, 60, 27, 42, 180, 1, 100, 162, 0, 90, 3, 61, 28, 4, 96, 42, 180, 1, 73, 180, 1, 1]
abbrev dktX19_isBorne_0 : List UInt8 := dkwX19_isBorne_0 ++ dktX19_isBorne_1
theorem dksX19_isBorne_0 : cX19_isBorne.data.toList.drop 0 = dktX19_isBorne_0 := by decide +kernel
theorem dksX19_isBorne_1 : cX19_isBorne.data.toList.drop 22 = dktX19_isBorne_1 := dk_seg dksX19_isBorne_0 22 rfl rfl
theorem dksX19_isBorne_2 : cX19_isBorne.data.toList.drop 44 = dktX19_isBorne_2 := dk_seg dksX19_isBorne_1 22 rfl rfl
theorem dksX19_isBorne_3 : cX19_isBorne.data.toList.drop 68 = dktX19_isBorne_3 := dk_seg dksX19_isBorne_2 24 rfl rfl
theorem dksX19_isBorne_4 : cX19_isBorne.data.toList.drop 91 = dktX19_isBorne_4 := dk_seg dksX19_isBorne_3 23 rfl rfl
theorem dX19_isBorne_0 : decode cX19_isBorne 0 = .ok (.iconst 0, 1) := dk_3 (dk_at dksX19_isBorne_0 0 rfl rfl)
theorem dX19_isBorne_1 : decode cX19_isBorne 1 = .ok (.istore_n 1, 1) := dk_60 (dk_at dksX19_isBorne_0 1 rfl rfl)
theorem dX19_isBorne_2 : decode cX19_isBorne 2 = .ok (.iload_n 1, 1) := dk_27 (dk_at dksX19_isBorne_0 2 rfl rfl)
theorem dX19_isBorne_3 : decode cX19_isBorne 3 = .ok (.aload_n 0, 1) := dk_42 (dk_at dksX19_isBorne_0 3 rfl rfl)
theorem dX19_isBorne_4 : decode cX19_isBorne 4 = .ok (.getfield 356, 3) := dk_180 1 100 (dk_at dksX19_isBorne_0 4 rfl rfl)
theorem dX19_isBorne_7 : decode cX19_isBorne 7 = .ok (.if_icmp .ge 90, 3) := dk_162 0 90 (dk_at dksX19_isBorne_0 7 rfl rfl)
theorem dX19_isBorne_10 : decode cX19_isBorne 10 = .ok (.iconst 0, 1) := dk_3 (dk_at dksX19_isBorne_0 10 rfl rfl)
theorem dX19_isBorne_11 : decode cX19_isBorne 11 = .ok (.istore_n 2, 1) := dk_61 (dk_at dksX19_isBorne_0 11 rfl rfl)
theorem dX19_isBorne_12 : decode cX19_isBorne 12 = .ok (.iload_n 2, 1) := dk_28 (dk_at dksX19_isBorne_0 12 rfl rfl)
theorem dX19_isBorne_13 : decode cX19_isBorne 13 = .ok (.iconst 1, 1) := dk_4 (dk_at dksX19_isBorne_0 13 rfl rfl)
theorem dX19_isBorne_14 : decode cX19_isBorne 14 = .ok (.iadd, 1) := dk_96 (dk_at dksX19_isBorne_0 14 rfl rfl)
theorem dX19_isBorne_15 : decode cX19_isBorne 15 = .ok (.aload_n 0, 1) := dk_42 (dk_at dksX19_isBorne_0 15 rfl rfl)
theorem dX19_isBorne_16 : decode cX19_isBorne 16 = .ok (.getfield 329, 3) := dk_180 1 73 (dk_at dksX19_isBorne_0 16 rfl rfl)
theorem dX19_isBorne_19 : decode cX19_isBorne 19 = .ok (.getfield 257, 3) := dk_180 1 1 (dk_at dksX19_isBorne_0 19 rfl rfl)
theorem dX19_isBorne_22 : decode cX19_isBorne 22 = .ok (.if_icmp .ge 69, 3) := dk_162 0 69 (dk_at dksX19_isBorne_1 0 rfl rfl)
theorem dX19_isBorne_25 : decode cX19_isBorne 25 = .ok (.aload_n 0, 1) := dk_42 (dk_at dksX19_isBorne_1 3 rfl rfl)
theorem dX19_isBorne_26 : decode cX19_isBorne 26 = .ok (.getfield 36, 3) := dk_180 0 36 (dk_at dksX19_isBorne_1 4 rfl rfl)
theorem dX19_isBorne_29 : decode cX19_isBorne 29 = .ok (.iload_n 1, 1) := dk_27 (dk_at dksX19_isBorne_1 7 rfl rfl)
theorem dX19_isBorne_30 : decode cX19_isBorne 30 = .ok (.iaload, 1) := dk_46 (dk_at dksX19_isBorne_1 8 rfl rfl)
theorem dX19_isBorne_31 : decode cX19_isBorne 31 = .ok (.bipush (-2), 2) := dk_16 254 (dk_at dksX19_isBorne_1 9 rfl rfl)
theorem dX19_isBorne_33 : decode cX19_isBorne 33 = .ok (.if_icmp .eq 58, 3) := dk_159 0 58 (dk_at dksX19_isBorne_1 11 rfl rfl)
theorem dX19_isBorne_36 : decode cX19_isBorne 36 = .ok (.aload_n 0, 1) := dk_42 (dk_at dksX19_isBorne_1 14 rfl rfl)
theorem dX19_isBorne_37 : decode cX19_isBorne 37 = .ok (.aload_n 0, 1) := dk_42 (dk_at dksX19_isBorne_1 15 rfl rfl)
theorem dX19_isBorne_38 : decode cX19_isBorne 38 = .ok (.getfield 36, 3) := dk_180 0 36 (dk_at dksX19_isBorne_1 16 rfl rfl)
theorem dX19_isBorne_41 : decode cX19_isBorne 41 = .ok (.iload_n 1, 1) := dk_27 (dk_at dksX19_isBorne_1 19 rfl rfl)
theorem dX19_isBorne_42 : decode cX19_isBorne 42 = .ok (.iaload, 1) := dk_46 (dk_at dksX19_isBorne_1 20 rfl rfl)
theorem dX19_isBorne_43 : decode cX19_isBorne 43 = .ok (.iload_n 2, 1) := dk_28 (dk_at dksX19_isBorne_1 21 rfl rfl)
theorem dX19_isBorne_44 : decode cX19_isBorne 44 = .ok (.invokevirtual 448, 3) := dk_182 1 192 (dk_at dksX19_isBorne_2 0 rfl rfl)
theorem dX19_isBorne_47 : decode cX19_isBorne 47 = .ok (.istore_n 3, 1) := dk_62 (dk_at dksX19_isBorne_2 3 rfl rfl)
theorem dX19_isBorne_48 : decode cX19_isBorne 48 = .ok (.aload_n 0, 1) := dk_42 (dk_at dksX19_isBorne_2 4 rfl rfl)
theorem dX19_isBorne_49 : decode cX19_isBorne 49 = .ok (.iload_n 3, 1) := dk_29 (dk_at dksX19_isBorne_2 5 rfl rfl)
theorem dX19_isBorne_50 : decode cX19_isBorne 50 = .ok (.invokevirtual 470, 3) := dk_182 1 214 (dk_at dksX19_isBorne_2 6 rfl rfl)
theorem dX19_isBorne_53 : decode cX19_isBorne 53 = .ok (.istore 4, 2) := dk_54 4 (dk_at dksX19_isBorne_2 9 rfl rfl)
theorem dX19_isBorne_55 : decode cX19_isBorne 55 = .ok (.iload 4, 2) := dk_21 4 (dk_at dksX19_isBorne_2 11 rfl rfl)
theorem dX19_isBorne_57 : decode cX19_isBorne 57 = .ok (.iconst (-1), 1) := dk_2 (dk_at dksX19_isBorne_2 13 rfl rfl)
theorem dX19_isBorne_58 : decode cX19_isBorne 58 = .ok (.if_icmp .eq 16, 3) := dk_159 0 16 (dk_at dksX19_isBorne_2 14 rfl rfl)
theorem dX19_isBorne_61 : decode cX19_isBorne 61 = .ok (.iload 4, 2) := dk_21 4 (dk_at dksX19_isBorne_2 17 rfl rfl)
theorem dX19_isBorne_63 : decode cX19_isBorne 63 = .ok (.aload_n 0, 1) := dk_42 (dk_at dksX19_isBorne_2 19 rfl rfl)
theorem dX19_isBorne_64 : decode cX19_isBorne 64 = .ok (.getfield 36, 3) := dk_180 0 36 (dk_at dksX19_isBorne_2 20 rfl rfl)
theorem dX19_isBorne_67 : decode cX19_isBorne 67 = .ok (.iload_n 1, 1) := dk_27 (dk_at dksX19_isBorne_2 23 rfl rfl)
theorem dX19_isBorne_68 : decode cX19_isBorne 68 = .ok (.iaload, 1) := dk_46 (dk_at dksX19_isBorne_3 0 rfl rfl)
theorem dX19_isBorne_69 : decode cX19_isBorne 69 = .ok (.if_icmp .eq 5, 3) := dk_159 0 5 (dk_at dksX19_isBorne_3 1 rfl rfl)
theorem dX19_isBorne_72 : decode cX19_isBorne 72 = .ok (.iconst 0, 1) := dk_3 (dk_at dksX19_isBorne_3 4 rfl rfl)
theorem dX19_isBorne_73 : decode cX19_isBorne 73 = .ok (.ireturn, 1) := dk_172 (dk_at dksX19_isBorne_3 5 rfl rfl)
theorem dX19_isBorne_74 : decode cX19_isBorne 74 = .ok (.aload_n 0, 1) := dk_42 (dk_at dksX19_isBorne_3 6 rfl rfl)
theorem dX19_isBorne_75 : decode cX19_isBorne 75 = .ok (.iload_n 3, 1) := dk_29 (dk_at dksX19_isBorne_3 7 rfl rfl)
theorem dX19_isBorne_76 : decode cX19_isBorne 76 = .ok (.aload_n 0, 1) := dk_42 (dk_at dksX19_isBorne_3 8 rfl rfl)
theorem dX19_isBorne_77 : decode cX19_isBorne 77 = .ok (.getfield 36, 3) := dk_180 0 36 (dk_at dksX19_isBorne_3 9 rfl rfl)
theorem dX19_isBorne_80 : decode cX19_isBorne 80 = .ok (.iload_n 1, 1) := dk_27 (dk_at dksX19_isBorne_3 12 rfl rfl)
theorem dX19_isBorne_81 : decode cX19_isBorne 81 = .ok (.iaload, 1) := dk_46 (dk_at dksX19_isBorne_3 13 rfl rfl)
theorem dX19_isBorne_82 : decode cX19_isBorne 82 = .ok (.invokevirtual 461, 3) := dk_182 1 205 (dk_at dksX19_isBorne_3 14 rfl rfl)
theorem dX19_isBorne_85 : decode cX19_isBorne 85 = .ok (.iinc 2 1, 3) := dk_132 2 1 (dk_at dksX19_isBorne_3 17 rfl rfl)
theorem dX19_isBorne_88 : decode cX19_isBorne 88 = .ok (.goto (-76), 3) := dk_167 255 180 (dk_at dksX19_isBorne_3 20 rfl rfl)
theorem dX19_isBorne_91 : decode cX19_isBorne 91 = .ok (.iinc 1 1, 3) := dk_132 1 1 (dk_at dksX19_isBorne_4 0 rfl rfl)
theorem dX19_isBorne_94 : decode cX19_isBorne 94 = .ok (.goto (-92), 3) := dk_167 255 164 (dk_at dksX19_isBorne_4 3 rfl rfl)
theorem dX19_isBorne_97 : decode cX19_isBorne 97 = .ok (.iconst 1, 1) := dk_4 (dk_at dksX19_isBorne_4 6 rfl rfl)
theorem dX19_isBorne_98 : decode cX19_isBorne 98 = .ok (.ireturn, 1) := dk_172 (dk_at dksX19_isBorne_4 7 rfl rfl)
abbrev cX19_wordsWork : ByteArray := prog_23_method_94_code
def yX19_wordsWork : MethodName := ⟨RX19, "wordsWork", "(I)I"⟩
def dkwX19_wordsWork_2 : List UInt8 := [153, 0, 7, 4, 167, 0, 4, 3, 182, 0, 96, 172]
abbrev dktX19_wordsWork_2 : List UInt8 := dkwX19_wordsWork_2 ++ []
def dkwX19_wordsWork_1 : List UInt8 := [184, 0, 168, 154, 0, 9, 42, 5, 182, 0, 92, 172, 42, 27, 182, 1, 220, 42, 42, 182, 1, 189]
abbrev dktX19_wordsWork_1 : List UInt8 := dkwX19_wordsWork_1 ++ dktX19_wordsWork_2
def dkwX19_wordsWork_0 : List UInt8 := [42, 3, 181, 0, 86, 42, 180, 1, 73, 199, 0, 9, 42, 4, 182, 0, 92, 172, 27, 3, 16, 19]
abbrev dktX19_wordsWork_0 : List UInt8 := dkwX19_wordsWork_0 ++ dktX19_wordsWork_1
theorem dksX19_wordsWork_0 : cX19_wordsWork.data.toList.drop 0 = dktX19_wordsWork_0 := by decide +kernel
theorem dksX19_wordsWork_1 : cX19_wordsWork.data.toList.drop 22 = dktX19_wordsWork_1 := dk_seg dksX19_wordsWork_0 22 rfl rfl
theorem dksX19_wordsWork_2 : cX19_wordsWork.data.toList.drop 44 = dktX19_wordsWork_2 := dk_seg dksX19_wordsWork_1 22 rfl rfl
theorem dX19_wordsWork_0 : decode cX19_wordsWork 0 = .ok (.aload_n 0, 1) := dk_42 (dk_at dksX19_wordsWork_0 0 rfl rfl)
theorem dX19_wordsWork_1 : decode cX19_wordsWork 1 = .ok (.iconst 0, 1) := dk_3 (dk_at dksX19_wordsWork_0 1 rfl rfl)
theorem dX19_wordsWork_2 : decode cX19_wordsWork 2 = .ok (.putfield 86, 3) := dk_181 0 86 (dk_at dksX19_wordsWork_0 2 rfl rfl)
theorem dX19_wordsWork_5 : decode cX19_wordsWork 5 = .ok (.aload_n 0, 1) := dk_42 (dk_at dksX19_wordsWork_0 5 rfl rfl)
theorem dX19_wordsWork_6 : decode cX19_wordsWork 6 = .ok (.getfield 329, 3) := dk_180 1 73 (dk_at dksX19_wordsWork_0 6 rfl rfl)
theorem dX19_wordsWork_9 : decode cX19_wordsWork 9 = .ok (.ifnonnull 9, 3) := dk_199 0 9 (dk_at dksX19_wordsWork_0 9 rfl rfl)
theorem dX19_wordsWork_12 : decode cX19_wordsWork 12 = .ok (.aload_n 0, 1) := dk_42 (dk_at dksX19_wordsWork_0 12 rfl rfl)
theorem dX19_wordsWork_13 : decode cX19_wordsWork 13 = .ok (.iconst 1, 1) := dk_4 (dk_at dksX19_wordsWork_0 13 rfl rfl)
theorem dX19_wordsWork_14 : decode cX19_wordsWork 14 = .ok (.invokevirtual 92, 3) := dk_182 0 92 (dk_at dksX19_wordsWork_0 14 rfl rfl)
theorem dX19_wordsWork_17 : decode cX19_wordsWork 17 = .ok (.ireturn, 1) := dk_172 (dk_at dksX19_wordsWork_0 17 rfl rfl)
theorem dX19_wordsWork_18 : decode cX19_wordsWork 18 = .ok (.iload_n 1, 1) := dk_27 (dk_at dksX19_wordsWork_0 18 rfl rfl)
theorem dX19_wordsWork_19 : decode cX19_wordsWork 19 = .ok (.iconst 0, 1) := dk_3 (dk_at dksX19_wordsWork_0 19 rfl rfl)
theorem dX19_wordsWork_20 : decode cX19_wordsWork 20 = .ok (.bipush 19, 2) := dk_16 19 (dk_at dksX19_wordsWork_0 20 rfl rfl)
theorem dX19_wordsWork_22 : decode cX19_wordsWork 22 = .ok (.invokestatic 168, 3) := dk_184 0 168 (dk_at dksX19_wordsWork_1 0 rfl rfl)
theorem dX19_wordsWork_25 : decode cX19_wordsWork 25 = .ok (.ifCond .ne 9, 3) := dk_154 0 9 (dk_at dksX19_wordsWork_1 3 rfl rfl)
theorem dX19_wordsWork_28 : decode cX19_wordsWork 28 = .ok (.aload_n 0, 1) := dk_42 (dk_at dksX19_wordsWork_1 6 rfl rfl)
theorem dX19_wordsWork_29 : decode cX19_wordsWork 29 = .ok (.iconst 2, 1) := dk_5 (dk_at dksX19_wordsWork_1 7 rfl rfl)
theorem dX19_wordsWork_30 : decode cX19_wordsWork 30 = .ok (.invokevirtual 92, 3) := dk_182 0 92 (dk_at dksX19_wordsWork_1 8 rfl rfl)
theorem dX19_wordsWork_33 : decode cX19_wordsWork 33 = .ok (.ireturn, 1) := dk_172 (dk_at dksX19_wordsWork_1 11 rfl rfl)
theorem dX19_wordsWork_34 : decode cX19_wordsWork 34 = .ok (.aload_n 0, 1) := dk_42 (dk_at dksX19_wordsWork_1 12 rfl rfl)
theorem dX19_wordsWork_35 : decode cX19_wordsWork 35 = .ok (.iload_n 1, 1) := dk_27 (dk_at dksX19_wordsWork_1 13 rfl rfl)
theorem dX19_wordsWork_36 : decode cX19_wordsWork 36 = .ok (.invokevirtual 476, 3) := dk_182 1 220 (dk_at dksX19_wordsWork_1 14 rfl rfl)
theorem dX19_wordsWork_39 : decode cX19_wordsWork 39 = .ok (.aload_n 0, 1) := dk_42 (dk_at dksX19_wordsWork_1 17 rfl rfl)
theorem dX19_wordsWork_40 : decode cX19_wordsWork 40 = .ok (.aload_n 0, 1) := dk_42 (dk_at dksX19_wordsWork_1 18 rfl rfl)
theorem dX19_wordsWork_41 : decode cX19_wordsWork 41 = .ok (.invokevirtual 445, 3) := dk_182 1 189 (dk_at dksX19_wordsWork_1 19 rfl rfl)
theorem dX19_wordsWork_44 : decode cX19_wordsWork 44 = .ok (.ifCond .eq 7, 3) := dk_153 0 7 (dk_at dksX19_wordsWork_2 0 rfl rfl)
theorem dX19_wordsWork_47 : decode cX19_wordsWork 47 = .ok (.iconst 1, 1) := dk_4 (dk_at dksX19_wordsWork_2 3 rfl rfl)
theorem dX19_wordsWork_48 : decode cX19_wordsWork 48 = .ok (.goto 4, 3) := dk_167 0 4 (dk_at dksX19_wordsWork_2 4 rfl rfl)
theorem dX19_wordsWork_51 : decode cX19_wordsWork 51 = .ok (.iconst 0, 1) := dk_3 (dk_at dksX19_wordsWork_2 7 rfl rfl)
theorem dX19_wordsWork_52 : decode cX19_wordsWork 52 = .ok (.invokevirtual 96, 3) := dk_182 0 96 (dk_at dksX19_wordsWork_2 8 rfl rfl)
theorem dX19_wordsWork_55 : decode cX19_wordsWork 55 = .ok (.ireturn, 1) := dk_172 (dk_at dksX19_wordsWork_2 11 rfl rfl)
abbrev cX19_laysAllWords : ByteArray := prog_23_method_74_code
def yX19_laysAllWords : MethodName := ⟨RX19, "laysAllWords", "(I)V"⟩
def dkwX19_laysAllWords_1 : List UInt8 := [132, 2, 1, 167, 255, 233, 177]
abbrev dktX19_laysAllWords_1 : List UInt8 := dkwX19_laysAllWords_1 ++ []
def dkwX19_laysAllWords_0 : List UInt8 := [3, 61, 28, 42, 180, 1, 100, 162, 0, 21, 42, 180, 0, 36, 28, 42, 27, 28, 182, 1, 165, 79]
abbrev dktX19_laysAllWords_0 : List UInt8 := dkwX19_laysAllWords_0 ++ dktX19_laysAllWords_1
theorem dksX19_laysAllWords_0 : cX19_laysAllWords.data.toList.drop 0 = dktX19_laysAllWords_0 := by decide +kernel
theorem dksX19_laysAllWords_1 : cX19_laysAllWords.data.toList.drop 22 = dktX19_laysAllWords_1 := dk_seg dksX19_laysAllWords_0 22 rfl rfl
theorem dX19_laysAllWords_0 : decode cX19_laysAllWords 0 = .ok (.iconst 0, 1) := dk_3 (dk_at dksX19_laysAllWords_0 0 rfl rfl)
theorem dX19_laysAllWords_1 : decode cX19_laysAllWords 1 = .ok (.istore_n 2, 1) := dk_61 (dk_at dksX19_laysAllWords_0 1 rfl rfl)
theorem dX19_laysAllWords_2 : decode cX19_laysAllWords 2 = .ok (.iload_n 2, 1) := dk_28 (dk_at dksX19_laysAllWords_0 2 rfl rfl)
theorem dX19_laysAllWords_3 : decode cX19_laysAllWords 3 = .ok (.aload_n 0, 1) := dk_42 (dk_at dksX19_laysAllWords_0 3 rfl rfl)
theorem dX19_laysAllWords_4 : decode cX19_laysAllWords 4 = .ok (.getfield 356, 3) := dk_180 1 100 (dk_at dksX19_laysAllWords_0 4 rfl rfl)
theorem dX19_laysAllWords_7 : decode cX19_laysAllWords 7 = .ok (.if_icmp .ge 21, 3) := dk_162 0 21 (dk_at dksX19_laysAllWords_0 7 rfl rfl)
theorem dX19_laysAllWords_10 : decode cX19_laysAllWords 10 = .ok (.aload_n 0, 1) := dk_42 (dk_at dksX19_laysAllWords_0 10 rfl rfl)
theorem dX19_laysAllWords_11 : decode cX19_laysAllWords 11 = .ok (.getfield 36, 3) := dk_180 0 36 (dk_at dksX19_laysAllWords_0 11 rfl rfl)
theorem dX19_laysAllWords_14 : decode cX19_laysAllWords 14 = .ok (.iload_n 2, 1) := dk_28 (dk_at dksX19_laysAllWords_0 14 rfl rfl)
theorem dX19_laysAllWords_15 : decode cX19_laysAllWords 15 = .ok (.aload_n 0, 1) := dk_42 (dk_at dksX19_laysAllWords_0 15 rfl rfl)
theorem dX19_laysAllWords_16 : decode cX19_laysAllWords 16 = .ok (.iload_n 1, 1) := dk_27 (dk_at dksX19_laysAllWords_0 16 rfl rfl)
theorem dX19_laysAllWords_17 : decode cX19_laysAllWords 17 = .ok (.iload_n 2, 1) := dk_28 (dk_at dksX19_laysAllWords_0 17 rfl rfl)
theorem dX19_laysAllWords_18 : decode cX19_laysAllWords 18 = .ok (.invokevirtual 421, 3) := dk_182 1 165 (dk_at dksX19_laysAllWords_0 18 rfl rfl)
theorem dX19_laysAllWords_21 : decode cX19_laysAllWords 21 = .ok (.iastore, 1) := dk_79 (dk_at dksX19_laysAllWords_0 21 rfl rfl)
theorem dX19_laysAllWords_22 : decode cX19_laysAllWords 22 = .ok (.iinc 2 1, 3) := dk_132 2 1 (dk_at dksX19_laysAllWords_1 0 rfl rfl)
theorem dX19_laysAllWords_25 : decode cX19_laysAllWords 25 = .ok (.goto (-23), 3) := dk_167 255 233 (dk_at dksX19_laysAllWords_1 3 rfl rfl)
theorem dX19_laysAllWords_28 : decode cX19_laysAllWords 28 = .ok (.return_, 1) := dk_177 (dk_at dksX19_laysAllWords_1 6 rfl rfl)
abbrev cX19_shortest : ByteArray := prog_23_method_95_code
def yX19_shortest : MethodName := ⟨RX19, "shortest", "()I"⟩
def dkwX19_shortest_2 : List UInt8 := [167, 255, 229, 42, 16, 254, 182, 0, 96, 172]
abbrev dktX19_shortest_2 : List UInt8 := dkwX19_shortest_2 ++ []
def dkwX19_shortest_1 : List UInt8 := [162, 0, 27, 42, 27, 182, 1, 220, 42, 182, 1, 189, 153, 0, 9, 42, 27, 182, 0, 96, 172, 132, 1, 1]
abbrev dktX19_shortest_1 : List UInt8 := dkwX19_shortest_1 ++ dktX19_shortest_2
def dkwX19_shortest_0 : List UInt8 := [42, 3, 181, 0, 86, 42, 180, 1, 73, 199, 0, 9, 42, 4, 182, 0, 92, 172, 3, 60, 27, 16, 20]
abbrev dktX19_shortest_0 : List UInt8 := dkwX19_shortest_0 ++ dktX19_shortest_1
theorem dksX19_shortest_0 : cX19_shortest.data.toList.drop 0 = dktX19_shortest_0 := by decide +kernel
theorem dksX19_shortest_1 : cX19_shortest.data.toList.drop 23 = dktX19_shortest_1 := dk_seg dksX19_shortest_0 23 rfl rfl
theorem dksX19_shortest_2 : cX19_shortest.data.toList.drop 47 = dktX19_shortest_2 := dk_seg dksX19_shortest_1 24 rfl rfl
theorem dX19_shortest_0 : decode cX19_shortest 0 = .ok (.aload_n 0, 1) := dk_42 (dk_at dksX19_shortest_0 0 rfl rfl)
theorem dX19_shortest_1 : decode cX19_shortest 1 = .ok (.iconst 0, 1) := dk_3 (dk_at dksX19_shortest_0 1 rfl rfl)
theorem dX19_shortest_2 : decode cX19_shortest 2 = .ok (.putfield 86, 3) := dk_181 0 86 (dk_at dksX19_shortest_0 2 rfl rfl)
theorem dX19_shortest_5 : decode cX19_shortest 5 = .ok (.aload_n 0, 1) := dk_42 (dk_at dksX19_shortest_0 5 rfl rfl)
theorem dX19_shortest_6 : decode cX19_shortest 6 = .ok (.getfield 329, 3) := dk_180 1 73 (dk_at dksX19_shortest_0 6 rfl rfl)
theorem dX19_shortest_9 : decode cX19_shortest 9 = .ok (.ifnonnull 9, 3) := dk_199 0 9 (dk_at dksX19_shortest_0 9 rfl rfl)
theorem dX19_shortest_12 : decode cX19_shortest 12 = .ok (.aload_n 0, 1) := dk_42 (dk_at dksX19_shortest_0 12 rfl rfl)
theorem dX19_shortest_13 : decode cX19_shortest 13 = .ok (.iconst 1, 1) := dk_4 (dk_at dksX19_shortest_0 13 rfl rfl)
theorem dX19_shortest_14 : decode cX19_shortest 14 = .ok (.invokevirtual 92, 3) := dk_182 0 92 (dk_at dksX19_shortest_0 14 rfl rfl)
theorem dX19_shortest_17 : decode cX19_shortest 17 = .ok (.ireturn, 1) := dk_172 (dk_at dksX19_shortest_0 17 rfl rfl)
theorem dX19_shortest_18 : decode cX19_shortest 18 = .ok (.iconst 0, 1) := dk_3 (dk_at dksX19_shortest_0 18 rfl rfl)
theorem dX19_shortest_19 : decode cX19_shortest 19 = .ok (.istore_n 1, 1) := dk_60 (dk_at dksX19_shortest_0 19 rfl rfl)
theorem dX19_shortest_20 : decode cX19_shortest 20 = .ok (.iload_n 1, 1) := dk_27 (dk_at dksX19_shortest_0 20 rfl rfl)
theorem dX19_shortest_21 : decode cX19_shortest 21 = .ok (.bipush 20, 2) := dk_16 20 (dk_at dksX19_shortest_0 21 rfl rfl)
theorem dX19_shortest_23 : decode cX19_shortest 23 = .ok (.if_icmp .ge 27, 3) := dk_162 0 27 (dk_at dksX19_shortest_1 0 rfl rfl)
theorem dX19_shortest_26 : decode cX19_shortest 26 = .ok (.aload_n 0, 1) := dk_42 (dk_at dksX19_shortest_1 3 rfl rfl)
theorem dX19_shortest_27 : decode cX19_shortest 27 = .ok (.iload_n 1, 1) := dk_27 (dk_at dksX19_shortest_1 4 rfl rfl)
theorem dX19_shortest_28 : decode cX19_shortest 28 = .ok (.invokevirtual 476, 3) := dk_182 1 220 (dk_at dksX19_shortest_1 5 rfl rfl)
theorem dX19_shortest_31 : decode cX19_shortest 31 = .ok (.aload_n 0, 1) := dk_42 (dk_at dksX19_shortest_1 8 rfl rfl)
theorem dX19_shortest_32 : decode cX19_shortest 32 = .ok (.invokevirtual 445, 3) := dk_182 1 189 (dk_at dksX19_shortest_1 9 rfl rfl)
theorem dX19_shortest_35 : decode cX19_shortest 35 = .ok (.ifCond .eq 9, 3) := dk_153 0 9 (dk_at dksX19_shortest_1 12 rfl rfl)
theorem dX19_shortest_38 : decode cX19_shortest 38 = .ok (.aload_n 0, 1) := dk_42 (dk_at dksX19_shortest_1 15 rfl rfl)
theorem dX19_shortest_39 : decode cX19_shortest 39 = .ok (.iload_n 1, 1) := dk_27 (dk_at dksX19_shortest_1 16 rfl rfl)
theorem dX19_shortest_40 : decode cX19_shortest 40 = .ok (.invokevirtual 96, 3) := dk_182 0 96 (dk_at dksX19_shortest_1 17 rfl rfl)
theorem dX19_shortest_43 : decode cX19_shortest 43 = .ok (.ireturn, 1) := dk_172 (dk_at dksX19_shortest_1 20 rfl rfl)
theorem dX19_shortest_44 : decode cX19_shortest 44 = .ok (.iinc 1 1, 3) := dk_132 1 1 (dk_at dksX19_shortest_1 21 rfl rfl)
theorem dX19_shortest_47 : decode cX19_shortest 47 = .ok (.goto (-27), 3) := dk_167 255 229 (dk_at dksX19_shortest_2 0 rfl rfl)
theorem dX19_shortest_50 : decode cX19_shortest 50 = .ok (.aload_n 0, 1) := dk_42 (dk_at dksX19_shortest_2 3 rfl rfl)
theorem dX19_shortest_51 : decode cX19_shortest 51 = .ok (.bipush (-2), 2) := dk_16 254 (dk_at dksX19_shortest_2 4 rfl rfl)
theorem dX19_shortest_53 : decode cX19_shortest 53 = .ok (.invokevirtual 96, 3) := dk_182 0 96 (dk_at dksX19_shortest_2 6 rfl rfl)
theorem dX19_shortest_56 : decode cX19_shortest 56 = .ok (.ireturn, 1) := dk_172 (dk_at dksX19_shortest_2 9 rfl rfl)
abbrev cX19_pairs : ByteArray := prog_23_method_99_code
def yX19_pairs : MethodName := ⟨RX19, "pairs", "()I"⟩
def dkwX19_pairs_1 : List UInt8 := [182, 1, 232, 182, 0, 96, 172]
abbrev dktX19_pairs_1 : List UInt8 := dkwX19_pairs_1 ++ []
def dkwX19_pairs_0 : List UInt8 := [42, 3, 181, 0, 86, 42, 180, 1, 73, 199, 0, 11, 42, 4, 182, 0, 92, 167, 0, 11, 42, 42]
abbrev dktX19_pairs_0 : List UInt8 := dkwX19_pairs_0 ++ dktX19_pairs_1
theorem dksX19_pairs_0 : cX19_pairs.data.toList.drop 0 = dktX19_pairs_0 := by decide +kernel
theorem dksX19_pairs_1 : cX19_pairs.data.toList.drop 22 = dktX19_pairs_1 := dk_seg dksX19_pairs_0 22 rfl rfl
theorem dX19_pairs_0 : decode cX19_pairs 0 = .ok (.aload_n 0, 1) := dk_42 (dk_at dksX19_pairs_0 0 rfl rfl)
theorem dX19_pairs_1 : decode cX19_pairs 1 = .ok (.iconst 0, 1) := dk_3 (dk_at dksX19_pairs_0 1 rfl rfl)
theorem dX19_pairs_2 : decode cX19_pairs 2 = .ok (.putfield 86, 3) := dk_181 0 86 (dk_at dksX19_pairs_0 2 rfl rfl)
theorem dX19_pairs_5 : decode cX19_pairs 5 = .ok (.aload_n 0, 1) := dk_42 (dk_at dksX19_pairs_0 5 rfl rfl)
theorem dX19_pairs_6 : decode cX19_pairs 6 = .ok (.getfield 329, 3) := dk_180 1 73 (dk_at dksX19_pairs_0 6 rfl rfl)
theorem dX19_pairs_9 : decode cX19_pairs 9 = .ok (.ifnonnull 11, 3) := dk_199 0 11 (dk_at dksX19_pairs_0 9 rfl rfl)
theorem dX19_pairs_12 : decode cX19_pairs 12 = .ok (.aload_n 0, 1) := dk_42 (dk_at dksX19_pairs_0 12 rfl rfl)
theorem dX19_pairs_13 : decode cX19_pairs 13 = .ok (.iconst 1, 1) := dk_4 (dk_at dksX19_pairs_0 13 rfl rfl)
theorem dX19_pairs_14 : decode cX19_pairs 14 = .ok (.invokevirtual 92, 3) := dk_182 0 92 (dk_at dksX19_pairs_0 14 rfl rfl)
theorem dX19_pairs_17 : decode cX19_pairs 17 = .ok (.goto 11, 3) := dk_167 0 11 (dk_at dksX19_pairs_0 17 rfl rfl)
theorem dX19_pairs_20 : decode cX19_pairs 20 = .ok (.aload_n 0, 1) := dk_42 (dk_at dksX19_pairs_0 20 rfl rfl)
theorem dX19_pairs_21 : decode cX19_pairs 21 = .ok (.aload_n 0, 1) := dk_42 (dk_at dksX19_pairs_0 21 rfl rfl)
theorem dX19_pairs_22 : decode cX19_pairs 22 = .ok (.invokevirtual 488, 3) := dk_182 1 232 (dk_at dksX19_pairs_1 0 rfl rfl)
theorem dX19_pairs_25 : decode cX19_pairs 25 = .ok (.invokevirtual 96, 3) := dk_182 0 96 (dk_at dksX19_pairs_1 3 rfl rfl)
theorem dX19_pairs_28 : decode cX19_pairs 28 = .ok (.ireturn, 1) := dk_172 (dk_at dksX19_pairs_1 6 rfl rfl)
abbrev cX19_table : ByteArray := prog_23_method_102_code
def yX19_table : MethodName := ⟨RX19, "table", "(I)I"⟩
def dkwX19_table_2 : List UInt8 := [42, 180, 0, 62, 27, 46, 167, 0, 5, 16, 254, 182, 0, 96, 172]
abbrev dktX19_table_2 : List UInt8 := dkwX19_table_2 ++ []
def dkwX19_table_1 : List UInt8 := [17, 1, 44, 164, 0, 9, 42, 6, 182, 0, 92, 172, 42, 182, 1, 168, 42, 42, 180, 1, 171, 153, 0, 12]
abbrev dktX19_table_1 : List UInt8 := dkwX19_table_1 ++ dktX19_table_2
def dkwX19_table_0 : List UInt8 := [42, 3, 181, 0, 86, 42, 27, 182, 1, 119, 154, 0, 9, 42, 4, 182, 0, 92, 172, 42, 180, 1, 100]
abbrev dktX19_table_0 : List UInt8 := dkwX19_table_0 ++ dktX19_table_1
theorem dksX19_table_0 : cX19_table.data.toList.drop 0 = dktX19_table_0 := by decide +kernel
theorem dksX19_table_1 : cX19_table.data.toList.drop 23 = dktX19_table_1 := dk_seg dksX19_table_0 23 rfl rfl
theorem dksX19_table_2 : cX19_table.data.toList.drop 47 = dktX19_table_2 := dk_seg dksX19_table_1 24 rfl rfl
theorem dX19_table_0 : decode cX19_table 0 = .ok (.aload_n 0, 1) := dk_42 (dk_at dksX19_table_0 0 rfl rfl)
theorem dX19_table_1 : decode cX19_table 1 = .ok (.iconst 0, 1) := dk_3 (dk_at dksX19_table_0 1 rfl rfl)
theorem dX19_table_2 : decode cX19_table 2 = .ok (.putfield 86, 3) := dk_181 0 86 (dk_at dksX19_table_0 2 rfl rfl)
theorem dX19_table_5 : decode cX19_table 5 = .ok (.aload_n 0, 1) := dk_42 (dk_at dksX19_table_0 5 rfl rfl)
theorem dX19_table_6 : decode cX19_table 6 = .ok (.iload_n 1, 1) := dk_27 (dk_at dksX19_table_0 6 rfl rfl)
theorem dX19_table_7 : decode cX19_table 7 = .ok (.invokevirtual 375, 3) := dk_182 1 119 (dk_at dksX19_table_0 7 rfl rfl)
theorem dX19_table_10 : decode cX19_table 10 = .ok (.ifCond .ne 9, 3) := dk_154 0 9 (dk_at dksX19_table_0 10 rfl rfl)
theorem dX19_table_13 : decode cX19_table 13 = .ok (.aload_n 0, 1) := dk_42 (dk_at dksX19_table_0 13 rfl rfl)
theorem dX19_table_14 : decode cX19_table 14 = .ok (.iconst 1, 1) := dk_4 (dk_at dksX19_table_0 14 rfl rfl)
theorem dX19_table_15 : decode cX19_table 15 = .ok (.invokevirtual 92, 3) := dk_182 0 92 (dk_at dksX19_table_0 15 rfl rfl)
theorem dX19_table_18 : decode cX19_table 18 = .ok (.ireturn, 1) := dk_172 (dk_at dksX19_table_0 18 rfl rfl)
theorem dX19_table_19 : decode cX19_table 19 = .ok (.aload_n 0, 1) := dk_42 (dk_at dksX19_table_0 19 rfl rfl)
theorem dX19_table_20 : decode cX19_table 20 = .ok (.getfield 356, 3) := dk_180 1 100 (dk_at dksX19_table_0 20 rfl rfl)
theorem dX19_table_23 : decode cX19_table 23 = .ok (.sipush 300, 3) := dk_17 1 44 (dk_at dksX19_table_1 0 rfl rfl)
theorem dX19_table_26 : decode cX19_table 26 = .ok (.if_icmp .le 9, 3) := dk_164 0 9 (dk_at dksX19_table_1 3 rfl rfl)
theorem dX19_table_29 : decode cX19_table 29 = .ok (.aload_n 0, 1) := dk_42 (dk_at dksX19_table_1 6 rfl rfl)
theorem dX19_table_30 : decode cX19_table 30 = .ok (.iconst 3, 1) := dk_6 (dk_at dksX19_table_1 7 rfl rfl)
theorem dX19_table_31 : decode cX19_table 31 = .ok (.invokevirtual 92, 3) := dk_182 0 92 (dk_at dksX19_table_1 8 rfl rfl)
theorem dX19_table_34 : decode cX19_table 34 = .ok (.ireturn, 1) := dk_172 (dk_at dksX19_table_1 11 rfl rfl)
theorem dX19_table_35 : decode cX19_table 35 = .ok (.aload_n 0, 1) := dk_42 (dk_at dksX19_table_1 12 rfl rfl)
theorem dX19_table_36 : decode cX19_table 36 = .ok (.invokevirtual 424, 3) := dk_182 1 168 (dk_at dksX19_table_1 13 rfl rfl)
theorem dX19_table_39 : decode cX19_table 39 = .ok (.aload_n 0, 1) := dk_42 (dk_at dksX19_table_1 16 rfl rfl)
theorem dX19_table_40 : decode cX19_table 40 = .ok (.aload_n 0, 1) := dk_42 (dk_at dksX19_table_1 17 rfl rfl)
theorem dX19_table_41 : decode cX19_table 41 = .ok (.getfield 427, 3) := dk_180 1 171 (dk_at dksX19_table_1 18 rfl rfl)
theorem dX19_table_44 : decode cX19_table 44 = .ok (.ifCond .eq 12, 3) := dk_153 0 12 (dk_at dksX19_table_1 21 rfl rfl)
theorem dX19_table_47 : decode cX19_table 47 = .ok (.aload_n 0, 1) := dk_42 (dk_at dksX19_table_2 0 rfl rfl)
theorem dX19_table_48 : decode cX19_table 48 = .ok (.getfield 62, 3) := dk_180 0 62 (dk_at dksX19_table_2 1 rfl rfl)
theorem dX19_table_51 : decode cX19_table 51 = .ok (.iload_n 1, 1) := dk_27 (dk_at dksX19_table_2 4 rfl rfl)
theorem dX19_table_52 : decode cX19_table 52 = .ok (.iaload, 1) := dk_46 (dk_at dksX19_table_2 5 rfl rfl)
theorem dX19_table_53 : decode cX19_table 53 = .ok (.goto 5, 3) := dk_167 0 5 (dk_at dksX19_table_2 6 rfl rfl)
theorem dX19_table_56 : decode cX19_table 56 = .ok (.bipush (-2), 2) := dk_16 254 (dk_at dksX19_table_2 9 rfl rfl)
theorem dX19_table_58 : decode cX19_table 58 = .ok (.invokevirtual 96, 3) := dk_182 0 96 (dk_at dksX19_table_2 11 rfl rfl)
theorem dX19_table_61 : decode cX19_table 61 = .ok (.ireturn, 1) := dk_172 (dk_at dksX19_table_2 14 rfl rfl)
abbrev cX19_count : ByteArray := prog_23_method_104_code
def yX19_count : MethodName := ⟨RX19, "count", "(IZ)J"⟩
def dkwX19_count_2 : List UInt8 := [87, 42, 27, 28, 182, 1, 238, 173]
abbrev dktX19_count_2 : List UInt8 := dkwX19_count_2 ++ []
def dkwX19_count_1 : List UInt8 := [180, 0, 232, 17, 0, 200, 184, 0, 168, 154, 0, 10, 42, 5, 182, 0, 92, 133, 173, 42, 3, 182, 0, 96]
abbrev dktX19_count_1 : List UInt8 := dkwX19_count_1 ++ dktX19_count_2
def dkwX19_count_0 : List UInt8 := [42, 3, 181, 0, 86, 42, 180, 1, 73, 199, 0, 10, 42, 4, 182, 0, 92, 133, 173, 27, 42, 180, 1, 73]
abbrev dktX19_count_0 : List UInt8 := dkwX19_count_0 ++ dktX19_count_1
theorem dksX19_count_0 : cX19_count.data.toList.drop 0 = dktX19_count_0 := by decide +kernel
theorem dksX19_count_1 : cX19_count.data.toList.drop 24 = dktX19_count_1 := dk_seg dksX19_count_0 24 rfl rfl
theorem dksX19_count_2 : cX19_count.data.toList.drop 48 = dktX19_count_2 := dk_seg dksX19_count_1 24 rfl rfl
theorem dX19_count_0 : decode cX19_count 0 = .ok (.aload_n 0, 1) := dk_42 (dk_at dksX19_count_0 0 rfl rfl)
theorem dX19_count_1 : decode cX19_count 1 = .ok (.iconst 0, 1) := dk_3 (dk_at dksX19_count_0 1 rfl rfl)
theorem dX19_count_2 : decode cX19_count 2 = .ok (.putfield 86, 3) := dk_181 0 86 (dk_at dksX19_count_0 2 rfl rfl)
theorem dX19_count_5 : decode cX19_count 5 = .ok (.aload_n 0, 1) := dk_42 (dk_at dksX19_count_0 5 rfl rfl)
theorem dX19_count_6 : decode cX19_count 6 = .ok (.getfield 329, 3) := dk_180 1 73 (dk_at dksX19_count_0 6 rfl rfl)
theorem dX19_count_9 : decode cX19_count 9 = .ok (.ifnonnull 10, 3) := dk_199 0 10 (dk_at dksX19_count_0 9 rfl rfl)
theorem dX19_count_12 : decode cX19_count 12 = .ok (.aload_n 0, 1) := dk_42 (dk_at dksX19_count_0 12 rfl rfl)
theorem dX19_count_13 : decode cX19_count 13 = .ok (.iconst 1, 1) := dk_4 (dk_at dksX19_count_0 13 rfl rfl)
theorem dX19_count_14 : decode cX19_count 14 = .ok (.invokevirtual 92, 3) := dk_182 0 92 (dk_at dksX19_count_0 14 rfl rfl)
theorem dX19_count_17 : decode cX19_count 17 = .ok (.i2l, 1) := dk_133 (dk_at dksX19_count_0 17 rfl rfl)
theorem dX19_count_18 : decode cX19_count 18 = .ok (.lreturn, 1) := dk_173 (dk_at dksX19_count_0 18 rfl rfl)
theorem dX19_count_19 : decode cX19_count 19 = .ok (.iload_n 1, 1) := dk_27 (dk_at dksX19_count_0 19 rfl rfl)
theorem dX19_count_20 : decode cX19_count 20 = .ok (.aload_n 0, 1) := dk_42 (dk_at dksX19_count_0 20 rfl rfl)
theorem dX19_count_21 : decode cX19_count 21 = .ok (.getfield 329, 3) := dk_180 1 73 (dk_at dksX19_count_0 21 rfl rfl)
theorem dX19_count_24 : decode cX19_count 24 = .ok (.getfield 232, 3) := dk_180 0 232 (dk_at dksX19_count_1 0 rfl rfl)
theorem dX19_count_27 : decode cX19_count 27 = .ok (.sipush 200, 3) := dk_17 0 200 (dk_at dksX19_count_1 3 rfl rfl)
theorem dX19_count_30 : decode cX19_count 30 = .ok (.invokestatic 168, 3) := dk_184 0 168 (dk_at dksX19_count_1 6 rfl rfl)
theorem dX19_count_33 : decode cX19_count 33 = .ok (.ifCond .ne 10, 3) := dk_154 0 10 (dk_at dksX19_count_1 9 rfl rfl)
theorem dX19_count_36 : decode cX19_count 36 = .ok (.aload_n 0, 1) := dk_42 (dk_at dksX19_count_1 12 rfl rfl)
theorem dX19_count_37 : decode cX19_count 37 = .ok (.iconst 2, 1) := dk_5 (dk_at dksX19_count_1 13 rfl rfl)
theorem dX19_count_38 : decode cX19_count 38 = .ok (.invokevirtual 92, 3) := dk_182 0 92 (dk_at dksX19_count_1 14 rfl rfl)
theorem dX19_count_41 : decode cX19_count 41 = .ok (.i2l, 1) := dk_133 (dk_at dksX19_count_1 17 rfl rfl)
theorem dX19_count_42 : decode cX19_count 42 = .ok (.lreturn, 1) := dk_173 (dk_at dksX19_count_1 18 rfl rfl)
theorem dX19_count_43 : decode cX19_count 43 = .ok (.aload_n 0, 1) := dk_42 (dk_at dksX19_count_1 19 rfl rfl)
theorem dX19_count_44 : decode cX19_count 44 = .ok (.iconst 0, 1) := dk_3 (dk_at dksX19_count_1 20 rfl rfl)
theorem dX19_count_45 : decode cX19_count 45 = .ok (.invokevirtual 96, 3) := dk_182 0 96 (dk_at dksX19_count_1 21 rfl rfl)
theorem dX19_count_48 : decode cX19_count 48 = .ok (.pop, 1) := dk_87 (dk_at dksX19_count_2 0 rfl rfl)
theorem dX19_count_49 : decode cX19_count 49 = .ok (.aload_n 0, 1) := dk_42 (dk_at dksX19_count_2 1 rfl rfl)
theorem dX19_count_50 : decode cX19_count 50 = .ok (.iload_n 1, 1) := dk_27 (dk_at dksX19_count_2 2 rfl rfl)
theorem dX19_count_51 : decode cX19_count 51 = .ok (.iload_n 2, 1) := dk_28 (dk_at dksX19_count_2 3 rfl rfl)
theorem dX19_count_52 : decode cX19_count 52 = .ok (.invokevirtual 494, 3) := dk_182 1 238 (dk_at dksX19_count_2 4 rfl rfl)
theorem dX19_count_55 : decode cX19_count 55 = .ok (.lreturn, 1) := dk_173 (dk_at dksX19_count_2 7 rfl rfl)
abbrev cX19_countOf : ByteArray := prog_23_method_103_code
def yX19_countOf : MethodName := ⟨RX19, "countOf", "(IZ)J"⟩
def dkwX19_countOf_2 : List UInt8 := [42, 180, 1, 73, 182, 1, 98, 133, 105, 173]
abbrev dktX19_countOf_2 : List UInt8 := dkwX19_countOf_2 ++ []
def dkwX19_countOf_1 : List UInt8 := [42, 180, 1, 73, 180, 1, 1, 184, 1, 135, 167, 0, 14, 27, 42, 180, 1, 73, 180, 1, 1, 184, 0, 99]
abbrev dktX19_countOf_1 : List UInt8 := dkwX19_countOf_1 ++ dktX19_countOf_2
def dkwX19_countOf_0 : List UInt8 := [28, 154, 0, 12, 42, 180, 1, 73, 27, 182, 0, 234, 173, 42, 180, 1, 73, 180, 0, 245, 153, 0, 17, 27]
abbrev dktX19_countOf_0 : List UInt8 := dkwX19_countOf_0 ++ dktX19_countOf_1
theorem dksX19_countOf_0 : cX19_countOf.data.toList.drop 0 = dktX19_countOf_0 := by decide +kernel
theorem dksX19_countOf_1 : cX19_countOf.data.toList.drop 24 = dktX19_countOf_1 := dk_seg dksX19_countOf_0 24 rfl rfl
theorem dksX19_countOf_2 : cX19_countOf.data.toList.drop 48 = dktX19_countOf_2 := dk_seg dksX19_countOf_1 24 rfl rfl
theorem dX19_countOf_0 : decode cX19_countOf 0 = .ok (.iload_n 2, 1) := dk_28 (dk_at dksX19_countOf_0 0 rfl rfl)
theorem dX19_countOf_1 : decode cX19_countOf 1 = .ok (.ifCond .ne 12, 3) := dk_154 0 12 (dk_at dksX19_countOf_0 1 rfl rfl)
theorem dX19_countOf_4 : decode cX19_countOf 4 = .ok (.aload_n 0, 1) := dk_42 (dk_at dksX19_countOf_0 4 rfl rfl)
theorem dX19_countOf_5 : decode cX19_countOf 5 = .ok (.getfield 329, 3) := dk_180 1 73 (dk_at dksX19_countOf_0 5 rfl rfl)
theorem dX19_countOf_8 : decode cX19_countOf 8 = .ok (.iload_n 1, 1) := dk_27 (dk_at dksX19_countOf_0 8 rfl rfl)
theorem dX19_countOf_9 : decode cX19_countOf 9 = .ok (.invokevirtual 234, 3) := dk_182 0 234 (dk_at dksX19_countOf_0 9 rfl rfl)
theorem dX19_countOf_12 : decode cX19_countOf 12 = .ok (.lreturn, 1) := dk_173 (dk_at dksX19_countOf_0 12 rfl rfl)
theorem dX19_countOf_13 : decode cX19_countOf 13 = .ok (.aload_n 0, 1) := dk_42 (dk_at dksX19_countOf_0 13 rfl rfl)
theorem dX19_countOf_14 : decode cX19_countOf 14 = .ok (.getfield 329, 3) := dk_180 1 73 (dk_at dksX19_countOf_0 14 rfl rfl)
theorem dX19_countOf_17 : decode cX19_countOf 17 = .ok (.getfield 245, 3) := dk_180 0 245 (dk_at dksX19_countOf_0 17 rfl rfl)
theorem dX19_countOf_20 : decode cX19_countOf 20 = .ok (.ifCond .eq 17, 3) := dk_153 0 17 (dk_at dksX19_countOf_0 20 rfl rfl)
theorem dX19_countOf_23 : decode cX19_countOf 23 = .ok (.iload_n 1, 1) := dk_27 (dk_at dksX19_countOf_0 23 rfl rfl)
theorem dX19_countOf_24 : decode cX19_countOf 24 = .ok (.aload_n 0, 1) := dk_42 (dk_at dksX19_countOf_1 0 rfl rfl)
theorem dX19_countOf_25 : decode cX19_countOf 25 = .ok (.getfield 329, 3) := dk_180 1 73 (dk_at dksX19_countOf_1 1 rfl rfl)
theorem dX19_countOf_28 : decode cX19_countOf 28 = .ok (.getfield 257, 3) := dk_180 1 1 (dk_at dksX19_countOf_1 4 rfl rfl)
theorem dX19_countOf_31 : decode cX19_countOf 31 = .ok (.invokestatic 391, 3) := dk_184 1 135 (dk_at dksX19_countOf_1 7 rfl rfl)
theorem dX19_countOf_34 : decode cX19_countOf 34 = .ok (.goto 14, 3) := dk_167 0 14 (dk_at dksX19_countOf_1 10 rfl rfl)
theorem dX19_countOf_37 : decode cX19_countOf 37 = .ok (.iload_n 1, 1) := dk_27 (dk_at dksX19_countOf_1 13 rfl rfl)
theorem dX19_countOf_38 : decode cX19_countOf 38 = .ok (.aload_n 0, 1) := dk_42 (dk_at dksX19_countOf_1 14 rfl rfl)
theorem dX19_countOf_39 : decode cX19_countOf 39 = .ok (.getfield 329, 3) := dk_180 1 73 (dk_at dksX19_countOf_1 15 rfl rfl)
theorem dX19_countOf_42 : decode cX19_countOf 42 = .ok (.getfield 257, 3) := dk_180 1 1 (dk_at dksX19_countOf_1 18 rfl rfl)
theorem dX19_countOf_45 : decode cX19_countOf 45 = .ok (.invokestatic 99, 3) := dk_184 0 99 (dk_at dksX19_countOf_1 21 rfl rfl)
theorem dX19_countOf_48 : decode cX19_countOf 48 = .ok (.aload_n 0, 1) := dk_42 (dk_at dksX19_countOf_2 0 rfl rfl)
theorem dX19_countOf_49 : decode cX19_countOf 49 = .ok (.getfield 329, 3) := dk_180 1 73 (dk_at dksX19_countOf_2 1 rfl rfl)
theorem dX19_countOf_52 : decode cX19_countOf 52 = .ok (.invokevirtual 354, 3) := dk_182 1 98 (dk_at dksX19_countOf_2 4 rfl rfl)
theorem dX19_countOf_55 : decode cX19_countOf 55 = .ok (.i2l, 1) := dk_133 (dk_at dksX19_countOf_2 7 rfl rfl)
theorem dX19_countOf_56 : decode cX19_countOf 56 = .ok (.lmul, 1) := dk_105 (dk_at dksX19_countOf_2 8 rfl rfl)
theorem dX19_countOf_57 : decode cX19_countOf 57 = .ok (.lreturn, 1) := dk_173 (dk_at dksX19_countOf_2 9 rfl rfl)
abbrev cX19_most : ByteArray := prog_23_method_105_code
def yX19_most : MethodName := ⟨RX19, "most", "()I"⟩
def dkwX19_most_2 : List UInt8 := [157, 0, 9, 42, 27, 182, 0, 96, 172, 132, 1, 255, 167, 255, 220, 42, 16, 254, 182, 0, 96, 172]
abbrev dktX19_most_2 : List UInt8 := dkwX19_most_2 ++ []
def dkwX19_most_1 : List UInt8 := [180, 1, 73, 180, 0, 232, 161, 0, 31, 42, 27, 3, 182, 1, 238, 42, 27, 4, 182, 1, 238, 148]
abbrev dktX19_most_1 : List UInt8 := dkwX19_most_1 ++ dktX19_most_2
def dkwX19_most_0 : List UInt8 := [42, 3, 181, 0, 86, 42, 180, 1, 73, 199, 0, 9, 42, 4, 182, 0, 92, 172, 17, 0, 200, 60, 27, 42]
abbrev dktX19_most_0 : List UInt8 := dkwX19_most_0 ++ dktX19_most_1
theorem dksX19_most_0 : cX19_most.data.toList.drop 0 = dktX19_most_0 := by decide +kernel
theorem dksX19_most_1 : cX19_most.data.toList.drop 24 = dktX19_most_1 := dk_seg dksX19_most_0 24 rfl rfl
theorem dksX19_most_2 : cX19_most.data.toList.drop 46 = dktX19_most_2 := dk_seg dksX19_most_1 22 rfl rfl
theorem dX19_most_0 : decode cX19_most 0 = .ok (.aload_n 0, 1) := dk_42 (dk_at dksX19_most_0 0 rfl rfl)
theorem dX19_most_1 : decode cX19_most 1 = .ok (.iconst 0, 1) := dk_3 (dk_at dksX19_most_0 1 rfl rfl)
theorem dX19_most_2 : decode cX19_most 2 = .ok (.putfield 86, 3) := dk_181 0 86 (dk_at dksX19_most_0 2 rfl rfl)
theorem dX19_most_5 : decode cX19_most 5 = .ok (.aload_n 0, 1) := dk_42 (dk_at dksX19_most_0 5 rfl rfl)
theorem dX19_most_6 : decode cX19_most 6 = .ok (.getfield 329, 3) := dk_180 1 73 (dk_at dksX19_most_0 6 rfl rfl)
theorem dX19_most_9 : decode cX19_most 9 = .ok (.ifnonnull 9, 3) := dk_199 0 9 (dk_at dksX19_most_0 9 rfl rfl)
theorem dX19_most_12 : decode cX19_most 12 = .ok (.aload_n 0, 1) := dk_42 (dk_at dksX19_most_0 12 rfl rfl)
theorem dX19_most_13 : decode cX19_most 13 = .ok (.iconst 1, 1) := dk_4 (dk_at dksX19_most_0 13 rfl rfl)
theorem dX19_most_14 : decode cX19_most 14 = .ok (.invokevirtual 92, 3) := dk_182 0 92 (dk_at dksX19_most_0 14 rfl rfl)
theorem dX19_most_17 : decode cX19_most 17 = .ok (.ireturn, 1) := dk_172 (dk_at dksX19_most_0 17 rfl rfl)
theorem dX19_most_18 : decode cX19_most 18 = .ok (.sipush 200, 3) := dk_17 0 200 (dk_at dksX19_most_0 18 rfl rfl)
theorem dX19_most_21 : decode cX19_most 21 = .ok (.istore_n 1, 1) := dk_60 (dk_at dksX19_most_0 21 rfl rfl)
theorem dX19_most_22 : decode cX19_most 22 = .ok (.iload_n 1, 1) := dk_27 (dk_at dksX19_most_0 22 rfl rfl)
theorem dX19_most_23 : decode cX19_most 23 = .ok (.aload_n 0, 1) := dk_42 (dk_at dksX19_most_0 23 rfl rfl)
theorem dX19_most_24 : decode cX19_most 24 = .ok (.getfield 329, 3) := dk_180 1 73 (dk_at dksX19_most_1 0 rfl rfl)
theorem dX19_most_27 : decode cX19_most 27 = .ok (.getfield 232, 3) := dk_180 0 232 (dk_at dksX19_most_1 3 rfl rfl)
theorem dX19_most_30 : decode cX19_most 30 = .ok (.if_icmp .lt 31, 3) := dk_161 0 31 (dk_at dksX19_most_1 6 rfl rfl)
theorem dX19_most_33 : decode cX19_most 33 = .ok (.aload_n 0, 1) := dk_42 (dk_at dksX19_most_1 9 rfl rfl)
theorem dX19_most_34 : decode cX19_most 34 = .ok (.iload_n 1, 1) := dk_27 (dk_at dksX19_most_1 10 rfl rfl)
theorem dX19_most_35 : decode cX19_most 35 = .ok (.iconst 0, 1) := dk_3 (dk_at dksX19_most_1 11 rfl rfl)
theorem dX19_most_36 : decode cX19_most 36 = .ok (.invokevirtual 494, 3) := dk_182 1 238 (dk_at dksX19_most_1 12 rfl rfl)
theorem dX19_most_39 : decode cX19_most 39 = .ok (.aload_n 0, 1) := dk_42 (dk_at dksX19_most_1 15 rfl rfl)
theorem dX19_most_40 : decode cX19_most 40 = .ok (.iload_n 1, 1) := dk_27 (dk_at dksX19_most_1 16 rfl rfl)
theorem dX19_most_41 : decode cX19_most 41 = .ok (.iconst 1, 1) := dk_4 (dk_at dksX19_most_1 17 rfl rfl)
theorem dX19_most_42 : decode cX19_most 42 = .ok (.invokevirtual 494, 3) := dk_182 1 238 (dk_at dksX19_most_1 18 rfl rfl)
theorem dX19_most_45 : decode cX19_most 45 = .ok (.lcmp, 1) := dk_148 (dk_at dksX19_most_1 21 rfl rfl)
theorem dX19_most_46 : decode cX19_most 46 = .ok (.ifCond .gt 9, 3) := dk_157 0 9 (dk_at dksX19_most_2 0 rfl rfl)
theorem dX19_most_49 : decode cX19_most 49 = .ok (.aload_n 0, 1) := dk_42 (dk_at dksX19_most_2 3 rfl rfl)
theorem dX19_most_50 : decode cX19_most 50 = .ok (.iload_n 1, 1) := dk_27 (dk_at dksX19_most_2 4 rfl rfl)
theorem dX19_most_51 : decode cX19_most 51 = .ok (.invokevirtual 96, 3) := dk_182 0 96 (dk_at dksX19_most_2 5 rfl rfl)
theorem dX19_most_54 : decode cX19_most 54 = .ok (.ireturn, 1) := dk_172 (dk_at dksX19_most_2 8 rfl rfl)
theorem dX19_most_55 : decode cX19_most 55 = .ok (.iinc 1 (-1), 3) := dk_132 1 255 (dk_at dksX19_most_2 9 rfl rfl)
theorem dX19_most_58 : decode cX19_most 58 = .ok (.goto (-36), 3) := dk_167 255 220 (dk_at dksX19_most_2 12 rfl rfl)
theorem dX19_most_61 : decode cX19_most 61 = .ok (.aload_n 0, 1) := dk_42 (dk_at dksX19_most_2 15 rfl rfl)
theorem dX19_most_62 : decode cX19_most 62 = .ok (.bipush (-2), 2) := dk_16 254 (dk_at dksX19_most_2 16 rfl rfl)
theorem dX19_most_64 : decode cX19_most 64 = .ok (.invokevirtual 96, 3) := dk_182 0 96 (dk_at dksX19_most_2 18 rfl rfl)
theorem dX19_most_67 : decode cX19_most 67 = .ok (.ireturn, 1) := dk_172 (dk_at dksX19_most_2 21 rfl rfl)
abbrev cX19_judge : ByteArray := prog_23_method_107_code
def yX19_judge : MethodName := ⟨RX19, "judge", "(I)I"⟩
def dkwX19_judge_2 : List UInt8 := [182, 0, 92, 172]
abbrev dktX19_judge_2 : List UInt8 := dkwX19_judge_2 ++ []
def dkwX19_judge_1 : List UInt8 := [180, 0, 71, 27, 46, 182, 1, 129, 153, 0, 7, 4, 167, 0, 4, 3, 182, 0, 96, 167, 0, 8, 42, 4]
abbrev dktX19_judge_1 : List UInt8 := dkwX19_judge_1 ++ dktX19_judge_2
def dkwX19_judge_0 : List UInt8 := [42, 3, 181, 0, 86, 42, 27, 182, 1, 242, 153, 0, 34, 42, 42, 42, 180, 0, 68, 27, 46, 42]
abbrev dktX19_judge_0 : List UInt8 := dkwX19_judge_0 ++ dktX19_judge_1
theorem dksX19_judge_0 : cX19_judge.data.toList.drop 0 = dktX19_judge_0 := by decide +kernel
theorem dksX19_judge_1 : cX19_judge.data.toList.drop 22 = dktX19_judge_1 := dk_seg dksX19_judge_0 22 rfl rfl
theorem dksX19_judge_2 : cX19_judge.data.toList.drop 46 = dktX19_judge_2 := dk_seg dksX19_judge_1 24 rfl rfl
theorem dX19_judge_0 : decode cX19_judge 0 = .ok (.aload_n 0, 1) := dk_42 (dk_at dksX19_judge_0 0 rfl rfl)
theorem dX19_judge_1 : decode cX19_judge 1 = .ok (.iconst 0, 1) := dk_3 (dk_at dksX19_judge_0 1 rfl rfl)
theorem dX19_judge_2 : decode cX19_judge 2 = .ok (.putfield 86, 3) := dk_181 0 86 (dk_at dksX19_judge_0 2 rfl rfl)
theorem dX19_judge_5 : decode cX19_judge 5 = .ok (.aload_n 0, 1) := dk_42 (dk_at dksX19_judge_0 5 rfl rfl)
theorem dX19_judge_6 : decode cX19_judge 6 = .ok (.iload_n 1, 1) := dk_27 (dk_at dksX19_judge_0 6 rfl rfl)
theorem dX19_judge_7 : decode cX19_judge 7 = .ok (.invokevirtual 498, 3) := dk_182 1 242 (dk_at dksX19_judge_0 7 rfl rfl)
theorem dX19_judge_10 : decode cX19_judge 10 = .ok (.ifCond .eq 34, 3) := dk_153 0 34 (dk_at dksX19_judge_0 10 rfl rfl)
theorem dX19_judge_13 : decode cX19_judge 13 = .ok (.aload_n 0, 1) := dk_42 (dk_at dksX19_judge_0 13 rfl rfl)
theorem dX19_judge_14 : decode cX19_judge 14 = .ok (.aload_n 0, 1) := dk_42 (dk_at dksX19_judge_0 14 rfl rfl)
theorem dX19_judge_15 : decode cX19_judge 15 = .ok (.aload_n 0, 1) := dk_42 (dk_at dksX19_judge_0 15 rfl rfl)
theorem dX19_judge_16 : decode cX19_judge 16 = .ok (.getfield 68, 3) := dk_180 0 68 (dk_at dksX19_judge_0 16 rfl rfl)
theorem dX19_judge_19 : decode cX19_judge 19 = .ok (.iload_n 1, 1) := dk_27 (dk_at dksX19_judge_0 19 rfl rfl)
theorem dX19_judge_20 : decode cX19_judge 20 = .ok (.iaload, 1) := dk_46 (dk_at dksX19_judge_0 20 rfl rfl)
theorem dX19_judge_21 : decode cX19_judge 21 = .ok (.aload_n 0, 1) := dk_42 (dk_at dksX19_judge_0 21 rfl rfl)
theorem dX19_judge_22 : decode cX19_judge 22 = .ok (.getfield 71, 3) := dk_180 0 71 (dk_at dksX19_judge_1 0 rfl rfl)
theorem dX19_judge_25 : decode cX19_judge 25 = .ok (.iload_n 1, 1) := dk_27 (dk_at dksX19_judge_1 3 rfl rfl)
theorem dX19_judge_26 : decode cX19_judge 26 = .ok (.iaload, 1) := dk_46 (dk_at dksX19_judge_1 4 rfl rfl)
theorem dX19_judge_27 : decode cX19_judge 27 = .ok (.invokevirtual 385, 3) := dk_182 1 129 (dk_at dksX19_judge_1 5 rfl rfl)
theorem dX19_judge_30 : decode cX19_judge 30 = .ok (.ifCond .eq 7, 3) := dk_153 0 7 (dk_at dksX19_judge_1 8 rfl rfl)
theorem dX19_judge_33 : decode cX19_judge 33 = .ok (.iconst 1, 1) := dk_4 (dk_at dksX19_judge_1 11 rfl rfl)
theorem dX19_judge_34 : decode cX19_judge 34 = .ok (.goto 4, 3) := dk_167 0 4 (dk_at dksX19_judge_1 12 rfl rfl)
theorem dX19_judge_37 : decode cX19_judge 37 = .ok (.iconst 0, 1) := dk_3 (dk_at dksX19_judge_1 15 rfl rfl)
theorem dX19_judge_38 : decode cX19_judge 38 = .ok (.invokevirtual 96, 3) := dk_182 0 96 (dk_at dksX19_judge_1 16 rfl rfl)
theorem dX19_judge_41 : decode cX19_judge 41 = .ok (.goto 8, 3) := dk_167 0 8 (dk_at dksX19_judge_1 19 rfl rfl)
theorem dX19_judge_44 : decode cX19_judge 44 = .ok (.aload_n 0, 1) := dk_42 (dk_at dksX19_judge_1 22 rfl rfl)
theorem dX19_judge_45 : decode cX19_judge 45 = .ok (.iconst 1, 1) := dk_4 (dk_at dksX19_judge_1 23 rfl rfl)
theorem dX19_judge_46 : decode cX19_judge 46 = .ok (.invokevirtual 92, 3) := dk_182 0 92 (dk_at dksX19_judge_2 0 rfl rfl)
theorem dX19_judge_49 : decode cX19_judge 49 = .ok (.ireturn, 1) := dk_172 (dk_at dksX19_judge_2 3 rfl rfl)
abbrev cX19_isEvening : ByteArray := prog_23_method_106_code
def yX19_isEvening : MethodName := ⟨RX19, "isEvening", "(I)Z"⟩
def dkwX19_isEvening_1 : List UInt8 := [172]
abbrev dktX19_isEvening_1 : List UInt8 := dkwX19_isEvening_1 ++ []
def dkwX19_isEvening_0 : List UInt8 := [42, 180, 1, 73, 198, 0, 19, 27, 155, 0, 15, 27, 42, 180, 1, 90, 162, 0, 7, 4, 167, 0, 4, 3]
abbrev dktX19_isEvening_0 : List UInt8 := dkwX19_isEvening_0 ++ dktX19_isEvening_1
theorem dksX19_isEvening_0 : cX19_isEvening.data.toList.drop 0 = dktX19_isEvening_0 := by decide +kernel
theorem dksX19_isEvening_1 : cX19_isEvening.data.toList.drop 24 = dktX19_isEvening_1 := dk_seg dksX19_isEvening_0 24 rfl rfl
theorem dX19_isEvening_0 : decode cX19_isEvening 0 = .ok (.aload_n 0, 1) := dk_42 (dk_at dksX19_isEvening_0 0 rfl rfl)
theorem dX19_isEvening_1 : decode cX19_isEvening 1 = .ok (.getfield 329, 3) := dk_180 1 73 (dk_at dksX19_isEvening_0 1 rfl rfl)
theorem dX19_isEvening_4 : decode cX19_isEvening 4 = .ok (.ifnull 19, 3) := dk_198 0 19 (dk_at dksX19_isEvening_0 4 rfl rfl)
theorem dX19_isEvening_7 : decode cX19_isEvening 7 = .ok (.iload_n 1, 1) := dk_27 (dk_at dksX19_isEvening_0 7 rfl rfl)
theorem dX19_isEvening_8 : decode cX19_isEvening 8 = .ok (.ifCond .lt 15, 3) := dk_155 0 15 (dk_at dksX19_isEvening_0 8 rfl rfl)
theorem dX19_isEvening_11 : decode cX19_isEvening 11 = .ok (.iload_n 1, 1) := dk_27 (dk_at dksX19_isEvening_0 11 rfl rfl)
theorem dX19_isEvening_12 : decode cX19_isEvening 12 = .ok (.aload_n 0, 1) := dk_42 (dk_at dksX19_isEvening_0 12 rfl rfl)
theorem dX19_isEvening_13 : decode cX19_isEvening 13 = .ok (.getfield 346, 3) := dk_180 1 90 (dk_at dksX19_isEvening_0 13 rfl rfl)
theorem dX19_isEvening_16 : decode cX19_isEvening 16 = .ok (.if_icmp .ge 7, 3) := dk_162 0 7 (dk_at dksX19_isEvening_0 16 rfl rfl)
theorem dX19_isEvening_19 : decode cX19_isEvening 19 = .ok (.iconst 1, 1) := dk_4 (dk_at dksX19_isEvening_0 19 rfl rfl)
theorem dX19_isEvening_20 : decode cX19_isEvening 20 = .ok (.goto 4, 3) := dk_167 0 4 (dk_at dksX19_isEvening_0 20 rfl rfl)
theorem dX19_isEvening_23 : decode cX19_isEvening 23 = .ok (.iconst 0, 1) := dk_3 (dk_at dksX19_isEvening_0 23 rfl rfl)
theorem dX19_isEvening_24 : decode cX19_isEvening 24 = .ok (.ireturn, 1) := dk_172 (dk_at dksX19_isEvening_1 0 rfl rfl)
abbrev cX19_evening : ByteArray := prog_23_method_108_code
def yX19_evening : MethodName := ⟨RX19, "evening", "(IZ)I"⟩
def dkwX19_evening_1 : List UInt8 := [167, 0, 9, 42, 180, 0, 68, 27, 46, 182, 0, 96, 167, 0, 8, 42, 4, 182, 0, 92, 172]
abbrev dktX19_evening_1 : List UInt8 := dkwX19_evening_1 ++ []
def dkwX19_evening_0 : List UInt8 := [42, 3, 181, 0, 86, 42, 27, 182, 1, 242, 153, 0, 29, 42, 28, 153, 0, 12, 42, 180, 0, 71, 27, 46]
abbrev dktX19_evening_0 : List UInt8 := dkwX19_evening_0 ++ dktX19_evening_1
theorem dksX19_evening_0 : cX19_evening.data.toList.drop 0 = dktX19_evening_0 := by decide +kernel
theorem dksX19_evening_1 : cX19_evening.data.toList.drop 24 = dktX19_evening_1 := dk_seg dksX19_evening_0 24 rfl rfl
theorem dX19_evening_0 : decode cX19_evening 0 = .ok (.aload_n 0, 1) := dk_42 (dk_at dksX19_evening_0 0 rfl rfl)
theorem dX19_evening_1 : decode cX19_evening 1 = .ok (.iconst 0, 1) := dk_3 (dk_at dksX19_evening_0 1 rfl rfl)
theorem dX19_evening_2 : decode cX19_evening 2 = .ok (.putfield 86, 3) := dk_181 0 86 (dk_at dksX19_evening_0 2 rfl rfl)
theorem dX19_evening_5 : decode cX19_evening 5 = .ok (.aload_n 0, 1) := dk_42 (dk_at dksX19_evening_0 5 rfl rfl)
theorem dX19_evening_6 : decode cX19_evening 6 = .ok (.iload_n 1, 1) := dk_27 (dk_at dksX19_evening_0 6 rfl rfl)
theorem dX19_evening_7 : decode cX19_evening 7 = .ok (.invokevirtual 498, 3) := dk_182 1 242 (dk_at dksX19_evening_0 7 rfl rfl)
theorem dX19_evening_10 : decode cX19_evening 10 = .ok (.ifCond .eq 29, 3) := dk_153 0 29 (dk_at dksX19_evening_0 10 rfl rfl)
theorem dX19_evening_13 : decode cX19_evening 13 = .ok (.aload_n 0, 1) := dk_42 (dk_at dksX19_evening_0 13 rfl rfl)
theorem dX19_evening_14 : decode cX19_evening 14 = .ok (.iload_n 2, 1) := dk_28 (dk_at dksX19_evening_0 14 rfl rfl)
theorem dX19_evening_15 : decode cX19_evening 15 = .ok (.ifCond .eq 12, 3) := dk_153 0 12 (dk_at dksX19_evening_0 15 rfl rfl)
theorem dX19_evening_18 : decode cX19_evening 18 = .ok (.aload_n 0, 1) := dk_42 (dk_at dksX19_evening_0 18 rfl rfl)
theorem dX19_evening_19 : decode cX19_evening 19 = .ok (.getfield 71, 3) := dk_180 0 71 (dk_at dksX19_evening_0 19 rfl rfl)
theorem dX19_evening_22 : decode cX19_evening 22 = .ok (.iload_n 1, 1) := dk_27 (dk_at dksX19_evening_0 22 rfl rfl)
theorem dX19_evening_23 : decode cX19_evening 23 = .ok (.iaload, 1) := dk_46 (dk_at dksX19_evening_0 23 rfl rfl)
theorem dX19_evening_24 : decode cX19_evening 24 = .ok (.goto 9, 3) := dk_167 0 9 (dk_at dksX19_evening_1 0 rfl rfl)
theorem dX19_evening_27 : decode cX19_evening 27 = .ok (.aload_n 0, 1) := dk_42 (dk_at dksX19_evening_1 3 rfl rfl)
theorem dX19_evening_28 : decode cX19_evening 28 = .ok (.getfield 68, 3) := dk_180 0 68 (dk_at dksX19_evening_1 4 rfl rfl)
theorem dX19_evening_31 : decode cX19_evening 31 = .ok (.iload_n 1, 1) := dk_27 (dk_at dksX19_evening_1 7 rfl rfl)
theorem dX19_evening_32 : decode cX19_evening 32 = .ok (.iaload, 1) := dk_46 (dk_at dksX19_evening_1 8 rfl rfl)
theorem dX19_evening_33 : decode cX19_evening 33 = .ok (.invokevirtual 96, 3) := dk_182 0 96 (dk_at dksX19_evening_1 9 rfl rfl)
theorem dX19_evening_36 : decode cX19_evening 36 = .ok (.goto 8, 3) := dk_167 0 8 (dk_at dksX19_evening_1 12 rfl rfl)
theorem dX19_evening_39 : decode cX19_evening 39 = .ok (.aload_n 0, 1) := dk_42 (dk_at dksX19_evening_1 15 rfl rfl)
theorem dX19_evening_40 : decode cX19_evening 40 = .ok (.iconst 1, 1) := dk_4 (dk_at dksX19_evening_1 16 rfl rfl)
theorem dX19_evening_41 : decode cX19_evening 41 = .ok (.invokevirtual 92, 3) := dk_182 0 92 (dk_at dksX19_evening_1 17 rfl rfl)
theorem dX19_evening_44 : decode cX19_evening 44 = .ok (.ireturn, 1) := dk_172 (dk_at dksX19_evening_1 20 rfl rfl)
abbrev cX19_agrees : ByteArray := prog_23_method_110_code
def yX19_agrees : MethodName := ⟨RX19, "agrees", "(I)I"⟩
def dkwX19_agrees_2 : List UInt8 := [132, 3, 1, 167, 255, 228, 42, 28, 182, 0, 96, 172]
abbrev dktX19_agrees_2 : List UInt8 := dkwX19_agrees_2 ++ []
def dkwX19_agrees_1 : List UInt8 := [42, 180, 1, 90, 162, 0, 26, 28, 42, 27, 29, 182, 1, 245, 153, 0, 7, 4, 167, 0, 4, 3, 96, 61]
abbrev dktX19_agrees_1 : List UInt8 := dkwX19_agrees_1 ++ dktX19_agrees_2
def dkwX19_agrees_0 : List UInt8 := [42, 3, 181, 0, 86, 42, 27, 182, 1, 174, 154, 0, 9, 42, 4, 182, 0, 92, 172, 3, 61, 3, 62, 29]
abbrev dktX19_agrees_0 : List UInt8 := dkwX19_agrees_0 ++ dktX19_agrees_1
theorem dksX19_agrees_0 : cX19_agrees.data.toList.drop 0 = dktX19_agrees_0 := by decide +kernel
theorem dksX19_agrees_1 : cX19_agrees.data.toList.drop 24 = dktX19_agrees_1 := dk_seg dksX19_agrees_0 24 rfl rfl
theorem dksX19_agrees_2 : cX19_agrees.data.toList.drop 48 = dktX19_agrees_2 := dk_seg dksX19_agrees_1 24 rfl rfl
theorem dX19_agrees_0 : decode cX19_agrees 0 = .ok (.aload_n 0, 1) := dk_42 (dk_at dksX19_agrees_0 0 rfl rfl)
theorem dX19_agrees_1 : decode cX19_agrees 1 = .ok (.iconst 0, 1) := dk_3 (dk_at dksX19_agrees_0 1 rfl rfl)
theorem dX19_agrees_2 : decode cX19_agrees 2 = .ok (.putfield 86, 3) := dk_181 0 86 (dk_at dksX19_agrees_0 2 rfl rfl)
theorem dX19_agrees_5 : decode cX19_agrees 5 = .ok (.aload_n 0, 1) := dk_42 (dk_at dksX19_agrees_0 5 rfl rfl)
theorem dX19_agrees_6 : decode cX19_agrees 6 = .ok (.iload_n 1, 1) := dk_27 (dk_at dksX19_agrees_0 6 rfl rfl)
theorem dX19_agrees_7 : decode cX19_agrees 7 = .ok (.invokevirtual 430, 3) := dk_182 1 174 (dk_at dksX19_agrees_0 7 rfl rfl)
theorem dX19_agrees_10 : decode cX19_agrees 10 = .ok (.ifCond .ne 9, 3) := dk_154 0 9 (dk_at dksX19_agrees_0 10 rfl rfl)
theorem dX19_agrees_13 : decode cX19_agrees 13 = .ok (.aload_n 0, 1) := dk_42 (dk_at dksX19_agrees_0 13 rfl rfl)
theorem dX19_agrees_14 : decode cX19_agrees 14 = .ok (.iconst 1, 1) := dk_4 (dk_at dksX19_agrees_0 14 rfl rfl)
theorem dX19_agrees_15 : decode cX19_agrees 15 = .ok (.invokevirtual 92, 3) := dk_182 0 92 (dk_at dksX19_agrees_0 15 rfl rfl)
theorem dX19_agrees_18 : decode cX19_agrees 18 = .ok (.ireturn, 1) := dk_172 (dk_at dksX19_agrees_0 18 rfl rfl)
theorem dX19_agrees_19 : decode cX19_agrees 19 = .ok (.iconst 0, 1) := dk_3 (dk_at dksX19_agrees_0 19 rfl rfl)
theorem dX19_agrees_20 : decode cX19_agrees 20 = .ok (.istore_n 2, 1) := dk_61 (dk_at dksX19_agrees_0 20 rfl rfl)
theorem dX19_agrees_21 : decode cX19_agrees 21 = .ok (.iconst 0, 1) := dk_3 (dk_at dksX19_agrees_0 21 rfl rfl)
theorem dX19_agrees_22 : decode cX19_agrees 22 = .ok (.istore_n 3, 1) := dk_62 (dk_at dksX19_agrees_0 22 rfl rfl)
theorem dX19_agrees_23 : decode cX19_agrees 23 = .ok (.iload_n 3, 1) := dk_29 (dk_at dksX19_agrees_0 23 rfl rfl)
theorem dX19_agrees_24 : decode cX19_agrees 24 = .ok (.aload_n 0, 1) := dk_42 (dk_at dksX19_agrees_1 0 rfl rfl)
theorem dX19_agrees_25 : decode cX19_agrees 25 = .ok (.getfield 346, 3) := dk_180 1 90 (dk_at dksX19_agrees_1 1 rfl rfl)
theorem dX19_agrees_28 : decode cX19_agrees 28 = .ok (.if_icmp .ge 26, 3) := dk_162 0 26 (dk_at dksX19_agrees_1 4 rfl rfl)
theorem dX19_agrees_31 : decode cX19_agrees 31 = .ok (.iload_n 2, 1) := dk_28 (dk_at dksX19_agrees_1 7 rfl rfl)
theorem dX19_agrees_32 : decode cX19_agrees 32 = .ok (.aload_n 0, 1) := dk_42 (dk_at dksX19_agrees_1 8 rfl rfl)
theorem dX19_agrees_33 : decode cX19_agrees 33 = .ok (.iload_n 1, 1) := dk_27 (dk_at dksX19_agrees_1 9 rfl rfl)
theorem dX19_agrees_34 : decode cX19_agrees 34 = .ok (.iload_n 3, 1) := dk_29 (dk_at dksX19_agrees_1 10 rfl rfl)
theorem dX19_agrees_35 : decode cX19_agrees 35 = .ok (.invokevirtual 501, 3) := dk_182 1 245 (dk_at dksX19_agrees_1 11 rfl rfl)
theorem dX19_agrees_38 : decode cX19_agrees 38 = .ok (.ifCond .eq 7, 3) := dk_153 0 7 (dk_at dksX19_agrees_1 14 rfl rfl)
theorem dX19_agrees_41 : decode cX19_agrees 41 = .ok (.iconst 1, 1) := dk_4 (dk_at dksX19_agrees_1 17 rfl rfl)
theorem dX19_agrees_42 : decode cX19_agrees 42 = .ok (.goto 4, 3) := dk_167 0 4 (dk_at dksX19_agrees_1 18 rfl rfl)
theorem dX19_agrees_45 : decode cX19_agrees 45 = .ok (.iconst 0, 1) := dk_3 (dk_at dksX19_agrees_1 21 rfl rfl)
theorem dX19_agrees_46 : decode cX19_agrees 46 = .ok (.iadd, 1) := dk_96 (dk_at dksX19_agrees_1 22 rfl rfl)
theorem dX19_agrees_47 : decode cX19_agrees 47 = .ok (.istore_n 2, 1) := dk_61 (dk_at dksX19_agrees_1 23 rfl rfl)
theorem dX19_agrees_48 : decode cX19_agrees 48 = .ok (.iinc 3 1, 3) := dk_132 3 1 (dk_at dksX19_agrees_2 0 rfl rfl)
theorem dX19_agrees_51 : decode cX19_agrees 51 = .ok (.goto (-28), 3) := dk_167 255 228 (dk_at dksX19_agrees_2 3 rfl rfl)
theorem dX19_agrees_54 : decode cX19_agrees 54 = .ok (.aload_n 0, 1) := dk_42 (dk_at dksX19_agrees_2 6 rfl rfl)
theorem dX19_agrees_55 : decode cX19_agrees 55 = .ok (.iload_n 2, 1) := dk_28 (dk_at dksX19_agrees_2 7 rfl rfl)
theorem dX19_agrees_56 : decode cX19_agrees 56 = .ok (.invokevirtual 96, 3) := dk_182 0 96 (dk_at dksX19_agrees_2 8 rfl rfl)
theorem dX19_agrees_59 : decode cX19_agrees 59 = .ok (.ireturn, 1) := dk_172 (dk_at dksX19_agrees_2 11 rfl rfl)
abbrev cX19_agreesWith : ByteArray := prog_23_method_109_code
def yX19_agreesWith : MethodName := ⟨RX19, "agreesWith", "(II)Z"⟩
def dkwX19_agreesWith_1 : List UInt8 := [3, 172]
abbrev dktX19_agreesWith_1 : List UInt8 := dkwX19_agreesWith_1 ++ []
def dkwX19_agreesWith_0 : List UInt8 := [42, 27, 42, 180, 0, 68, 28, 46, 182, 1, 177, 42, 180, 0, 71, 28, 46, 160, 0, 7, 4, 167, 0, 4]
abbrev dktX19_agreesWith_0 : List UInt8 := dkwX19_agreesWith_0 ++ dktX19_agreesWith_1
theorem dksX19_agreesWith_0 : cX19_agreesWith.data.toList.drop 0 = dktX19_agreesWith_0 := by decide +kernel
theorem dksX19_agreesWith_1 : cX19_agreesWith.data.toList.drop 24 = dktX19_agreesWith_1 := dk_seg dksX19_agreesWith_0 24 rfl rfl
theorem dX19_agreesWith_0 : decode cX19_agreesWith 0 = .ok (.aload_n 0, 1) := dk_42 (dk_at dksX19_agreesWith_0 0 rfl rfl)
theorem dX19_agreesWith_1 : decode cX19_agreesWith 1 = .ok (.iload_n 1, 1) := dk_27 (dk_at dksX19_agreesWith_0 1 rfl rfl)
theorem dX19_agreesWith_2 : decode cX19_agreesWith 2 = .ok (.aload_n 0, 1) := dk_42 (dk_at dksX19_agreesWith_0 2 rfl rfl)
theorem dX19_agreesWith_3 : decode cX19_agreesWith 3 = .ok (.getfield 68, 3) := dk_180 0 68 (dk_at dksX19_agreesWith_0 3 rfl rfl)
theorem dX19_agreesWith_6 : decode cX19_agreesWith 6 = .ok (.iload_n 2, 1) := dk_28 (dk_at dksX19_agreesWith_0 6 rfl rfl)
theorem dX19_agreesWith_7 : decode cX19_agreesWith 7 = .ok (.iaload, 1) := dk_46 (dk_at dksX19_agreesWith_0 7 rfl rfl)
theorem dX19_agreesWith_8 : decode cX19_agreesWith 8 = .ok (.invokevirtual 433, 3) := dk_182 1 177 (dk_at dksX19_agreesWith_0 8 rfl rfl)
theorem dX19_agreesWith_11 : decode cX19_agreesWith 11 = .ok (.aload_n 0, 1) := dk_42 (dk_at dksX19_agreesWith_0 11 rfl rfl)
theorem dX19_agreesWith_12 : decode cX19_agreesWith 12 = .ok (.getfield 71, 3) := dk_180 0 71 (dk_at dksX19_agreesWith_0 12 rfl rfl)
theorem dX19_agreesWith_15 : decode cX19_agreesWith 15 = .ok (.iload_n 2, 1) := dk_28 (dk_at dksX19_agreesWith_0 15 rfl rfl)
theorem dX19_agreesWith_16 : decode cX19_agreesWith 16 = .ok (.iaload, 1) := dk_46 (dk_at dksX19_agreesWith_0 16 rfl rfl)
theorem dX19_agreesWith_17 : decode cX19_agreesWith 17 = .ok (.if_icmp .ne 7, 3) := dk_160 0 7 (dk_at dksX19_agreesWith_0 17 rfl rfl)
theorem dX19_agreesWith_20 : decode cX19_agreesWith 20 = .ok (.iconst 1, 1) := dk_4 (dk_at dksX19_agreesWith_0 20 rfl rfl)
theorem dX19_agreesWith_21 : decode cX19_agreesWith 21 = .ok (.goto 4, 3) := dk_167 0 4 (dk_at dksX19_agreesWith_0 21 rfl rfl)
theorem dX19_agreesWith_24 : decode cX19_agreesWith 24 = .ok (.iconst 0, 1) := dk_3 (dk_at dksX19_agreesWith_1 0 rfl rfl)
theorem dX19_agreesWith_25 : decode cX19_agreesWith 25 = .ok (.ireturn, 1) := dk_172 (dk_at dksX19_agreesWith_1 1 rfl rfl)
abbrev cX19_wrong : ByteArray := prog_23_method_112_code
def yX19_wrong : MethodName := ⟨RX19, "wrong", "(I)I"⟩
def dkwX19_wrong_1 : List UInt8 := [167, 0, 8, 42, 4, 182, 0, 92, 172]
abbrev dktX19_wrong_1 : List UInt8 := dkwX19_wrong_1 ++ []
def dkwX19_wrong_0 : List UInt8 := [42, 3, 181, 0, 86, 42, 27, 182, 1, 174, 153, 0, 15, 42, 42, 27, 182, 1, 248, 182, 0, 96]
abbrev dktX19_wrong_0 : List UInt8 := dkwX19_wrong_0 ++ dktX19_wrong_1
theorem dksX19_wrong_0 : cX19_wrong.data.toList.drop 0 = dktX19_wrong_0 := by decide +kernel
theorem dksX19_wrong_1 : cX19_wrong.data.toList.drop 22 = dktX19_wrong_1 := dk_seg dksX19_wrong_0 22 rfl rfl
theorem dX19_wrong_0 : decode cX19_wrong 0 = .ok (.aload_n 0, 1) := dk_42 (dk_at dksX19_wrong_0 0 rfl rfl)
theorem dX19_wrong_1 : decode cX19_wrong 1 = .ok (.iconst 0, 1) := dk_3 (dk_at dksX19_wrong_0 1 rfl rfl)
theorem dX19_wrong_2 : decode cX19_wrong 2 = .ok (.putfield 86, 3) := dk_181 0 86 (dk_at dksX19_wrong_0 2 rfl rfl)
theorem dX19_wrong_5 : decode cX19_wrong 5 = .ok (.aload_n 0, 1) := dk_42 (dk_at dksX19_wrong_0 5 rfl rfl)
theorem dX19_wrong_6 : decode cX19_wrong 6 = .ok (.iload_n 1, 1) := dk_27 (dk_at dksX19_wrong_0 6 rfl rfl)
theorem dX19_wrong_7 : decode cX19_wrong 7 = .ok (.invokevirtual 430, 3) := dk_182 1 174 (dk_at dksX19_wrong_0 7 rfl rfl)
theorem dX19_wrong_10 : decode cX19_wrong 10 = .ok (.ifCond .eq 15, 3) := dk_153 0 15 (dk_at dksX19_wrong_0 10 rfl rfl)
theorem dX19_wrong_13 : decode cX19_wrong 13 = .ok (.aload_n 0, 1) := dk_42 (dk_at dksX19_wrong_0 13 rfl rfl)
theorem dX19_wrong_14 : decode cX19_wrong 14 = .ok (.aload_n 0, 1) := dk_42 (dk_at dksX19_wrong_0 14 rfl rfl)
theorem dX19_wrong_15 : decode cX19_wrong 15 = .ok (.iload_n 1, 1) := dk_27 (dk_at dksX19_wrong_0 15 rfl rfl)
theorem dX19_wrong_16 : decode cX19_wrong 16 = .ok (.invokevirtual 504, 3) := dk_182 1 248 (dk_at dksX19_wrong_0 16 rfl rfl)
theorem dX19_wrong_19 : decode cX19_wrong 19 = .ok (.invokevirtual 96, 3) := dk_182 0 96 (dk_at dksX19_wrong_0 19 rfl rfl)
theorem dX19_wrong_22 : decode cX19_wrong 22 = .ok (.goto 8, 3) := dk_167 0 8 (dk_at dksX19_wrong_1 0 rfl rfl)
theorem dX19_wrong_25 : decode cX19_wrong 25 = .ok (.aload_n 0, 1) := dk_42 (dk_at dksX19_wrong_1 3 rfl rfl)
theorem dX19_wrong_26 : decode cX19_wrong 26 = .ok (.iconst 1, 1) := dk_4 (dk_at dksX19_wrong_1 4 rfl rfl)
theorem dX19_wrong_27 : decode cX19_wrong 27 = .ok (.invokevirtual 92, 3) := dk_182 0 92 (dk_at dksX19_wrong_1 5 rfl rfl)
theorem dX19_wrong_30 : decode cX19_wrong 30 = .ok (.ireturn, 1) := dk_172 (dk_at dksX19_wrong_1 8 rfl rfl)
abbrev cX19_firstWrong : ByteArray := prog_23_method_111_code
def yX19_firstWrong : MethodName := ⟨RX19, "firstWrong", "(I)I"⟩
def dkwX19_firstWrong_1 : List UInt8 := [167, 255, 234, 16, 254, 172]
abbrev dktX19_firstWrong_1 : List UInt8 := dkwX19_firstWrong_1 ++ []
def dkwX19_firstWrong_0 : List UInt8 := [3, 61, 28, 42, 180, 1, 90, 162, 0, 20, 42, 27, 28, 182, 1, 245, 154, 0, 5, 28, 172, 132, 2, 1]
abbrev dktX19_firstWrong_0 : List UInt8 := dkwX19_firstWrong_0 ++ dktX19_firstWrong_1
theorem dksX19_firstWrong_0 : cX19_firstWrong.data.toList.drop 0 = dktX19_firstWrong_0 := by decide +kernel
theorem dksX19_firstWrong_1 : cX19_firstWrong.data.toList.drop 24 = dktX19_firstWrong_1 := dk_seg dksX19_firstWrong_0 24 rfl rfl
theorem dX19_firstWrong_0 : decode cX19_firstWrong 0 = .ok (.iconst 0, 1) := dk_3 (dk_at dksX19_firstWrong_0 0 rfl rfl)
theorem dX19_firstWrong_1 : decode cX19_firstWrong 1 = .ok (.istore_n 2, 1) := dk_61 (dk_at dksX19_firstWrong_0 1 rfl rfl)
theorem dX19_firstWrong_2 : decode cX19_firstWrong 2 = .ok (.iload_n 2, 1) := dk_28 (dk_at dksX19_firstWrong_0 2 rfl rfl)
theorem dX19_firstWrong_3 : decode cX19_firstWrong 3 = .ok (.aload_n 0, 1) := dk_42 (dk_at dksX19_firstWrong_0 3 rfl rfl)
theorem dX19_firstWrong_4 : decode cX19_firstWrong 4 = .ok (.getfield 346, 3) := dk_180 1 90 (dk_at dksX19_firstWrong_0 4 rfl rfl)
theorem dX19_firstWrong_7 : decode cX19_firstWrong 7 = .ok (.if_icmp .ge 20, 3) := dk_162 0 20 (dk_at dksX19_firstWrong_0 7 rfl rfl)
theorem dX19_firstWrong_10 : decode cX19_firstWrong 10 = .ok (.aload_n 0, 1) := dk_42 (dk_at dksX19_firstWrong_0 10 rfl rfl)
theorem dX19_firstWrong_11 : decode cX19_firstWrong 11 = .ok (.iload_n 1, 1) := dk_27 (dk_at dksX19_firstWrong_0 11 rfl rfl)
theorem dX19_firstWrong_12 : decode cX19_firstWrong 12 = .ok (.iload_n 2, 1) := dk_28 (dk_at dksX19_firstWrong_0 12 rfl rfl)
theorem dX19_firstWrong_13 : decode cX19_firstWrong 13 = .ok (.invokevirtual 501, 3) := dk_182 1 245 (dk_at dksX19_firstWrong_0 13 rfl rfl)
theorem dX19_firstWrong_16 : decode cX19_firstWrong 16 = .ok (.ifCond .ne 5, 3) := dk_154 0 5 (dk_at dksX19_firstWrong_0 16 rfl rfl)
theorem dX19_firstWrong_19 : decode cX19_firstWrong 19 = .ok (.iload_n 2, 1) := dk_28 (dk_at dksX19_firstWrong_0 19 rfl rfl)
theorem dX19_firstWrong_20 : decode cX19_firstWrong 20 = .ok (.ireturn, 1) := dk_172 (dk_at dksX19_firstWrong_0 20 rfl rfl)
theorem dX19_firstWrong_21 : decode cX19_firstWrong 21 = .ok (.iinc 2 1, 3) := dk_132 2 1 (dk_at dksX19_firstWrong_0 21 rfl rfl)
theorem dX19_firstWrong_24 : decode cX19_firstWrong 24 = .ok (.goto (-22), 3) := dk_167 255 234 (dk_at dksX19_firstWrong_1 0 rfl rfl)
theorem dX19_firstWrong_27 : decode cX19_firstWrong 27 = .ok (.bipush (-2), 2) := dk_16 254 (dk_at dksX19_firstWrong_1 3 rfl rfl)
theorem dX19_firstWrong_29 : decode cX19_firstWrong 29 = .ok (.ireturn, 1) := dk_172 (dk_at dksX19_firstWrong_1 5 rfl rfl)
abbrev cX19_found : ByteArray := prog_23_method_113_code
def yX19_found : MethodName := ⟨RX19, "found", "()I"⟩
def dkwX19_found_2 : List UInt8 := [167, 0, 4, 3, 128, 60, 132, 2, 1, 167, 255, 222, 42, 27, 182, 0, 96, 172]
abbrev dktX19_found_2 : List UInt8 := dkwX19_found_2 ++ []
def dkwX19_found_1 : List UInt8 := [180, 1, 73, 180, 1, 3, 162, 0, 29, 27, 42, 28, 182, 1, 248, 16, 254, 160, 0, 9, 4, 28, 120]
abbrev dktX19_found_1 : List UInt8 := dkwX19_found_1 ++ dktX19_found_2
def dkwX19_found_0 : List UInt8 := [42, 3, 181, 0, 86, 42, 180, 1, 73, 199, 0, 9, 42, 4, 182, 0, 92, 172, 3, 60, 3, 61, 28, 42]
abbrev dktX19_found_0 : List UInt8 := dkwX19_found_0 ++ dktX19_found_1
theorem dksX19_found_0 : cX19_found.data.toList.drop 0 = dktX19_found_0 := by decide +kernel
theorem dksX19_found_1 : cX19_found.data.toList.drop 24 = dktX19_found_1 := dk_seg dksX19_found_0 24 rfl rfl
theorem dksX19_found_2 : cX19_found.data.toList.drop 47 = dktX19_found_2 := dk_seg dksX19_found_1 23 rfl rfl
theorem dX19_found_0 : decode cX19_found 0 = .ok (.aload_n 0, 1) := dk_42 (dk_at dksX19_found_0 0 rfl rfl)
theorem dX19_found_1 : decode cX19_found 1 = .ok (.iconst 0, 1) := dk_3 (dk_at dksX19_found_0 1 rfl rfl)
theorem dX19_found_2 : decode cX19_found 2 = .ok (.putfield 86, 3) := dk_181 0 86 (dk_at dksX19_found_0 2 rfl rfl)
theorem dX19_found_5 : decode cX19_found 5 = .ok (.aload_n 0, 1) := dk_42 (dk_at dksX19_found_0 5 rfl rfl)
theorem dX19_found_6 : decode cX19_found 6 = .ok (.getfield 329, 3) := dk_180 1 73 (dk_at dksX19_found_0 6 rfl rfl)
theorem dX19_found_9 : decode cX19_found 9 = .ok (.ifnonnull 9, 3) := dk_199 0 9 (dk_at dksX19_found_0 9 rfl rfl)
theorem dX19_found_12 : decode cX19_found 12 = .ok (.aload_n 0, 1) := dk_42 (dk_at dksX19_found_0 12 rfl rfl)
theorem dX19_found_13 : decode cX19_found 13 = .ok (.iconst 1, 1) := dk_4 (dk_at dksX19_found_0 13 rfl rfl)
theorem dX19_found_14 : decode cX19_found 14 = .ok (.invokevirtual 92, 3) := dk_182 0 92 (dk_at dksX19_found_0 14 rfl rfl)
theorem dX19_found_17 : decode cX19_found 17 = .ok (.ireturn, 1) := dk_172 (dk_at dksX19_found_0 17 rfl rfl)
theorem dX19_found_18 : decode cX19_found 18 = .ok (.iconst 0, 1) := dk_3 (dk_at dksX19_found_0 18 rfl rfl)
theorem dX19_found_19 : decode cX19_found 19 = .ok (.istore_n 1, 1) := dk_60 (dk_at dksX19_found_0 19 rfl rfl)
theorem dX19_found_20 : decode cX19_found 20 = .ok (.iconst 0, 1) := dk_3 (dk_at dksX19_found_0 20 rfl rfl)
theorem dX19_found_21 : decode cX19_found 21 = .ok (.istore_n 2, 1) := dk_61 (dk_at dksX19_found_0 21 rfl rfl)
theorem dX19_found_22 : decode cX19_found 22 = .ok (.iload_n 2, 1) := dk_28 (dk_at dksX19_found_0 22 rfl rfl)
theorem dX19_found_23 : decode cX19_found 23 = .ok (.aload_n 0, 1) := dk_42 (dk_at dksX19_found_0 23 rfl rfl)
theorem dX19_found_24 : decode cX19_found 24 = .ok (.getfield 329, 3) := dk_180 1 73 (dk_at dksX19_found_1 0 rfl rfl)
theorem dX19_found_27 : decode cX19_found 27 = .ok (.getfield 259, 3) := dk_180 1 3 (dk_at dksX19_found_1 3 rfl rfl)
theorem dX19_found_30 : decode cX19_found 30 = .ok (.if_icmp .ge 29, 3) := dk_162 0 29 (dk_at dksX19_found_1 6 rfl rfl)
theorem dX19_found_33 : decode cX19_found 33 = .ok (.iload_n 1, 1) := dk_27 (dk_at dksX19_found_1 9 rfl rfl)
theorem dX19_found_34 : decode cX19_found 34 = .ok (.aload_n 0, 1) := dk_42 (dk_at dksX19_found_1 10 rfl rfl)
theorem dX19_found_35 : decode cX19_found 35 = .ok (.iload_n 2, 1) := dk_28 (dk_at dksX19_found_1 11 rfl rfl)
theorem dX19_found_36 : decode cX19_found 36 = .ok (.invokevirtual 504, 3) := dk_182 1 248 (dk_at dksX19_found_1 12 rfl rfl)
theorem dX19_found_39 : decode cX19_found 39 = .ok (.bipush (-2), 2) := dk_16 254 (dk_at dksX19_found_1 15 rfl rfl)
theorem dX19_found_41 : decode cX19_found 41 = .ok (.if_icmp .ne 9, 3) := dk_160 0 9 (dk_at dksX19_found_1 17 rfl rfl)
theorem dX19_found_44 : decode cX19_found 44 = .ok (.iconst 1, 1) := dk_4 (dk_at dksX19_found_1 20 rfl rfl)
theorem dX19_found_45 : decode cX19_found 45 = .ok (.iload_n 2, 1) := dk_28 (dk_at dksX19_found_1 21 rfl rfl)
theorem dX19_found_46 : decode cX19_found 46 = .ok (.ishl, 1) := dk_120 (dk_at dksX19_found_1 22 rfl rfl)
theorem dX19_found_47 : decode cX19_found 47 = .ok (.goto 4, 3) := dk_167 0 4 (dk_at dksX19_found_2 0 rfl rfl)
theorem dX19_found_50 : decode cX19_found 50 = .ok (.iconst 0, 1) := dk_3 (dk_at dksX19_found_2 3 rfl rfl)
theorem dX19_found_51 : decode cX19_found 51 = .ok (.ior, 1) := dk_128 (dk_at dksX19_found_2 4 rfl rfl)
theorem dX19_found_52 : decode cX19_found 52 = .ok (.istore_n 1, 1) := dk_60 (dk_at dksX19_found_2 5 rfl rfl)
theorem dX19_found_53 : decode cX19_found 53 = .ok (.iinc 2 1, 3) := dk_132 2 1 (dk_at dksX19_found_2 6 rfl rfl)
theorem dX19_found_56 : decode cX19_found 56 = .ok (.goto (-34), 3) := dk_167 255 222 (dk_at dksX19_found_2 9 rfl rfl)
theorem dX19_found_59 : decode cX19_found 59 = .ok (.aload_n 0, 1) := dk_42 (dk_at dksX19_found_2 12 rfl rfl)
theorem dX19_found_60 : decode cX19_found 60 = .ok (.iload_n 1, 1) := dk_27 (dk_at dksX19_found_2 13 rfl rfl)
theorem dX19_found_61 : decode cX19_found 61 = .ok (.invokevirtual 96, 3) := dk_182 0 96 (dk_at dksX19_found_2 14 rfl rfl)
theorem dX19_found_64 : decode cX19_found 64 = .ok (.ireturn, 1) := dk_172 (dk_at dksX19_found_2 17 rfl rfl)
abbrev cX19_apart : ByteArray := prog_23_method_116_code
def yX19_apart : MethodName := ⟨RX19, "apart", "(II)I"⟩
def dkwX19_apart_1 : List UInt8 := [167, 0, 8, 42, 4, 182, 0, 92, 172]
abbrev dktX19_apart_1 : List UInt8 := dkwX19_apart_1 ++ []
def dkwX19_apart_0 : List UInt8 := [42, 3, 181, 0, 86, 42, 27, 28, 182, 1, 251, 153, 0, 16, 42, 42, 27, 28, 182, 1, 254, 182, 0, 96]
abbrev dktX19_apart_0 : List UInt8 := dkwX19_apart_0 ++ dktX19_apart_1
theorem dksX19_apart_0 : cX19_apart.data.toList.drop 0 = dktX19_apart_0 := by decide +kernel
theorem dksX19_apart_1 : cX19_apart.data.toList.drop 24 = dktX19_apart_1 := dk_seg dksX19_apart_0 24 rfl rfl
theorem dX19_apart_0 : decode cX19_apart 0 = .ok (.aload_n 0, 1) := dk_42 (dk_at dksX19_apart_0 0 rfl rfl)
theorem dX19_apart_1 : decode cX19_apart 1 = .ok (.iconst 0, 1) := dk_3 (dk_at dksX19_apart_0 1 rfl rfl)
theorem dX19_apart_2 : decode cX19_apart 2 = .ok (.putfield 86, 3) := dk_181 0 86 (dk_at dksX19_apart_0 2 rfl rfl)
theorem dX19_apart_5 : decode cX19_apart 5 = .ok (.aload_n 0, 1) := dk_42 (dk_at dksX19_apart_0 5 rfl rfl)
theorem dX19_apart_6 : decode cX19_apart 6 = .ok (.iload_n 1, 1) := dk_27 (dk_at dksX19_apart_0 6 rfl rfl)
theorem dX19_apart_7 : decode cX19_apart 7 = .ok (.iload_n 2, 1) := dk_28 (dk_at dksX19_apart_0 7 rfl rfl)
theorem dX19_apart_8 : decode cX19_apart 8 = .ok (.invokevirtual 507, 3) := dk_182 1 251 (dk_at dksX19_apart_0 8 rfl rfl)
theorem dX19_apart_11 : decode cX19_apart 11 = .ok (.ifCond .eq 16, 3) := dk_153 0 16 (dk_at dksX19_apart_0 11 rfl rfl)
theorem dX19_apart_14 : decode cX19_apart 14 = .ok (.aload_n 0, 1) := dk_42 (dk_at dksX19_apart_0 14 rfl rfl)
theorem dX19_apart_15 : decode cX19_apart 15 = .ok (.aload_n 0, 1) := dk_42 (dk_at dksX19_apart_0 15 rfl rfl)
theorem dX19_apart_16 : decode cX19_apart 16 = .ok (.iload_n 1, 1) := dk_27 (dk_at dksX19_apart_0 16 rfl rfl)
theorem dX19_apart_17 : decode cX19_apart 17 = .ok (.iload_n 2, 1) := dk_28 (dk_at dksX19_apart_0 17 rfl rfl)
theorem dX19_apart_18 : decode cX19_apart 18 = .ok (.invokevirtual 510, 3) := dk_182 1 254 (dk_at dksX19_apart_0 18 rfl rfl)
theorem dX19_apart_21 : decode cX19_apart 21 = .ok (.invokevirtual 96, 3) := dk_182 0 96 (dk_at dksX19_apart_0 21 rfl rfl)
theorem dX19_apart_24 : decode cX19_apart 24 = .ok (.goto 8, 3) := dk_167 0 8 (dk_at dksX19_apart_1 0 rfl rfl)
theorem dX19_apart_27 : decode cX19_apart 27 = .ok (.aload_n 0, 1) := dk_42 (dk_at dksX19_apart_1 3 rfl rfl)
theorem dX19_apart_28 : decode cX19_apart 28 = .ok (.iconst 1, 1) := dk_4 (dk_at dksX19_apart_1 4 rfl rfl)
theorem dX19_apart_29 : decode cX19_apart 29 = .ok (.invokevirtual 92, 3) := dk_182 0 92 (dk_at dksX19_apart_1 5 rfl rfl)
theorem dX19_apart_32 : decode cX19_apart 32 = .ok (.ireturn, 1) := dk_172 (dk_at dksX19_apart_1 8 rfl rfl)
abbrev cX19_areRules : ByteArray := prog_23_method_115_code
def yX19_areRules : MethodName := ⟨RX19, "areRules", "(II)Z"⟩
def dkwX19_areRules_1 : List UInt8 := [167, 0, 4, 3, 172]
abbrev dktX19_areRules_1 : List UInt8 := dkwX19_areRules_1 ++ []
def dkwX19_areRules_0 : List UInt8 := [42, 27, 182, 1, 174, 153, 0, 20, 42, 28, 182, 1, 174, 153, 0, 12, 27, 28, 159, 0, 7, 4]
abbrev dktX19_areRules_0 : List UInt8 := dkwX19_areRules_0 ++ dktX19_areRules_1
theorem dksX19_areRules_0 : cX19_areRules.data.toList.drop 0 = dktX19_areRules_0 := by decide +kernel
theorem dksX19_areRules_1 : cX19_areRules.data.toList.drop 22 = dktX19_areRules_1 := dk_seg dksX19_areRules_0 22 rfl rfl
theorem dX19_areRules_0 : decode cX19_areRules 0 = .ok (.aload_n 0, 1) := dk_42 (dk_at dksX19_areRules_0 0 rfl rfl)
theorem dX19_areRules_1 : decode cX19_areRules 1 = .ok (.iload_n 1, 1) := dk_27 (dk_at dksX19_areRules_0 1 rfl rfl)
theorem dX19_areRules_2 : decode cX19_areRules 2 = .ok (.invokevirtual 430, 3) := dk_182 1 174 (dk_at dksX19_areRules_0 2 rfl rfl)
theorem dX19_areRules_5 : decode cX19_areRules 5 = .ok (.ifCond .eq 20, 3) := dk_153 0 20 (dk_at dksX19_areRules_0 5 rfl rfl)
theorem dX19_areRules_8 : decode cX19_areRules 8 = .ok (.aload_n 0, 1) := dk_42 (dk_at dksX19_areRules_0 8 rfl rfl)
theorem dX19_areRules_9 : decode cX19_areRules 9 = .ok (.iload_n 2, 1) := dk_28 (dk_at dksX19_areRules_0 9 rfl rfl)
theorem dX19_areRules_10 : decode cX19_areRules 10 = .ok (.invokevirtual 430, 3) := dk_182 1 174 (dk_at dksX19_areRules_0 10 rfl rfl)
theorem dX19_areRules_13 : decode cX19_areRules 13 = .ok (.ifCond .eq 12, 3) := dk_153 0 12 (dk_at dksX19_areRules_0 13 rfl rfl)
theorem dX19_areRules_16 : decode cX19_areRules 16 = .ok (.iload_n 1, 1) := dk_27 (dk_at dksX19_areRules_0 16 rfl rfl)
theorem dX19_areRules_17 : decode cX19_areRules 17 = .ok (.iload_n 2, 1) := dk_28 (dk_at dksX19_areRules_0 17 rfl rfl)
theorem dX19_areRules_18 : decode cX19_areRules 18 = .ok (.if_icmp .eq 7, 3) := dk_159 0 7 (dk_at dksX19_areRules_0 18 rfl rfl)
theorem dX19_areRules_21 : decode cX19_areRules 21 = .ok (.iconst 1, 1) := dk_4 (dk_at dksX19_areRules_0 21 rfl rfl)
theorem dX19_areRules_22 : decode cX19_areRules 22 = .ok (.goto 4, 3) := dk_167 0 4 (dk_at dksX19_areRules_1 0 rfl rfl)
theorem dX19_areRules_25 : decode cX19_areRules 25 = .ok (.iconst 0, 1) := dk_3 (dk_at dksX19_areRules_1 3 rfl rfl)
theorem dX19_areRules_26 : decode cX19_areRules 26 = .ok (.ireturn, 1) := dk_172 (dk_at dksX19_areRules_1 4 rfl rfl)
abbrev cX19_apartNow : ByteArray := prog_23_method_114_code
def yX19_apartNow : MethodName := ⟨RX19, "apartNow", "(II)I"⟩
def dkwX19_apartNow_1 : List UInt8 := [21, 4, 182, 1, 177, 159, 0, 7, 4, 167, 0, 4, 3, 96, 62, 132, 4, 1, 167, 255, 219, 29, 172]
abbrev dktX19_apartNow_1 : List UInt8 := dkwX19_apartNow_1 ++ []
def dkwX19_apartNow_0 : List UInt8 := [3, 62, 3, 54, 4, 21, 4, 42, 180, 1, 100, 162, 0, 34, 29, 42, 27, 21, 4, 182, 1, 177, 42, 28]
abbrev dktX19_apartNow_0 : List UInt8 := dkwX19_apartNow_0 ++ dktX19_apartNow_1
theorem dksX19_apartNow_0 : cX19_apartNow.data.toList.drop 0 = dktX19_apartNow_0 := by decide +kernel
theorem dksX19_apartNow_1 : cX19_apartNow.data.toList.drop 24 = dktX19_apartNow_1 := dk_seg dksX19_apartNow_0 24 rfl rfl
theorem dX19_apartNow_0 : decode cX19_apartNow 0 = .ok (.iconst 0, 1) := dk_3 (dk_at dksX19_apartNow_0 0 rfl rfl)
theorem dX19_apartNow_1 : decode cX19_apartNow 1 = .ok (.istore_n 3, 1) := dk_62 (dk_at dksX19_apartNow_0 1 rfl rfl)
theorem dX19_apartNow_2 : decode cX19_apartNow 2 = .ok (.iconst 0, 1) := dk_3 (dk_at dksX19_apartNow_0 2 rfl rfl)
theorem dX19_apartNow_3 : decode cX19_apartNow 3 = .ok (.istore 4, 2) := dk_54 4 (dk_at dksX19_apartNow_0 3 rfl rfl)
theorem dX19_apartNow_5 : decode cX19_apartNow 5 = .ok (.iload 4, 2) := dk_21 4 (dk_at dksX19_apartNow_0 5 rfl rfl)
theorem dX19_apartNow_7 : decode cX19_apartNow 7 = .ok (.aload_n 0, 1) := dk_42 (dk_at dksX19_apartNow_0 7 rfl rfl)
theorem dX19_apartNow_8 : decode cX19_apartNow 8 = .ok (.getfield 356, 3) := dk_180 1 100 (dk_at dksX19_apartNow_0 8 rfl rfl)
theorem dX19_apartNow_11 : decode cX19_apartNow 11 = .ok (.if_icmp .ge 34, 3) := dk_162 0 34 (dk_at dksX19_apartNow_0 11 rfl rfl)
theorem dX19_apartNow_14 : decode cX19_apartNow 14 = .ok (.iload_n 3, 1) := dk_29 (dk_at dksX19_apartNow_0 14 rfl rfl)
theorem dX19_apartNow_15 : decode cX19_apartNow 15 = .ok (.aload_n 0, 1) := dk_42 (dk_at dksX19_apartNow_0 15 rfl rfl)
theorem dX19_apartNow_16 : decode cX19_apartNow 16 = .ok (.iload_n 1, 1) := dk_27 (dk_at dksX19_apartNow_0 16 rfl rfl)
theorem dX19_apartNow_17 : decode cX19_apartNow 17 = .ok (.iload 4, 2) := dk_21 4 (dk_at dksX19_apartNow_0 17 rfl rfl)
theorem dX19_apartNow_19 : decode cX19_apartNow 19 = .ok (.invokevirtual 433, 3) := dk_182 1 177 (dk_at dksX19_apartNow_0 19 rfl rfl)
theorem dX19_apartNow_22 : decode cX19_apartNow 22 = .ok (.aload_n 0, 1) := dk_42 (dk_at dksX19_apartNow_0 22 rfl rfl)
theorem dX19_apartNow_23 : decode cX19_apartNow 23 = .ok (.iload_n 2, 1) := dk_28 (dk_at dksX19_apartNow_0 23 rfl rfl)
theorem dX19_apartNow_24 : decode cX19_apartNow 24 = .ok (.iload 4, 2) := dk_21 4 (dk_at dksX19_apartNow_1 0 rfl rfl)
theorem dX19_apartNow_26 : decode cX19_apartNow 26 = .ok (.invokevirtual 433, 3) := dk_182 1 177 (dk_at dksX19_apartNow_1 2 rfl rfl)
theorem dX19_apartNow_29 : decode cX19_apartNow 29 = .ok (.if_icmp .eq 7, 3) := dk_159 0 7 (dk_at dksX19_apartNow_1 5 rfl rfl)
theorem dX19_apartNow_32 : decode cX19_apartNow 32 = .ok (.iconst 1, 1) := dk_4 (dk_at dksX19_apartNow_1 8 rfl rfl)
theorem dX19_apartNow_33 : decode cX19_apartNow 33 = .ok (.goto 4, 3) := dk_167 0 4 (dk_at dksX19_apartNow_1 9 rfl rfl)
theorem dX19_apartNow_36 : decode cX19_apartNow 36 = .ok (.iconst 0, 1) := dk_3 (dk_at dksX19_apartNow_1 12 rfl rfl)
theorem dX19_apartNow_37 : decode cX19_apartNow 37 = .ok (.iadd, 1) := dk_96 (dk_at dksX19_apartNow_1 13 rfl rfl)
theorem dX19_apartNow_38 : decode cX19_apartNow 38 = .ok (.istore_n 3, 1) := dk_62 (dk_at dksX19_apartNow_1 14 rfl rfl)
theorem dX19_apartNow_39 : decode cX19_apartNow 39 = .ok (.iinc 4 1, 3) := dk_132 4 1 (dk_at dksX19_apartNow_1 15 rfl rfl)
theorem dX19_apartNow_42 : decode cX19_apartNow 42 = .ok (.goto (-37), 3) := dk_167 255 219 (dk_at dksX19_apartNow_1 18 rfl rfl)
theorem dX19_apartNow_45 : decode cX19_apartNow 45 = .ok (.iload_n 3, 1) := dk_29 (dk_at dksX19_apartNow_1 21 rfl rfl)
theorem dX19_apartNow_46 : decode cX19_apartNow 46 = .ok (.ireturn, 1) := dk_172 (dk_at dksX19_apartNow_1 22 rfl rfl)
abbrev cX19_mean : ByteArray := prog_23_method_117_code
def yX19_mean : MethodName := ⟨RX19, "mean", "(IIZ)I"⟩
def dkwX19_mean_2 : List UInt8 := [167, 0, 7, 42, 180, 1, 100, 42, 180, 1, 100, 21, 4, 184, 2, 1, 108, 182, 0, 96, 172]
abbrev dktX19_mean_2 : List UInt8 := dkwX19_mean_2 ++ []
def dkwX19_mean_1 : List UInt8 := [182, 1, 254, 54, 4, 21, 4, 154, 0, 10, 42, 16, 6, 182, 0, 92, 172, 42, 29, 153, 0, 8, 21, 4]
abbrev dktX19_mean_1 : List UInt8 := dkwX19_mean_1 ++ dktX19_mean_2
def dkwX19_mean_0 : List UInt8 := [42, 3, 181, 0, 86, 42, 27, 28, 182, 1, 251, 154, 0, 9, 42, 4, 182, 0, 92, 172, 42, 27, 28]
abbrev dktX19_mean_0 : List UInt8 := dkwX19_mean_0 ++ dktX19_mean_1
theorem dksX19_mean_0 : cX19_mean.data.toList.drop 0 = dktX19_mean_0 := by decide +kernel
theorem dksX19_mean_1 : cX19_mean.data.toList.drop 23 = dktX19_mean_1 := dk_seg dksX19_mean_0 23 rfl rfl
theorem dksX19_mean_2 : cX19_mean.data.toList.drop 47 = dktX19_mean_2 := dk_seg dksX19_mean_1 24 rfl rfl
theorem dX19_mean_0 : decode cX19_mean 0 = .ok (.aload_n 0, 1) := dk_42 (dk_at dksX19_mean_0 0 rfl rfl)
theorem dX19_mean_1 : decode cX19_mean 1 = .ok (.iconst 0, 1) := dk_3 (dk_at dksX19_mean_0 1 rfl rfl)
theorem dX19_mean_2 : decode cX19_mean 2 = .ok (.putfield 86, 3) := dk_181 0 86 (dk_at dksX19_mean_0 2 rfl rfl)
theorem dX19_mean_5 : decode cX19_mean 5 = .ok (.aload_n 0, 1) := dk_42 (dk_at dksX19_mean_0 5 rfl rfl)
theorem dX19_mean_6 : decode cX19_mean 6 = .ok (.iload_n 1, 1) := dk_27 (dk_at dksX19_mean_0 6 rfl rfl)
theorem dX19_mean_7 : decode cX19_mean 7 = .ok (.iload_n 2, 1) := dk_28 (dk_at dksX19_mean_0 7 rfl rfl)
theorem dX19_mean_8 : decode cX19_mean 8 = .ok (.invokevirtual 507, 3) := dk_182 1 251 (dk_at dksX19_mean_0 8 rfl rfl)
theorem dX19_mean_11 : decode cX19_mean 11 = .ok (.ifCond .ne 9, 3) := dk_154 0 9 (dk_at dksX19_mean_0 11 rfl rfl)
theorem dX19_mean_14 : decode cX19_mean 14 = .ok (.aload_n 0, 1) := dk_42 (dk_at dksX19_mean_0 14 rfl rfl)
theorem dX19_mean_15 : decode cX19_mean 15 = .ok (.iconst 1, 1) := dk_4 (dk_at dksX19_mean_0 15 rfl rfl)
theorem dX19_mean_16 : decode cX19_mean 16 = .ok (.invokevirtual 92, 3) := dk_182 0 92 (dk_at dksX19_mean_0 16 rfl rfl)
theorem dX19_mean_19 : decode cX19_mean 19 = .ok (.ireturn, 1) := dk_172 (dk_at dksX19_mean_0 19 rfl rfl)
theorem dX19_mean_20 : decode cX19_mean 20 = .ok (.aload_n 0, 1) := dk_42 (dk_at dksX19_mean_0 20 rfl rfl)
theorem dX19_mean_21 : decode cX19_mean 21 = .ok (.iload_n 1, 1) := dk_27 (dk_at dksX19_mean_0 21 rfl rfl)
theorem dX19_mean_22 : decode cX19_mean 22 = .ok (.iload_n 2, 1) := dk_28 (dk_at dksX19_mean_0 22 rfl rfl)
theorem dX19_mean_23 : decode cX19_mean 23 = .ok (.invokevirtual 510, 3) := dk_182 1 254 (dk_at dksX19_mean_1 0 rfl rfl)
theorem dX19_mean_26 : decode cX19_mean 26 = .ok (.istore 4, 2) := dk_54 4 (dk_at dksX19_mean_1 3 rfl rfl)
theorem dX19_mean_28 : decode cX19_mean 28 = .ok (.iload 4, 2) := dk_21 4 (dk_at dksX19_mean_1 5 rfl rfl)
theorem dX19_mean_30 : decode cX19_mean 30 = .ok (.ifCond .ne 10, 3) := dk_154 0 10 (dk_at dksX19_mean_1 7 rfl rfl)
theorem dX19_mean_33 : decode cX19_mean 33 = .ok (.aload_n 0, 1) := dk_42 (dk_at dksX19_mean_1 10 rfl rfl)
theorem dX19_mean_34 : decode cX19_mean 34 = .ok (.bipush 6, 2) := dk_16 6 (dk_at dksX19_mean_1 11 rfl rfl)
theorem dX19_mean_36 : decode cX19_mean 36 = .ok (.invokevirtual 92, 3) := dk_182 0 92 (dk_at dksX19_mean_1 13 rfl rfl)
theorem dX19_mean_39 : decode cX19_mean 39 = .ok (.ireturn, 1) := dk_172 (dk_at dksX19_mean_1 16 rfl rfl)
theorem dX19_mean_40 : decode cX19_mean 40 = .ok (.aload_n 0, 1) := dk_42 (dk_at dksX19_mean_1 17 rfl rfl)
theorem dX19_mean_41 : decode cX19_mean 41 = .ok (.iload_n 3, 1) := dk_29 (dk_at dksX19_mean_1 18 rfl rfl)
theorem dX19_mean_42 : decode cX19_mean 42 = .ok (.ifCond .eq 8, 3) := dk_153 0 8 (dk_at dksX19_mean_1 19 rfl rfl)
theorem dX19_mean_45 : decode cX19_mean 45 = .ok (.iload 4, 2) := dk_21 4 (dk_at dksX19_mean_1 22 rfl rfl)
theorem dX19_mean_47 : decode cX19_mean 47 = .ok (.goto 7, 3) := dk_167 0 7 (dk_at dksX19_mean_2 0 rfl rfl)
theorem dX19_mean_50 : decode cX19_mean 50 = .ok (.aload_n 0, 1) := dk_42 (dk_at dksX19_mean_2 3 rfl rfl)
theorem dX19_mean_51 : decode cX19_mean 51 = .ok (.getfield 356, 3) := dk_180 1 100 (dk_at dksX19_mean_2 4 rfl rfl)
theorem dX19_mean_54 : decode cX19_mean 54 = .ok (.aload_n 0, 1) := dk_42 (dk_at dksX19_mean_2 7 rfl rfl)
theorem dX19_mean_55 : decode cX19_mean 55 = .ok (.getfield 356, 3) := dk_180 1 100 (dk_at dksX19_mean_2 8 rfl rfl)
theorem dX19_mean_58 : decode cX19_mean 58 = .ok (.iload 4, 2) := dk_21 4 (dk_at dksX19_mean_2 11 rfl rfl)
theorem dX19_mean_60 : decode cX19_mean 60 = .ok (.invokestatic 513, 3) := dk_184 2 1 (dk_at dksX19_mean_2 13 rfl rfl)
theorem dX19_mean_63 : decode cX19_mean 63 = .ok (.idiv, 1) := dk_108 (dk_at dksX19_mean_2 16 rfl rfl)
theorem dX19_mean_64 : decode cX19_mean 64 = .ok (.invokevirtual 96, 3) := dk_182 0 96 (dk_at dksX19_mean_2 17 rfl rfl)
theorem dX19_mean_67 : decode cX19_mean 67 = .ok (.ireturn, 1) := dk_172 (dk_at dksX19_mean_2 20 rfl rfl)
abbrev cX19_divisor : ByteArray := prog_23_method_8_code
def yX19_divisor : MethodName := ⟨RX19, "divisor", "(II)I"⟩
def dkwX19_divisor_0 : List UInt8 := [26, 61, 27, 62, 29, 153, 0, 16, 28, 29, 112, 54, 4, 29, 61, 21, 4, 62, 167, 255, 242, 28, 172]
abbrev dktX19_divisor_0 : List UInt8 := dkwX19_divisor_0 ++ []
theorem dksX19_divisor_0 : cX19_divisor.data.toList.drop 0 = dktX19_divisor_0 := by decide +kernel
theorem dX19_divisor_0 : decode cX19_divisor 0 = .ok (.iload_n 0, 1) := dk_26 (dk_at dksX19_divisor_0 0 rfl rfl)
theorem dX19_divisor_1 : decode cX19_divisor 1 = .ok (.istore_n 2, 1) := dk_61 (dk_at dksX19_divisor_0 1 rfl rfl)
theorem dX19_divisor_2 : decode cX19_divisor 2 = .ok (.iload_n 1, 1) := dk_27 (dk_at dksX19_divisor_0 2 rfl rfl)
theorem dX19_divisor_3 : decode cX19_divisor 3 = .ok (.istore_n 3, 1) := dk_62 (dk_at dksX19_divisor_0 3 rfl rfl)
theorem dX19_divisor_4 : decode cX19_divisor 4 = .ok (.iload_n 3, 1) := dk_29 (dk_at dksX19_divisor_0 4 rfl rfl)
theorem dX19_divisor_5 : decode cX19_divisor 5 = .ok (.ifCond .eq 16, 3) := dk_153 0 16 (dk_at dksX19_divisor_0 5 rfl rfl)
theorem dX19_divisor_8 : decode cX19_divisor 8 = .ok (.iload_n 2, 1) := dk_28 (dk_at dksX19_divisor_0 8 rfl rfl)
theorem dX19_divisor_9 : decode cX19_divisor 9 = .ok (.iload_n 3, 1) := dk_29 (dk_at dksX19_divisor_0 9 rfl rfl)
theorem dX19_divisor_10 : decode cX19_divisor 10 = .ok (.irem, 1) := dk_112 (dk_at dksX19_divisor_0 10 rfl rfl)
theorem dX19_divisor_11 : decode cX19_divisor 11 = .ok (.istore 4, 2) := dk_54 4 (dk_at dksX19_divisor_0 11 rfl rfl)
theorem dX19_divisor_13 : decode cX19_divisor 13 = .ok (.iload_n 3, 1) := dk_29 (dk_at dksX19_divisor_0 13 rfl rfl)
theorem dX19_divisor_14 : decode cX19_divisor 14 = .ok (.istore_n 2, 1) := dk_61 (dk_at dksX19_divisor_0 14 rfl rfl)
theorem dX19_divisor_15 : decode cX19_divisor 15 = .ok (.iload 4, 2) := dk_21 4 (dk_at dksX19_divisor_0 15 rfl rfl)
theorem dX19_divisor_17 : decode cX19_divisor 17 = .ok (.istore_n 3, 1) := dk_62 (dk_at dksX19_divisor_0 17 rfl rfl)
theorem dX19_divisor_18 : decode cX19_divisor 18 = .ok (.goto (-14), 3) := dk_167 255 242 (dk_at dksX19_divisor_0 18 rfl rfl)
theorem dX19_divisor_21 : decode cX19_divisor 21 = .ok (.iload_n 2, 1) := dk_28 (dk_at dksX19_divisor_0 21 rfl rfl)
theorem dX19_divisor_22 : decode cX19_divisor 22 = .ok (.ireturn, 1) := dk_172 (dk_at dksX19_divisor_0 22 rfl rfl)
abbrev cX19_hardest : ByteArray := prog_23_method_118_code
def yX19_hardest : MethodName := ⟨RX19, "hardest", "()I"⟩
def dkwX19_hardest_5 : List UInt8 := [167, 255, 184, 42, 27, 182, 0, 96, 172]
abbrev dktX19_hardest_5 : List UInt8 := dkwX19_hardest_5 ++ []
def dkwX19_hardest_4 : List UInt8 := [21, 5, 28, 161, 0, 6, 167, 0, 8, 29, 60, 21, 5, 61, 132, 4, 1, 167, 255, 204, 132, 3, 1]
abbrev dktX19_hardest_4 : List UInt8 := dkwX19_hardest_4 ++ dktX19_hardest_5
def dkwX19_hardest_3 : List UInt8 := [29, 21, 4, 160, 0, 6, 167, 0, 31, 42, 29, 21, 4, 182, 1, 254, 54, 5, 27, 2, 159, 0, 12]
abbrev dktX19_hardest_3 : List UInt8 := dkwX19_hardest_3 ++ dktX19_hardest_4
def dkwX19_hardest_2 : List UInt8 := [180, 1, 73, 180, 1, 3, 162, 0, 67, 3, 54, 4, 21, 4, 42, 180, 1, 73, 180, 1, 3, 162, 0, 46]
abbrev dktX19_hardest_2 : List UInt8 := dkwX19_hardest_2 ++ dktX19_hardest_3
def dkwX19_hardest_1 : List UInt8 := [180, 1, 3, 5, 162, 0, 10, 42, 16, 6, 182, 0, 92, 172, 2, 60, 3, 61, 3, 62, 29, 42]
abbrev dktX19_hardest_1 : List UInt8 := dkwX19_hardest_1 ++ dktX19_hardest_2
def dkwX19_hardest_0 : List UInt8 := [42, 3, 181, 0, 86, 42, 180, 1, 73, 199, 0, 9, 42, 4, 182, 0, 92, 172, 42, 180, 1, 73]
abbrev dktX19_hardest_0 : List UInt8 := dkwX19_hardest_0 ++ dktX19_hardest_1
theorem dksX19_hardest_0 : cX19_hardest.data.toList.drop 0 = dktX19_hardest_0 := by decide +kernel
theorem dksX19_hardest_1 : cX19_hardest.data.toList.drop 22 = dktX19_hardest_1 := dk_seg dksX19_hardest_0 22 rfl rfl
theorem dksX19_hardest_2 : cX19_hardest.data.toList.drop 44 = dktX19_hardest_2 := dk_seg dksX19_hardest_1 22 rfl rfl
theorem dksX19_hardest_3 : cX19_hardest.data.toList.drop 68 = dktX19_hardest_3 := dk_seg dksX19_hardest_2 24 rfl rfl
theorem dksX19_hardest_4 : cX19_hardest.data.toList.drop 91 = dktX19_hardest_4 := dk_seg dksX19_hardest_3 23 rfl rfl
theorem dksX19_hardest_5 : cX19_hardest.data.toList.drop 114 = dktX19_hardest_5 := dk_seg dksX19_hardest_4 23 rfl rfl
theorem dX19_hardest_0 : decode cX19_hardest 0 = .ok (.aload_n 0, 1) := dk_42 (dk_at dksX19_hardest_0 0 rfl rfl)
theorem dX19_hardest_1 : decode cX19_hardest 1 = .ok (.iconst 0, 1) := dk_3 (dk_at dksX19_hardest_0 1 rfl rfl)
theorem dX19_hardest_2 : decode cX19_hardest 2 = .ok (.putfield 86, 3) := dk_181 0 86 (dk_at dksX19_hardest_0 2 rfl rfl)
theorem dX19_hardest_5 : decode cX19_hardest 5 = .ok (.aload_n 0, 1) := dk_42 (dk_at dksX19_hardest_0 5 rfl rfl)
theorem dX19_hardest_6 : decode cX19_hardest 6 = .ok (.getfield 329, 3) := dk_180 1 73 (dk_at dksX19_hardest_0 6 rfl rfl)
theorem dX19_hardest_9 : decode cX19_hardest 9 = .ok (.ifnonnull 9, 3) := dk_199 0 9 (dk_at dksX19_hardest_0 9 rfl rfl)
theorem dX19_hardest_12 : decode cX19_hardest 12 = .ok (.aload_n 0, 1) := dk_42 (dk_at dksX19_hardest_0 12 rfl rfl)
theorem dX19_hardest_13 : decode cX19_hardest 13 = .ok (.iconst 1, 1) := dk_4 (dk_at dksX19_hardest_0 13 rfl rfl)
theorem dX19_hardest_14 : decode cX19_hardest 14 = .ok (.invokevirtual 92, 3) := dk_182 0 92 (dk_at dksX19_hardest_0 14 rfl rfl)
theorem dX19_hardest_17 : decode cX19_hardest 17 = .ok (.ireturn, 1) := dk_172 (dk_at dksX19_hardest_0 17 rfl rfl)
theorem dX19_hardest_18 : decode cX19_hardest 18 = .ok (.aload_n 0, 1) := dk_42 (dk_at dksX19_hardest_0 18 rfl rfl)
theorem dX19_hardest_19 : decode cX19_hardest 19 = .ok (.getfield 329, 3) := dk_180 1 73 (dk_at dksX19_hardest_0 19 rfl rfl)
theorem dX19_hardest_22 : decode cX19_hardest 22 = .ok (.getfield 259, 3) := dk_180 1 3 (dk_at dksX19_hardest_1 0 rfl rfl)
theorem dX19_hardest_25 : decode cX19_hardest 25 = .ok (.iconst 2, 1) := dk_5 (dk_at dksX19_hardest_1 3 rfl rfl)
theorem dX19_hardest_26 : decode cX19_hardest 26 = .ok (.if_icmp .ge 10, 3) := dk_162 0 10 (dk_at dksX19_hardest_1 4 rfl rfl)
theorem dX19_hardest_29 : decode cX19_hardest 29 = .ok (.aload_n 0, 1) := dk_42 (dk_at dksX19_hardest_1 7 rfl rfl)
theorem dX19_hardest_30 : decode cX19_hardest 30 = .ok (.bipush 6, 2) := dk_16 6 (dk_at dksX19_hardest_1 8 rfl rfl)
theorem dX19_hardest_32 : decode cX19_hardest 32 = .ok (.invokevirtual 92, 3) := dk_182 0 92 (dk_at dksX19_hardest_1 10 rfl rfl)
theorem dX19_hardest_35 : decode cX19_hardest 35 = .ok (.ireturn, 1) := dk_172 (dk_at dksX19_hardest_1 13 rfl rfl)
theorem dX19_hardest_36 : decode cX19_hardest 36 = .ok (.iconst (-1), 1) := dk_2 (dk_at dksX19_hardest_1 14 rfl rfl)
theorem dX19_hardest_37 : decode cX19_hardest 37 = .ok (.istore_n 1, 1) := dk_60 (dk_at dksX19_hardest_1 15 rfl rfl)
theorem dX19_hardest_38 : decode cX19_hardest 38 = .ok (.iconst 0, 1) := dk_3 (dk_at dksX19_hardest_1 16 rfl rfl)
theorem dX19_hardest_39 : decode cX19_hardest 39 = .ok (.istore_n 2, 1) := dk_61 (dk_at dksX19_hardest_1 17 rfl rfl)
theorem dX19_hardest_40 : decode cX19_hardest 40 = .ok (.iconst 0, 1) := dk_3 (dk_at dksX19_hardest_1 18 rfl rfl)
theorem dX19_hardest_41 : decode cX19_hardest 41 = .ok (.istore_n 3, 1) := dk_62 (dk_at dksX19_hardest_1 19 rfl rfl)
theorem dX19_hardest_42 : decode cX19_hardest 42 = .ok (.iload_n 3, 1) := dk_29 (dk_at dksX19_hardest_1 20 rfl rfl)
theorem dX19_hardest_43 : decode cX19_hardest 43 = .ok (.aload_n 0, 1) := dk_42 (dk_at dksX19_hardest_1 21 rfl rfl)
theorem dX19_hardest_44 : decode cX19_hardest 44 = .ok (.getfield 329, 3) := dk_180 1 73 (dk_at dksX19_hardest_2 0 rfl rfl)
theorem dX19_hardest_47 : decode cX19_hardest 47 = .ok (.getfield 259, 3) := dk_180 1 3 (dk_at dksX19_hardest_2 3 rfl rfl)
theorem dX19_hardest_50 : decode cX19_hardest 50 = .ok (.if_icmp .ge 67, 3) := dk_162 0 67 (dk_at dksX19_hardest_2 6 rfl rfl)
theorem dX19_hardest_53 : decode cX19_hardest 53 = .ok (.iconst 0, 1) := dk_3 (dk_at dksX19_hardest_2 9 rfl rfl)
theorem dX19_hardest_54 : decode cX19_hardest 54 = .ok (.istore 4, 2) := dk_54 4 (dk_at dksX19_hardest_2 10 rfl rfl)
theorem dX19_hardest_56 : decode cX19_hardest 56 = .ok (.iload 4, 2) := dk_21 4 (dk_at dksX19_hardest_2 12 rfl rfl)
theorem dX19_hardest_58 : decode cX19_hardest 58 = .ok (.aload_n 0, 1) := dk_42 (dk_at dksX19_hardest_2 14 rfl rfl)
theorem dX19_hardest_59 : decode cX19_hardest 59 = .ok (.getfield 329, 3) := dk_180 1 73 (dk_at dksX19_hardest_2 15 rfl rfl)
theorem dX19_hardest_62 : decode cX19_hardest 62 = .ok (.getfield 259, 3) := dk_180 1 3 (dk_at dksX19_hardest_2 18 rfl rfl)
theorem dX19_hardest_65 : decode cX19_hardest 65 = .ok (.if_icmp .ge 46, 3) := dk_162 0 46 (dk_at dksX19_hardest_2 21 rfl rfl)
theorem dX19_hardest_68 : decode cX19_hardest 68 = .ok (.iload_n 3, 1) := dk_29 (dk_at dksX19_hardest_3 0 rfl rfl)
theorem dX19_hardest_69 : decode cX19_hardest 69 = .ok (.iload 4, 2) := dk_21 4 (dk_at dksX19_hardest_3 1 rfl rfl)
theorem dX19_hardest_71 : decode cX19_hardest 71 = .ok (.if_icmp .ne 6, 3) := dk_160 0 6 (dk_at dksX19_hardest_3 3 rfl rfl)
theorem dX19_hardest_74 : decode cX19_hardest 74 = .ok (.goto 31, 3) := dk_167 0 31 (dk_at dksX19_hardest_3 6 rfl rfl)
theorem dX19_hardest_77 : decode cX19_hardest 77 = .ok (.aload_n 0, 1) := dk_42 (dk_at dksX19_hardest_3 9 rfl rfl)
theorem dX19_hardest_78 : decode cX19_hardest 78 = .ok (.iload_n 3, 1) := dk_29 (dk_at dksX19_hardest_3 10 rfl rfl)
theorem dX19_hardest_79 : decode cX19_hardest 79 = .ok (.iload 4, 2) := dk_21 4 (dk_at dksX19_hardest_3 11 rfl rfl)
theorem dX19_hardest_81 : decode cX19_hardest 81 = .ok (.invokevirtual 510, 3) := dk_182 1 254 (dk_at dksX19_hardest_3 13 rfl rfl)
theorem dX19_hardest_84 : decode cX19_hardest 84 = .ok (.istore 5, 2) := dk_54 5 (dk_at dksX19_hardest_3 16 rfl rfl)
theorem dX19_hardest_86 : decode cX19_hardest 86 = .ok (.iload_n 1, 1) := dk_27 (dk_at dksX19_hardest_3 18 rfl rfl)
theorem dX19_hardest_87 : decode cX19_hardest 87 = .ok (.iconst (-1), 1) := dk_2 (dk_at dksX19_hardest_3 19 rfl rfl)
theorem dX19_hardest_88 : decode cX19_hardest 88 = .ok (.if_icmp .eq 12, 3) := dk_159 0 12 (dk_at dksX19_hardest_3 20 rfl rfl)
theorem dX19_hardest_91 : decode cX19_hardest 91 = .ok (.iload 5, 2) := dk_21 5 (dk_at dksX19_hardest_4 0 rfl rfl)
theorem dX19_hardest_93 : decode cX19_hardest 93 = .ok (.iload_n 2, 1) := dk_28 (dk_at dksX19_hardest_4 2 rfl rfl)
theorem dX19_hardest_94 : decode cX19_hardest 94 = .ok (.if_icmp .lt 6, 3) := dk_161 0 6 (dk_at dksX19_hardest_4 3 rfl rfl)
theorem dX19_hardest_97 : decode cX19_hardest 97 = .ok (.goto 8, 3) := dk_167 0 8 (dk_at dksX19_hardest_4 6 rfl rfl)
theorem dX19_hardest_100 : decode cX19_hardest 100 = .ok (.iload_n 3, 1) := dk_29 (dk_at dksX19_hardest_4 9 rfl rfl)
theorem dX19_hardest_101 : decode cX19_hardest 101 = .ok (.istore_n 1, 1) := dk_60 (dk_at dksX19_hardest_4 10 rfl rfl)
theorem dX19_hardest_102 : decode cX19_hardest 102 = .ok (.iload 5, 2) := dk_21 5 (dk_at dksX19_hardest_4 11 rfl rfl)
theorem dX19_hardest_104 : decode cX19_hardest 104 = .ok (.istore_n 2, 1) := dk_61 (dk_at dksX19_hardest_4 13 rfl rfl)
theorem dX19_hardest_105 : decode cX19_hardest 105 = .ok (.iinc 4 1, 3) := dk_132 4 1 (dk_at dksX19_hardest_4 14 rfl rfl)
theorem dX19_hardest_108 : decode cX19_hardest 108 = .ok (.goto (-52), 3) := dk_167 255 204 (dk_at dksX19_hardest_4 17 rfl rfl)
theorem dX19_hardest_111 : decode cX19_hardest 111 = .ok (.iinc 3 1, 3) := dk_132 3 1 (dk_at dksX19_hardest_4 20 rfl rfl)
theorem dX19_hardest_114 : decode cX19_hardest 114 = .ok (.goto (-72), 3) := dk_167 255 184 (dk_at dksX19_hardest_5 0 rfl rfl)
theorem dX19_hardest_117 : decode cX19_hardest 117 = .ok (.aload_n 0, 1) := dk_42 (dk_at dksX19_hardest_5 3 rfl rfl)
theorem dX19_hardest_118 : decode cX19_hardest 118 = .ok (.iload_n 1, 1) := dk_27 (dk_at dksX19_hardest_5 4 rfl rfl)
theorem dX19_hardest_119 : decode cX19_hardest 119 = .ok (.invokevirtual 96, 3) := dk_182 0 96 (dk_at dksX19_hardest_5 5 rfl rfl)
theorem dX19_hardest_122 : decode cX19_hardest 122 = .ok (.ireturn, 1) := dk_172 (dk_at dksX19_hardest_5 8 rfl rfl)
abbrev cX19_shows : ByteArray := prog_23_method_119_code
def yX19_shows : MethodName := ⟨RX19, "shows", "(II)I"⟩
def dkwX19_shows_4 : List UInt8 := [180, 1, 90, 4, 100, 182, 0, 96, 172]
abbrev dktX19_shows_4 : List UInt8 := dkwX19_shows_4 ++ []
def dkwX19_shows_3 : List UInt8 := [79, 42, 180, 0, 71, 42, 180, 1, 90, 29, 79, 42, 89, 180, 1, 90, 4, 96, 181, 1, 90, 42, 42]
abbrev dktX19_shows_3 : List UInt8 := dkwX19_shows_3 ++ dktX19_shows_4
def dkwX19_shows_2 : List UInt8 := [42, 180, 1, 90, 16, 20, 160, 0, 9, 42, 6, 182, 0, 92, 172, 42, 180, 0, 68, 42, 180, 1, 90, 28]
abbrev dktX19_shows_2 : List UInt8 := dkwX19_shows_2 ++ dktX19_shows_3
def dkwX19_shows_1 : List UInt8 := [182, 0, 92, 172, 42, 27, 28, 182, 1, 177, 62, 29, 16, 254, 160, 0, 10, 42, 16, 6, 182, 0, 92, 172]
abbrev dktX19_shows_1 : List UInt8 := dkwX19_shows_1 ++ dktX19_shows_2
def dkwX19_shows_0 : List UInt8 := [42, 3, 181, 0, 86, 42, 27, 182, 1, 174, 153, 0, 11, 42, 28, 182, 1, 119, 154, 0, 9, 42, 4]
abbrev dktX19_shows_0 : List UInt8 := dkwX19_shows_0 ++ dktX19_shows_1
theorem dksX19_shows_0 : cX19_shows.data.toList.drop 0 = dktX19_shows_0 := by decide +kernel
theorem dksX19_shows_1 : cX19_shows.data.toList.drop 23 = dktX19_shows_1 := dk_seg dksX19_shows_0 23 rfl rfl
theorem dksX19_shows_2 : cX19_shows.data.toList.drop 47 = dktX19_shows_2 := dk_seg dksX19_shows_1 24 rfl rfl
theorem dksX19_shows_3 : cX19_shows.data.toList.drop 71 = dktX19_shows_3 := dk_seg dksX19_shows_2 24 rfl rfl
theorem dksX19_shows_4 : cX19_shows.data.toList.drop 94 = dktX19_shows_4 := dk_seg dksX19_shows_3 23 rfl rfl
theorem dX19_shows_0 : decode cX19_shows 0 = .ok (.aload_n 0, 1) := dk_42 (dk_at dksX19_shows_0 0 rfl rfl)
theorem dX19_shows_1 : decode cX19_shows 1 = .ok (.iconst 0, 1) := dk_3 (dk_at dksX19_shows_0 1 rfl rfl)
theorem dX19_shows_2 : decode cX19_shows 2 = .ok (.putfield 86, 3) := dk_181 0 86 (dk_at dksX19_shows_0 2 rfl rfl)
theorem dX19_shows_5 : decode cX19_shows 5 = .ok (.aload_n 0, 1) := dk_42 (dk_at dksX19_shows_0 5 rfl rfl)
theorem dX19_shows_6 : decode cX19_shows 6 = .ok (.iload_n 1, 1) := dk_27 (dk_at dksX19_shows_0 6 rfl rfl)
theorem dX19_shows_7 : decode cX19_shows 7 = .ok (.invokevirtual 430, 3) := dk_182 1 174 (dk_at dksX19_shows_0 7 rfl rfl)
theorem dX19_shows_10 : decode cX19_shows 10 = .ok (.ifCond .eq 11, 3) := dk_153 0 11 (dk_at dksX19_shows_0 10 rfl rfl)
theorem dX19_shows_13 : decode cX19_shows 13 = .ok (.aload_n 0, 1) := dk_42 (dk_at dksX19_shows_0 13 rfl rfl)
theorem dX19_shows_14 : decode cX19_shows 14 = .ok (.iload_n 2, 1) := dk_28 (dk_at dksX19_shows_0 14 rfl rfl)
theorem dX19_shows_15 : decode cX19_shows 15 = .ok (.invokevirtual 375, 3) := dk_182 1 119 (dk_at dksX19_shows_0 15 rfl rfl)
theorem dX19_shows_18 : decode cX19_shows 18 = .ok (.ifCond .ne 9, 3) := dk_154 0 9 (dk_at dksX19_shows_0 18 rfl rfl)
theorem dX19_shows_21 : decode cX19_shows 21 = .ok (.aload_n 0, 1) := dk_42 (dk_at dksX19_shows_0 21 rfl rfl)
theorem dX19_shows_22 : decode cX19_shows 22 = .ok (.iconst 1, 1) := dk_4 (dk_at dksX19_shows_0 22 rfl rfl)
theorem dX19_shows_23 : decode cX19_shows 23 = .ok (.invokevirtual 92, 3) := dk_182 0 92 (dk_at dksX19_shows_1 0 rfl rfl)
theorem dX19_shows_26 : decode cX19_shows 26 = .ok (.ireturn, 1) := dk_172 (dk_at dksX19_shows_1 3 rfl rfl)
theorem dX19_shows_27 : decode cX19_shows 27 = .ok (.aload_n 0, 1) := dk_42 (dk_at dksX19_shows_1 4 rfl rfl)
theorem dX19_shows_28 : decode cX19_shows 28 = .ok (.iload_n 1, 1) := dk_27 (dk_at dksX19_shows_1 5 rfl rfl)
theorem dX19_shows_29 : decode cX19_shows 29 = .ok (.iload_n 2, 1) := dk_28 (dk_at dksX19_shows_1 6 rfl rfl)
theorem dX19_shows_30 : decode cX19_shows 30 = .ok (.invokevirtual 433, 3) := dk_182 1 177 (dk_at dksX19_shows_1 7 rfl rfl)
theorem dX19_shows_33 : decode cX19_shows 33 = .ok (.istore_n 3, 1) := dk_62 (dk_at dksX19_shows_1 10 rfl rfl)
theorem dX19_shows_34 : decode cX19_shows 34 = .ok (.iload_n 3, 1) := dk_29 (dk_at dksX19_shows_1 11 rfl rfl)
theorem dX19_shows_35 : decode cX19_shows 35 = .ok (.bipush (-2), 2) := dk_16 254 (dk_at dksX19_shows_1 12 rfl rfl)
theorem dX19_shows_37 : decode cX19_shows 37 = .ok (.if_icmp .ne 10, 3) := dk_160 0 10 (dk_at dksX19_shows_1 14 rfl rfl)
theorem dX19_shows_40 : decode cX19_shows 40 = .ok (.aload_n 0, 1) := dk_42 (dk_at dksX19_shows_1 17 rfl rfl)
theorem dX19_shows_41 : decode cX19_shows 41 = .ok (.bipush 6, 2) := dk_16 6 (dk_at dksX19_shows_1 18 rfl rfl)
theorem dX19_shows_43 : decode cX19_shows 43 = .ok (.invokevirtual 92, 3) := dk_182 0 92 (dk_at dksX19_shows_1 20 rfl rfl)
theorem dX19_shows_46 : decode cX19_shows 46 = .ok (.ireturn, 1) := dk_172 (dk_at dksX19_shows_1 23 rfl rfl)
theorem dX19_shows_47 : decode cX19_shows 47 = .ok (.aload_n 0, 1) := dk_42 (dk_at dksX19_shows_2 0 rfl rfl)
theorem dX19_shows_48 : decode cX19_shows 48 = .ok (.getfield 346, 3) := dk_180 1 90 (dk_at dksX19_shows_2 1 rfl rfl)
theorem dX19_shows_51 : decode cX19_shows 51 = .ok (.bipush 20, 2) := dk_16 20 (dk_at dksX19_shows_2 4 rfl rfl)
theorem dX19_shows_53 : decode cX19_shows 53 = .ok (.if_icmp .ne 9, 3) := dk_160 0 9 (dk_at dksX19_shows_2 6 rfl rfl)
theorem dX19_shows_56 : decode cX19_shows 56 = .ok (.aload_n 0, 1) := dk_42 (dk_at dksX19_shows_2 9 rfl rfl)
theorem dX19_shows_57 : decode cX19_shows 57 = .ok (.iconst 3, 1) := dk_6 (dk_at dksX19_shows_2 10 rfl rfl)
theorem dX19_shows_58 : decode cX19_shows 58 = .ok (.invokevirtual 92, 3) := dk_182 0 92 (dk_at dksX19_shows_2 11 rfl rfl)
theorem dX19_shows_61 : decode cX19_shows 61 = .ok (.ireturn, 1) := dk_172 (dk_at dksX19_shows_2 14 rfl rfl)
theorem dX19_shows_62 : decode cX19_shows 62 = .ok (.aload_n 0, 1) := dk_42 (dk_at dksX19_shows_2 15 rfl rfl)
theorem dX19_shows_63 : decode cX19_shows 63 = .ok (.getfield 68, 3) := dk_180 0 68 (dk_at dksX19_shows_2 16 rfl rfl)
theorem dX19_shows_66 : decode cX19_shows 66 = .ok (.aload_n 0, 1) := dk_42 (dk_at dksX19_shows_2 19 rfl rfl)
theorem dX19_shows_67 : decode cX19_shows 67 = .ok (.getfield 346, 3) := dk_180 1 90 (dk_at dksX19_shows_2 20 rfl rfl)
theorem dX19_shows_70 : decode cX19_shows 70 = .ok (.iload_n 2, 1) := dk_28 (dk_at dksX19_shows_2 23 rfl rfl)
theorem dX19_shows_71 : decode cX19_shows 71 = .ok (.iastore, 1) := dk_79 (dk_at dksX19_shows_3 0 rfl rfl)
theorem dX19_shows_72 : decode cX19_shows 72 = .ok (.aload_n 0, 1) := dk_42 (dk_at dksX19_shows_3 1 rfl rfl)
theorem dX19_shows_73 : decode cX19_shows 73 = .ok (.getfield 71, 3) := dk_180 0 71 (dk_at dksX19_shows_3 2 rfl rfl)
theorem dX19_shows_76 : decode cX19_shows 76 = .ok (.aload_n 0, 1) := dk_42 (dk_at dksX19_shows_3 5 rfl rfl)
theorem dX19_shows_77 : decode cX19_shows 77 = .ok (.getfield 346, 3) := dk_180 1 90 (dk_at dksX19_shows_3 6 rfl rfl)
theorem dX19_shows_80 : decode cX19_shows 80 = .ok (.iload_n 3, 1) := dk_29 (dk_at dksX19_shows_3 9 rfl rfl)
theorem dX19_shows_81 : decode cX19_shows 81 = .ok (.iastore, 1) := dk_79 (dk_at dksX19_shows_3 10 rfl rfl)
theorem dX19_shows_82 : decode cX19_shows 82 = .ok (.aload_n 0, 1) := dk_42 (dk_at dksX19_shows_3 11 rfl rfl)
theorem dX19_shows_83 : decode cX19_shows 83 = .ok (.dup, 1) := dk_89 (dk_at dksX19_shows_3 12 rfl rfl)
theorem dX19_shows_84 : decode cX19_shows 84 = .ok (.getfield 346, 3) := dk_180 1 90 (dk_at dksX19_shows_3 13 rfl rfl)
theorem dX19_shows_87 : decode cX19_shows 87 = .ok (.iconst 1, 1) := dk_4 (dk_at dksX19_shows_3 16 rfl rfl)
theorem dX19_shows_88 : decode cX19_shows 88 = .ok (.iadd, 1) := dk_96 (dk_at dksX19_shows_3 17 rfl rfl)
theorem dX19_shows_89 : decode cX19_shows 89 = .ok (.putfield 346, 3) := dk_181 1 90 (dk_at dksX19_shows_3 18 rfl rfl)
theorem dX19_shows_92 : decode cX19_shows 92 = .ok (.aload_n 0, 1) := dk_42 (dk_at dksX19_shows_3 21 rfl rfl)
theorem dX19_shows_93 : decode cX19_shows 93 = .ok (.aload_n 0, 1) := dk_42 (dk_at dksX19_shows_3 22 rfl rfl)
theorem dX19_shows_94 : decode cX19_shows 94 = .ok (.getfield 346, 3) := dk_180 1 90 (dk_at dksX19_shows_4 0 rfl rfl)
theorem dX19_shows_97 : decode cX19_shows 97 = .ok (.iconst 1, 1) := dk_4 (dk_at dksX19_shows_4 3 rfl rfl)
theorem dX19_shows_98 : decode cX19_shows 98 = .ok (.isub, 1) := dk_100 (dk_at dksX19_shows_4 4 rfl rfl)
theorem dX19_shows_99 : decode cX19_shows 99 = .ok (.invokevirtual 96, 3) := dk_182 0 96 (dk_at dksX19_shows_4 5 rfl rfl)
theorem dX19_shows_102 : decode cX19_shows 102 = .ok (.ireturn, 1) := dk_172 (dk_at dksX19_shows_4 8 rfl rfl)
abbrev cX19_seed : ByteArray := prog_23_method_120_code
def yX19_seed : MethodName := ⟨RX19, "seed", "(I)Z"⟩
def dkwX19_seed_1 : List UInt8 := [184, 0, 168, 154, 0, 9, 42, 5, 182, 2, 4, 172, 42, 27, 181, 1, 75, 42, 182, 2, 8, 172]
abbrev dktX19_seed_1 : List UInt8 := dkwX19_seed_1 ++ []
def dkwX19_seed_0 : List UInt8 := [42, 3, 181, 0, 86, 42, 180, 1, 73, 199, 0, 9, 42, 4, 182, 2, 4, 172, 27, 3, 19, 2, 7]
abbrev dktX19_seed_0 : List UInt8 := dkwX19_seed_0 ++ dktX19_seed_1
theorem dksX19_seed_0 : cX19_seed.data.toList.drop 0 = dktX19_seed_0 := by decide +kernel
theorem dksX19_seed_1 : cX19_seed.data.toList.drop 23 = dktX19_seed_1 := dk_seg dksX19_seed_0 23 rfl rfl
theorem dX19_seed_0 : decode cX19_seed 0 = .ok (.aload_n 0, 1) := dk_42 (dk_at dksX19_seed_0 0 rfl rfl)
theorem dX19_seed_1 : decode cX19_seed 1 = .ok (.iconst 0, 1) := dk_3 (dk_at dksX19_seed_0 1 rfl rfl)
theorem dX19_seed_2 : decode cX19_seed 2 = .ok (.putfield 86, 3) := dk_181 0 86 (dk_at dksX19_seed_0 2 rfl rfl)
theorem dX19_seed_5 : decode cX19_seed 5 = .ok (.aload_n 0, 1) := dk_42 (dk_at dksX19_seed_0 5 rfl rfl)
theorem dX19_seed_6 : decode cX19_seed 6 = .ok (.getfield 329, 3) := dk_180 1 73 (dk_at dksX19_seed_0 6 rfl rfl)
theorem dX19_seed_9 : decode cX19_seed 9 = .ok (.ifnonnull 9, 3) := dk_199 0 9 (dk_at dksX19_seed_0 9 rfl rfl)
theorem dX19_seed_12 : decode cX19_seed 12 = .ok (.aload_n 0, 1) := dk_42 (dk_at dksX19_seed_0 12 rfl rfl)
theorem dX19_seed_13 : decode cX19_seed 13 = .ok (.iconst 1, 1) := dk_4 (dk_at dksX19_seed_0 13 rfl rfl)
theorem dX19_seed_14 : decode cX19_seed 14 = .ok (.invokevirtual 516, 3) := dk_182 2 4 (dk_at dksX19_seed_0 14 rfl rfl)
theorem dX19_seed_17 : decode cX19_seed 17 = .ok (.ireturn, 1) := dk_172 (dk_at dksX19_seed_0 17 rfl rfl)
theorem dX19_seed_18 : decode cX19_seed 18 = .ok (.iload_n 1, 1) := dk_27 (dk_at dksX19_seed_0 18 rfl rfl)
theorem dX19_seed_19 : decode cX19_seed 19 = .ok (.iconst 0, 1) := dk_3 (dk_at dksX19_seed_0 19 rfl rfl)
theorem dX19_seed_20 : decode cX19_seed 20 = .ok (.ldc_w 519, 3) := dk_19 2 7 (dk_at dksX19_seed_0 20 rfl rfl)
theorem dX19_seed_23 : decode cX19_seed 23 = .ok (.invokestatic 168, 3) := dk_184 0 168 (dk_at dksX19_seed_1 0 rfl rfl)
theorem dX19_seed_26 : decode cX19_seed 26 = .ok (.ifCond .ne 9, 3) := dk_154 0 9 (dk_at dksX19_seed_1 3 rfl rfl)
theorem dX19_seed_29 : decode cX19_seed 29 = .ok (.aload_n 0, 1) := dk_42 (dk_at dksX19_seed_1 6 rfl rfl)
theorem dX19_seed_30 : decode cX19_seed 30 = .ok (.iconst 2, 1) := dk_5 (dk_at dksX19_seed_1 7 rfl rfl)
theorem dX19_seed_31 : decode cX19_seed 31 = .ok (.invokevirtual 516, 3) := dk_182 2 4 (dk_at dksX19_seed_1 8 rfl rfl)
theorem dX19_seed_34 : decode cX19_seed 34 = .ok (.ireturn, 1) := dk_172 (dk_at dksX19_seed_1 11 rfl rfl)
theorem dX19_seed_35 : decode cX19_seed 35 = .ok (.aload_n 0, 1) := dk_42 (dk_at dksX19_seed_1 12 rfl rfl)
theorem dX19_seed_36 : decode cX19_seed 36 = .ok (.iload_n 1, 1) := dk_27 (dk_at dksX19_seed_1 13 rfl rfl)
theorem dX19_seed_37 : decode cX19_seed 37 = .ok (.putfield 331, 3) := dk_181 1 75 (dk_at dksX19_seed_1 14 rfl rfl)
theorem dX19_seed_40 : decode cX19_seed 40 = .ok (.aload_n 0, 1) := dk_42 (dk_at dksX19_seed_1 17 rfl rfl)
theorem dX19_seed_41 : decode cX19_seed 41 = .ok (.invokevirtual 520, 3) := dk_182 2 8 (dk_at dksX19_seed_1 18 rfl rfl)
theorem dX19_seed_44 : decode cX19_seed 44 = .ok (.ireturn, 1) := dk_172 (dk_at dksX19_seed_1 21 rfl rfl)
abbrev cX19_denied : ByteArray := prog_23_method_4_code
def yX19_denied : MethodName := ⟨RX19, "denied", "(I)Z"⟩
def dkwX19_denied_0 : List UInt8 := [42, 27, 182, 0, 92, 87, 3, 172]
abbrev dktX19_denied_0 : List UInt8 := dkwX19_denied_0 ++ []
theorem dksX19_denied_0 : cX19_denied.data.toList.drop 0 = dktX19_denied_0 := by decide +kernel
theorem dX19_denied_0 : decode cX19_denied 0 = .ok (.aload_n 0, 1) := dk_42 (dk_at dksX19_denied_0 0 rfl rfl)
theorem dX19_denied_1 : decode cX19_denied 1 = .ok (.iload_n 1, 1) := dk_27 (dk_at dksX19_denied_0 1 rfl rfl)
theorem dX19_denied_2 : decode cX19_denied 2 = .ok (.invokevirtual 92, 3) := dk_182 0 92 (dk_at dksX19_denied_0 2 rfl rfl)
theorem dX19_denied_5 : decode cX19_denied 5 = .ok (.pop, 1) := dk_87 (dk_at dksX19_denied_0 5 rfl rfl)
theorem dX19_denied_6 : decode cX19_denied 6 = .ok (.iconst 0, 1) := dk_3 (dk_at dksX19_denied_0 6 rfl rfl)
theorem dX19_denied_7 : decode cX19_denied 7 = .ok (.ireturn, 1) := dk_172 (dk_at dksX19_denied_0 7 rfl rfl)
abbrev cX19_granted : ByteArray := prog_23_method_6_code
def yX19_granted : MethodName := ⟨RX19, "granted", "()Z"⟩
def dkwX19_granted_0 : List UInt8 := [42, 3, 182, 0, 96, 87, 4, 172]
abbrev dktX19_granted_0 : List UInt8 := dkwX19_granted_0 ++ []
theorem dksX19_granted_0 : cX19_granted.data.toList.drop 0 = dktX19_granted_0 := by decide +kernel
theorem dX19_granted_0 : decode cX19_granted 0 = .ok (.aload_n 0, 1) := dk_42 (dk_at dksX19_granted_0 0 rfl rfl)
theorem dX19_granted_1 : decode cX19_granted 1 = .ok (.iconst 0, 1) := dk_3 (dk_at dksX19_granted_0 1 rfl rfl)
theorem dX19_granted_2 : decode cX19_granted 2 = .ok (.invokevirtual 96, 3) := dk_182 0 96 (dk_at dksX19_granted_0 2 rfl rfl)
theorem dX19_granted_5 : decode cX19_granted 5 = .ok (.pop, 1) := dk_87 (dk_at dksX19_granted_0 5 rfl rfl)
theorem dX19_granted_6 : decode cX19_granted 6 = .ok (.iconst 1, 1) := dk_4 (dk_at dksX19_granted_0 6 rfl rfl)
theorem dX19_granted_7 : decode cX19_granted 7 = .ok (.ireturn, 1) := dk_172 (dk_at dksX19_granted_0 7 rfl rfl)
abbrev cX19_draw : ByteArray := prog_23_method_121_code
def yX19_draw : MethodName := ⟨RX19, "draw", "()I"⟩
def dkwX19_draw_2 : List UInt8 := [180, 1, 100, 112, 182, 0, 96, 172]
abbrev dktX19_draw_2 : List UInt8 := dkwX19_draw_2 ++ []
def dkwX19_draw_1 : List UInt8 := [180, 1, 75, 133, 105, 20, 2, 13, 97, 20, 2, 15, 113, 136, 181, 1, 75, 42, 42, 180, 1, 75, 42]
abbrev dktX19_draw_1 : List UInt8 := dkwX19_draw_1 ++ dktX19_draw_2
def dkwX19_draw_0 : List UInt8 := [42, 3, 181, 0, 86, 42, 180, 1, 73, 199, 0, 9, 42, 4, 182, 0, 92, 172, 42, 20, 2, 11, 42]
abbrev dktX19_draw_0 : List UInt8 := dkwX19_draw_0 ++ dktX19_draw_1
theorem dksX19_draw_0 : cX19_draw.data.toList.drop 0 = dktX19_draw_0 := by decide +kernel
theorem dksX19_draw_1 : cX19_draw.data.toList.drop 23 = dktX19_draw_1 := dk_seg dksX19_draw_0 23 rfl rfl
theorem dksX19_draw_2 : cX19_draw.data.toList.drop 46 = dktX19_draw_2 := dk_seg dksX19_draw_1 23 rfl rfl
theorem dX19_draw_0 : decode cX19_draw 0 = .ok (.aload_n 0, 1) := dk_42 (dk_at dksX19_draw_0 0 rfl rfl)
theorem dX19_draw_1 : decode cX19_draw 1 = .ok (.iconst 0, 1) := dk_3 (dk_at dksX19_draw_0 1 rfl rfl)
theorem dX19_draw_2 : decode cX19_draw 2 = .ok (.putfield 86, 3) := dk_181 0 86 (dk_at dksX19_draw_0 2 rfl rfl)
theorem dX19_draw_5 : decode cX19_draw 5 = .ok (.aload_n 0, 1) := dk_42 (dk_at dksX19_draw_0 5 rfl rfl)
theorem dX19_draw_6 : decode cX19_draw 6 = .ok (.getfield 329, 3) := dk_180 1 73 (dk_at dksX19_draw_0 6 rfl rfl)
theorem dX19_draw_9 : decode cX19_draw 9 = .ok (.ifnonnull 9, 3) := dk_199 0 9 (dk_at dksX19_draw_0 9 rfl rfl)
theorem dX19_draw_12 : decode cX19_draw 12 = .ok (.aload_n 0, 1) := dk_42 (dk_at dksX19_draw_0 12 rfl rfl)
theorem dX19_draw_13 : decode cX19_draw 13 = .ok (.iconst 1, 1) := dk_4 (dk_at dksX19_draw_0 13 rfl rfl)
theorem dX19_draw_14 : decode cX19_draw 14 = .ok (.invokevirtual 92, 3) := dk_182 0 92 (dk_at dksX19_draw_0 14 rfl rfl)
theorem dX19_draw_17 : decode cX19_draw 17 = .ok (.ireturn, 1) := dk_172 (dk_at dksX19_draw_0 17 rfl rfl)
theorem dX19_draw_18 : decode cX19_draw 18 = .ok (.aload_n 0, 1) := dk_42 (dk_at dksX19_draw_0 18 rfl rfl)
theorem dX19_draw_19 : decode cX19_draw 19 = .ok (.ldc2_w 523, 3) := dk_20 2 11 (dk_at dksX19_draw_0 19 rfl rfl)
theorem dX19_draw_22 : decode cX19_draw 22 = .ok (.aload_n 0, 1) := dk_42 (dk_at dksX19_draw_0 22 rfl rfl)
theorem dX19_draw_23 : decode cX19_draw 23 = .ok (.getfield 331, 3) := dk_180 1 75 (dk_at dksX19_draw_1 0 rfl rfl)
theorem dX19_draw_26 : decode cX19_draw 26 = .ok (.i2l, 1) := dk_133 (dk_at dksX19_draw_1 3 rfl rfl)
theorem dX19_draw_27 : decode cX19_draw 27 = .ok (.lmul, 1) := dk_105 (dk_at dksX19_draw_1 4 rfl rfl)
theorem dX19_draw_28 : decode cX19_draw 28 = .ok (.ldc2_w 525, 3) := dk_20 2 13 (dk_at dksX19_draw_1 5 rfl rfl)
theorem dX19_draw_31 : decode cX19_draw 31 = .ok (.ladd, 1) := dk_97 (dk_at dksX19_draw_1 8 rfl rfl)
theorem dX19_draw_32 : decode cX19_draw 32 = .ok (.ldc2_w 527, 3) := dk_20 2 15 (dk_at dksX19_draw_1 9 rfl rfl)
theorem dX19_draw_35 : decode cX19_draw 35 = .ok (.lrem, 1) := dk_113 (dk_at dksX19_draw_1 12 rfl rfl)
theorem dX19_draw_36 : decode cX19_draw 36 = .ok (.l2i, 1) := dk_136 (dk_at dksX19_draw_1 13 rfl rfl)
theorem dX19_draw_37 : decode cX19_draw 37 = .ok (.putfield 331, 3) := dk_181 1 75 (dk_at dksX19_draw_1 14 rfl rfl)
theorem dX19_draw_40 : decode cX19_draw 40 = .ok (.aload_n 0, 1) := dk_42 (dk_at dksX19_draw_1 17 rfl rfl)
theorem dX19_draw_41 : decode cX19_draw 41 = .ok (.aload_n 0, 1) := dk_42 (dk_at dksX19_draw_1 18 rfl rfl)
theorem dX19_draw_42 : decode cX19_draw 42 = .ok (.getfield 331, 3) := dk_180 1 75 (dk_at dksX19_draw_1 19 rfl rfl)
theorem dX19_draw_45 : decode cX19_draw 45 = .ok (.aload_n 0, 1) := dk_42 (dk_at dksX19_draw_1 22 rfl rfl)
theorem dX19_draw_46 : decode cX19_draw 46 = .ok (.getfield 356, 3) := dk_180 1 100 (dk_at dksX19_draw_2 0 rfl rfl)
theorem dX19_draw_49 : decode cX19_draw 49 = .ok (.irem, 1) := dk_112 (dk_at dksX19_draw_2 3 rfl rfl)
theorem dX19_draw_50 : decode cX19_draw 50 = .ok (.invokevirtual 96, 3) := dk_182 0 96 (dk_at dksX19_draw_2 4 rfl rfl)
theorem dX19_draw_53 : decode cX19_draw 53 = .ok (.ireturn, 1) := dk_172 (dk_at dksX19_draw_2 7 rfl rfl)
abbrev cX19_strike : ByteArray := prog_23_method_122_code
def yX19_strike : MethodName := ⟨RX19, "strike", "()Z"⟩
def dkwX19_strike_1 : List UInt8 := [182, 2, 4, 172, 42, 89, 180, 1, 90, 4, 100, 181, 1, 90, 42, 182, 2, 8, 172]
abbrev dktX19_strike_1 : List UInt8 := dkwX19_strike_1 ++ []
def dkwX19_strike_0 : List UInt8 := [42, 3, 181, 0, 86, 42, 180, 1, 73, 198, 0, 10, 42, 180, 1, 90, 154, 0, 10, 42, 16, 6]
abbrev dktX19_strike_0 : List UInt8 := dkwX19_strike_0 ++ dktX19_strike_1
theorem dksX19_strike_0 : cX19_strike.data.toList.drop 0 = dktX19_strike_0 := by decide +kernel
theorem dksX19_strike_1 : cX19_strike.data.toList.drop 22 = dktX19_strike_1 := dk_seg dksX19_strike_0 22 rfl rfl
theorem dX19_strike_0 : decode cX19_strike 0 = .ok (.aload_n 0, 1) := dk_42 (dk_at dksX19_strike_0 0 rfl rfl)
theorem dX19_strike_1 : decode cX19_strike 1 = .ok (.iconst 0, 1) := dk_3 (dk_at dksX19_strike_0 1 rfl rfl)
theorem dX19_strike_2 : decode cX19_strike 2 = .ok (.putfield 86, 3) := dk_181 0 86 (dk_at dksX19_strike_0 2 rfl rfl)
theorem dX19_strike_5 : decode cX19_strike 5 = .ok (.aload_n 0, 1) := dk_42 (dk_at dksX19_strike_0 5 rfl rfl)
theorem dX19_strike_6 : decode cX19_strike 6 = .ok (.getfield 329, 3) := dk_180 1 73 (dk_at dksX19_strike_0 6 rfl rfl)
theorem dX19_strike_9 : decode cX19_strike 9 = .ok (.ifnull 10, 3) := dk_198 0 10 (dk_at dksX19_strike_0 9 rfl rfl)
theorem dX19_strike_12 : decode cX19_strike 12 = .ok (.aload_n 0, 1) := dk_42 (dk_at dksX19_strike_0 12 rfl rfl)
theorem dX19_strike_13 : decode cX19_strike 13 = .ok (.getfield 346, 3) := dk_180 1 90 (dk_at dksX19_strike_0 13 rfl rfl)
theorem dX19_strike_16 : decode cX19_strike 16 = .ok (.ifCond .ne 10, 3) := dk_154 0 10 (dk_at dksX19_strike_0 16 rfl rfl)
theorem dX19_strike_19 : decode cX19_strike 19 = .ok (.aload_n 0, 1) := dk_42 (dk_at dksX19_strike_0 19 rfl rfl)
theorem dX19_strike_20 : decode cX19_strike 20 = .ok (.bipush 6, 2) := dk_16 6 (dk_at dksX19_strike_0 20 rfl rfl)
theorem dX19_strike_22 : decode cX19_strike 22 = .ok (.invokevirtual 516, 3) := dk_182 2 4 (dk_at dksX19_strike_1 0 rfl rfl)
theorem dX19_strike_25 : decode cX19_strike 25 = .ok (.ireturn, 1) := dk_172 (dk_at dksX19_strike_1 3 rfl rfl)
theorem dX19_strike_26 : decode cX19_strike 26 = .ok (.aload_n 0, 1) := dk_42 (dk_at dksX19_strike_1 4 rfl rfl)
theorem dX19_strike_27 : decode cX19_strike 27 = .ok (.dup, 1) := dk_89 (dk_at dksX19_strike_1 5 rfl rfl)
theorem dX19_strike_28 : decode cX19_strike 28 = .ok (.getfield 346, 3) := dk_180 1 90 (dk_at dksX19_strike_1 6 rfl rfl)
theorem dX19_strike_31 : decode cX19_strike 31 = .ok (.iconst 1, 1) := dk_4 (dk_at dksX19_strike_1 9 rfl rfl)
theorem dX19_strike_32 : decode cX19_strike 32 = .ok (.isub, 1) := dk_100 (dk_at dksX19_strike_1 10 rfl rfl)
theorem dX19_strike_33 : decode cX19_strike 33 = .ok (.putfield 346, 3) := dk_181 1 90 (dk_at dksX19_strike_1 11 rfl rfl)
theorem dX19_strike_36 : decode cX19_strike 36 = .ok (.aload_n 0, 1) := dk_42 (dk_at dksX19_strike_1 14 rfl rfl)
theorem dX19_strike_37 : decode cX19_strike 37 = .ok (.invokevirtual 520, 3) := dk_182 2 8 (dk_at dksX19_strike_1 15 rfl rfl)
theorem dX19_strike_40 : decode cX19_strike 40 = .ok (.ireturn, 1) := dk_172 (dk_at dksX19_strike_1 18 rfl rfl)
abbrev cX19_image : ByteArray := prog_23_method_123_code
def yX19_image : MethodName := ⟨RX19, "image", "()I"⟩
def dkwX19_image_5 : List UInt8 := [180, 1, 78, 4, 96, 181, 1, 78, 42, 42, 180, 1, 78, 4, 100, 182, 0, 96, 172]
abbrev dktX19_image_5 : List UInt8 := dkwX19_image_5 ++ []
def dkwX19_image_4 : List UInt8 := [180, 1, 78, 42, 180, 1, 90, 79, 42, 180, 0, 83, 42, 180, 1, 78, 42, 180, 1, 75, 79, 42, 89]
abbrev dktX19_image_4 : List UInt8 := dkwX19_image_4 ++ dktX19_image_5
def dkwX19_image_3 : List UInt8 := [180, 1, 78, 104, 27, 96, 42, 180, 0, 71, 27, 46, 79, 132, 1, 1, 167, 255, 205, 42, 180, 0, 80, 42]
abbrev dktX19_image_3 : List UInt8 := dkwX19_image_3 ++ dktX19_image_4
def dkwX19_image_2 : List UInt8 := [16, 20, 42, 180, 1, 78, 104, 27, 96, 42, 180, 0, 68, 27, 46, 79, 42, 180, 0, 77, 16, 20, 42]
abbrev dktX19_image_2 : List UInt8 := dkwX19_image_2 ++ dktX19_image_3
def dkwX19_image_1 : List UInt8 := [160, 0, 9, 42, 6, 182, 0, 92, 172, 3, 60, 27, 42, 180, 1, 90, 162, 0, 49, 42, 180, 0, 74]
abbrev dktX19_image_1 : List UInt8 := dkwX19_image_1 ++ dktX19_image_2
def dkwX19_image_0 : List UInt8 := [42, 3, 181, 0, 86, 42, 180, 1, 73, 199, 0, 9, 42, 4, 182, 0, 92, 172, 42, 180, 1, 78, 6]
abbrev dktX19_image_0 : List UInt8 := dkwX19_image_0 ++ dktX19_image_1
theorem dksX19_image_0 : cX19_image.data.toList.drop 0 = dktX19_image_0 := by decide +kernel
theorem dksX19_image_1 : cX19_image.data.toList.drop 23 = dktX19_image_1 := dk_seg dksX19_image_0 23 rfl rfl
theorem dksX19_image_2 : cX19_image.data.toList.drop 46 = dktX19_image_2 := dk_seg dksX19_image_1 23 rfl rfl
theorem dksX19_image_3 : cX19_image.data.toList.drop 69 = dktX19_image_3 := dk_seg dksX19_image_2 23 rfl rfl
theorem dksX19_image_4 : cX19_image.data.toList.drop 93 = dktX19_image_4 := dk_seg dksX19_image_3 24 rfl rfl
theorem dksX19_image_5 : cX19_image.data.toList.drop 116 = dktX19_image_5 := dk_seg dksX19_image_4 23 rfl rfl
theorem dX19_image_0 : decode cX19_image 0 = .ok (.aload_n 0, 1) := dk_42 (dk_at dksX19_image_0 0 rfl rfl)
theorem dX19_image_1 : decode cX19_image 1 = .ok (.iconst 0, 1) := dk_3 (dk_at dksX19_image_0 1 rfl rfl)
theorem dX19_image_2 : decode cX19_image 2 = .ok (.putfield 86, 3) := dk_181 0 86 (dk_at dksX19_image_0 2 rfl rfl)
theorem dX19_image_5 : decode cX19_image 5 = .ok (.aload_n 0, 1) := dk_42 (dk_at dksX19_image_0 5 rfl rfl)
theorem dX19_image_6 : decode cX19_image 6 = .ok (.getfield 329, 3) := dk_180 1 73 (dk_at dksX19_image_0 6 rfl rfl)
theorem dX19_image_9 : decode cX19_image 9 = .ok (.ifnonnull 9, 3) := dk_199 0 9 (dk_at dksX19_image_0 9 rfl rfl)
theorem dX19_image_12 : decode cX19_image 12 = .ok (.aload_n 0, 1) := dk_42 (dk_at dksX19_image_0 12 rfl rfl)
theorem dX19_image_13 : decode cX19_image 13 = .ok (.iconst 1, 1) := dk_4 (dk_at dksX19_image_0 13 rfl rfl)
theorem dX19_image_14 : decode cX19_image 14 = .ok (.invokevirtual 92, 3) := dk_182 0 92 (dk_at dksX19_image_0 14 rfl rfl)
theorem dX19_image_17 : decode cX19_image 17 = .ok (.ireturn, 1) := dk_172 (dk_at dksX19_image_0 17 rfl rfl)
theorem dX19_image_18 : decode cX19_image 18 = .ok (.aload_n 0, 1) := dk_42 (dk_at dksX19_image_0 18 rfl rfl)
theorem dX19_image_19 : decode cX19_image 19 = .ok (.getfield 334, 3) := dk_180 1 78 (dk_at dksX19_image_0 19 rfl rfl)
theorem dX19_image_22 : decode cX19_image 22 = .ok (.iconst 3, 1) := dk_6 (dk_at dksX19_image_0 22 rfl rfl)
theorem dX19_image_23 : decode cX19_image 23 = .ok (.if_icmp .ne 9, 3) := dk_160 0 9 (dk_at dksX19_image_1 0 rfl rfl)
theorem dX19_image_26 : decode cX19_image 26 = .ok (.aload_n 0, 1) := dk_42 (dk_at dksX19_image_1 3 rfl rfl)
theorem dX19_image_27 : decode cX19_image 27 = .ok (.iconst 3, 1) := dk_6 (dk_at dksX19_image_1 4 rfl rfl)
theorem dX19_image_28 : decode cX19_image 28 = .ok (.invokevirtual 92, 3) := dk_182 0 92 (dk_at dksX19_image_1 5 rfl rfl)
theorem dX19_image_31 : decode cX19_image 31 = .ok (.ireturn, 1) := dk_172 (dk_at dksX19_image_1 8 rfl rfl)
theorem dX19_image_32 : decode cX19_image 32 = .ok (.iconst 0, 1) := dk_3 (dk_at dksX19_image_1 9 rfl rfl)
theorem dX19_image_33 : decode cX19_image 33 = .ok (.istore_n 1, 1) := dk_60 (dk_at dksX19_image_1 10 rfl rfl)
theorem dX19_image_34 : decode cX19_image 34 = .ok (.iload_n 1, 1) := dk_27 (dk_at dksX19_image_1 11 rfl rfl)
theorem dX19_image_35 : decode cX19_image 35 = .ok (.aload_n 0, 1) := dk_42 (dk_at dksX19_image_1 12 rfl rfl)
theorem dX19_image_36 : decode cX19_image 36 = .ok (.getfield 346, 3) := dk_180 1 90 (dk_at dksX19_image_1 13 rfl rfl)
theorem dX19_image_39 : decode cX19_image 39 = .ok (.if_icmp .ge 49, 3) := dk_162 0 49 (dk_at dksX19_image_1 16 rfl rfl)
theorem dX19_image_42 : decode cX19_image 42 = .ok (.aload_n 0, 1) := dk_42 (dk_at dksX19_image_1 19 rfl rfl)
theorem dX19_image_43 : decode cX19_image 43 = .ok (.getfield 74, 3) := dk_180 0 74 (dk_at dksX19_image_1 20 rfl rfl)
theorem dX19_image_46 : decode cX19_image 46 = .ok (.bipush 20, 2) := dk_16 20 (dk_at dksX19_image_2 0 rfl rfl)
theorem dX19_image_48 : decode cX19_image 48 = .ok (.aload_n 0, 1) := dk_42 (dk_at dksX19_image_2 2 rfl rfl)
theorem dX19_image_49 : decode cX19_image 49 = .ok (.getfield 334, 3) := dk_180 1 78 (dk_at dksX19_image_2 3 rfl rfl)
theorem dX19_image_52 : decode cX19_image 52 = .ok (.imul, 1) := dk_104 (dk_at dksX19_image_2 6 rfl rfl)
theorem dX19_image_53 : decode cX19_image 53 = .ok (.iload_n 1, 1) := dk_27 (dk_at dksX19_image_2 7 rfl rfl)
theorem dX19_image_54 : decode cX19_image 54 = .ok (.iadd, 1) := dk_96 (dk_at dksX19_image_2 8 rfl rfl)
theorem dX19_image_55 : decode cX19_image 55 = .ok (.aload_n 0, 1) := dk_42 (dk_at dksX19_image_2 9 rfl rfl)
theorem dX19_image_56 : decode cX19_image 56 = .ok (.getfield 68, 3) := dk_180 0 68 (dk_at dksX19_image_2 10 rfl rfl)
theorem dX19_image_59 : decode cX19_image 59 = .ok (.iload_n 1, 1) := dk_27 (dk_at dksX19_image_2 13 rfl rfl)
theorem dX19_image_60 : decode cX19_image 60 = .ok (.iaload, 1) := dk_46 (dk_at dksX19_image_2 14 rfl rfl)
theorem dX19_image_61 : decode cX19_image 61 = .ok (.iastore, 1) := dk_79 (dk_at dksX19_image_2 15 rfl rfl)
theorem dX19_image_62 : decode cX19_image 62 = .ok (.aload_n 0, 1) := dk_42 (dk_at dksX19_image_2 16 rfl rfl)
theorem dX19_image_63 : decode cX19_image 63 = .ok (.getfield 77, 3) := dk_180 0 77 (dk_at dksX19_image_2 17 rfl rfl)
theorem dX19_image_66 : decode cX19_image 66 = .ok (.bipush 20, 2) := dk_16 20 (dk_at dksX19_image_2 20 rfl rfl)
theorem dX19_image_68 : decode cX19_image 68 = .ok (.aload_n 0, 1) := dk_42 (dk_at dksX19_image_2 22 rfl rfl)
theorem dX19_image_69 : decode cX19_image 69 = .ok (.getfield 334, 3) := dk_180 1 78 (dk_at dksX19_image_3 0 rfl rfl)
theorem dX19_image_72 : decode cX19_image 72 = .ok (.imul, 1) := dk_104 (dk_at dksX19_image_3 3 rfl rfl)
theorem dX19_image_73 : decode cX19_image 73 = .ok (.iload_n 1, 1) := dk_27 (dk_at dksX19_image_3 4 rfl rfl)
theorem dX19_image_74 : decode cX19_image 74 = .ok (.iadd, 1) := dk_96 (dk_at dksX19_image_3 5 rfl rfl)
theorem dX19_image_75 : decode cX19_image 75 = .ok (.aload_n 0, 1) := dk_42 (dk_at dksX19_image_3 6 rfl rfl)
theorem dX19_image_76 : decode cX19_image 76 = .ok (.getfield 71, 3) := dk_180 0 71 (dk_at dksX19_image_3 7 rfl rfl)
theorem dX19_image_79 : decode cX19_image 79 = .ok (.iload_n 1, 1) := dk_27 (dk_at dksX19_image_3 10 rfl rfl)
theorem dX19_image_80 : decode cX19_image 80 = .ok (.iaload, 1) := dk_46 (dk_at dksX19_image_3 11 rfl rfl)
theorem dX19_image_81 : decode cX19_image 81 = .ok (.iastore, 1) := dk_79 (dk_at dksX19_image_3 12 rfl rfl)
theorem dX19_image_82 : decode cX19_image 82 = .ok (.iinc 1 1, 3) := dk_132 1 1 (dk_at dksX19_image_3 13 rfl rfl)
theorem dX19_image_85 : decode cX19_image 85 = .ok (.goto (-51), 3) := dk_167 255 205 (dk_at dksX19_image_3 16 rfl rfl)
theorem dX19_image_88 : decode cX19_image 88 = .ok (.aload_n 0, 1) := dk_42 (dk_at dksX19_image_3 19 rfl rfl)
theorem dX19_image_89 : decode cX19_image 89 = .ok (.getfield 80, 3) := dk_180 0 80 (dk_at dksX19_image_3 20 rfl rfl)
theorem dX19_image_92 : decode cX19_image 92 = .ok (.aload_n 0, 1) := dk_42 (dk_at dksX19_image_3 23 rfl rfl)
theorem dX19_image_93 : decode cX19_image 93 = .ok (.getfield 334, 3) := dk_180 1 78 (dk_at dksX19_image_4 0 rfl rfl)
theorem dX19_image_96 : decode cX19_image 96 = .ok (.aload_n 0, 1) := dk_42 (dk_at dksX19_image_4 3 rfl rfl)
theorem dX19_image_97 : decode cX19_image 97 = .ok (.getfield 346, 3) := dk_180 1 90 (dk_at dksX19_image_4 4 rfl rfl)
theorem dX19_image_100 : decode cX19_image 100 = .ok (.iastore, 1) := dk_79 (dk_at dksX19_image_4 7 rfl rfl)
theorem dX19_image_101 : decode cX19_image 101 = .ok (.aload_n 0, 1) := dk_42 (dk_at dksX19_image_4 8 rfl rfl)
theorem dX19_image_102 : decode cX19_image 102 = .ok (.getfield 83, 3) := dk_180 0 83 (dk_at dksX19_image_4 9 rfl rfl)
theorem dX19_image_105 : decode cX19_image 105 = .ok (.aload_n 0, 1) := dk_42 (dk_at dksX19_image_4 12 rfl rfl)
theorem dX19_image_106 : decode cX19_image 106 = .ok (.getfield 334, 3) := dk_180 1 78 (dk_at dksX19_image_4 13 rfl rfl)
theorem dX19_image_109 : decode cX19_image 109 = .ok (.aload_n 0, 1) := dk_42 (dk_at dksX19_image_4 16 rfl rfl)
theorem dX19_image_110 : decode cX19_image 110 = .ok (.getfield 331, 3) := dk_180 1 75 (dk_at dksX19_image_4 17 rfl rfl)
theorem dX19_image_113 : decode cX19_image 113 = .ok (.iastore, 1) := dk_79 (dk_at dksX19_image_4 20 rfl rfl)
theorem dX19_image_114 : decode cX19_image 114 = .ok (.aload_n 0, 1) := dk_42 (dk_at dksX19_image_4 21 rfl rfl)
theorem dX19_image_115 : decode cX19_image 115 = .ok (.dup, 1) := dk_89 (dk_at dksX19_image_4 22 rfl rfl)
theorem dX19_image_116 : decode cX19_image 116 = .ok (.getfield 334, 3) := dk_180 1 78 (dk_at dksX19_image_5 0 rfl rfl)
theorem dX19_image_119 : decode cX19_image 119 = .ok (.iconst 1, 1) := dk_4 (dk_at dksX19_image_5 3 rfl rfl)
theorem dX19_image_120 : decode cX19_image 120 = .ok (.iadd, 1) := dk_96 (dk_at dksX19_image_5 4 rfl rfl)
theorem dX19_image_121 : decode cX19_image 121 = .ok (.putfield 334, 3) := dk_181 1 78 (dk_at dksX19_image_5 5 rfl rfl)
theorem dX19_image_124 : decode cX19_image 124 = .ok (.aload_n 0, 1) := dk_42 (dk_at dksX19_image_5 8 rfl rfl)
theorem dX19_image_125 : decode cX19_image 125 = .ok (.aload_n 0, 1) := dk_42 (dk_at dksX19_image_5 9 rfl rfl)
theorem dX19_image_126 : decode cX19_image 126 = .ok (.getfield 334, 3) := dk_180 1 78 (dk_at dksX19_image_5 10 rfl rfl)
theorem dX19_image_129 : decode cX19_image 129 = .ok (.iconst 1, 1) := dk_4 (dk_at dksX19_image_5 13 rfl rfl)
theorem dX19_image_130 : decode cX19_image 130 = .ok (.isub, 1) := dk_100 (dk_at dksX19_image_5 14 rfl rfl)
theorem dX19_image_131 : decode cX19_image 131 = .ok (.invokevirtual 96, 3) := dk_182 0 96 (dk_at dksX19_image_5 15 rfl rfl)
theorem dX19_image_134 : decode cX19_image 134 = .ok (.ireturn, 1) := dk_172 (dk_at dksX19_image_5 18 rfl rfl)
abbrev cX19_back : ByteArray := prog_23_method_124_code
def yX19_back : MethodName := ⟨RX19, "back", "(I)Z"⟩
def dkwX19_back_4 : List UInt8 := [132, 2, 1, 167, 255, 211, 42, 182, 2, 8, 172]
abbrev dktX19_back_4 : List UInt8 := dkwX19_back_4 ++ []
def dkwX19_back_3 : List UInt8 := [27, 104, 28, 96, 46, 79, 42, 180, 0, 71, 28, 42, 180, 0, 77, 16, 20, 27, 104, 28, 96, 46, 79]
abbrev dktX19_back_3 : List UInt8 := dkwX19_back_3 ++ dktX19_back_4
def dkwX19_back_2 : List UInt8 := [181, 1, 75, 3, 61, 28, 42, 180, 1, 90, 162, 0, 43, 42, 180, 0, 68, 28, 42, 180, 0, 74, 16, 20]
abbrev dktX19_back_2 : List UInt8 := dkwX19_back_2 ++ dktX19_back_3
def dkwX19_back_1 : List UInt8 := [42, 4, 182, 2, 4, 172, 42, 42, 180, 0, 80, 27, 46, 181, 1, 90, 42, 42, 180, 0, 83, 27, 46]
abbrev dktX19_back_1 : List UInt8 := dkwX19_back_1 ++ dktX19_back_2
def dkwX19_back_0 : List UInt8 := [42, 3, 181, 0, 86, 42, 180, 1, 73, 198, 0, 15, 27, 155, 0, 11, 27, 42, 180, 1, 78, 161, 0, 9]
abbrev dktX19_back_0 : List UInt8 := dkwX19_back_0 ++ dktX19_back_1
theorem dksX19_back_0 : cX19_back.data.toList.drop 0 = dktX19_back_0 := by decide +kernel
theorem dksX19_back_1 : cX19_back.data.toList.drop 24 = dktX19_back_1 := dk_seg dksX19_back_0 24 rfl rfl
theorem dksX19_back_2 : cX19_back.data.toList.drop 47 = dktX19_back_2 := dk_seg dksX19_back_1 23 rfl rfl
theorem dksX19_back_3 : cX19_back.data.toList.drop 71 = dktX19_back_3 := dk_seg dksX19_back_2 24 rfl rfl
theorem dksX19_back_4 : cX19_back.data.toList.drop 94 = dktX19_back_4 := dk_seg dksX19_back_3 23 rfl rfl
theorem dX19_back_0 : decode cX19_back 0 = .ok (.aload_n 0, 1) := dk_42 (dk_at dksX19_back_0 0 rfl rfl)
theorem dX19_back_1 : decode cX19_back 1 = .ok (.iconst 0, 1) := dk_3 (dk_at dksX19_back_0 1 rfl rfl)
theorem dX19_back_2 : decode cX19_back 2 = .ok (.putfield 86, 3) := dk_181 0 86 (dk_at dksX19_back_0 2 rfl rfl)
theorem dX19_back_5 : decode cX19_back 5 = .ok (.aload_n 0, 1) := dk_42 (dk_at dksX19_back_0 5 rfl rfl)
theorem dX19_back_6 : decode cX19_back 6 = .ok (.getfield 329, 3) := dk_180 1 73 (dk_at dksX19_back_0 6 rfl rfl)
theorem dX19_back_9 : decode cX19_back 9 = .ok (.ifnull 15, 3) := dk_198 0 15 (dk_at dksX19_back_0 9 rfl rfl)
theorem dX19_back_12 : decode cX19_back 12 = .ok (.iload_n 1, 1) := dk_27 (dk_at dksX19_back_0 12 rfl rfl)
theorem dX19_back_13 : decode cX19_back 13 = .ok (.ifCond .lt 11, 3) := dk_155 0 11 (dk_at dksX19_back_0 13 rfl rfl)
theorem dX19_back_16 : decode cX19_back 16 = .ok (.iload_n 1, 1) := dk_27 (dk_at dksX19_back_0 16 rfl rfl)
theorem dX19_back_17 : decode cX19_back 17 = .ok (.aload_n 0, 1) := dk_42 (dk_at dksX19_back_0 17 rfl rfl)
theorem dX19_back_18 : decode cX19_back 18 = .ok (.getfield 334, 3) := dk_180 1 78 (dk_at dksX19_back_0 18 rfl rfl)
theorem dX19_back_21 : decode cX19_back 21 = .ok (.if_icmp .lt 9, 3) := dk_161 0 9 (dk_at dksX19_back_0 21 rfl rfl)
theorem dX19_back_24 : decode cX19_back 24 = .ok (.aload_n 0, 1) := dk_42 (dk_at dksX19_back_1 0 rfl rfl)
theorem dX19_back_25 : decode cX19_back 25 = .ok (.iconst 1, 1) := dk_4 (dk_at dksX19_back_1 1 rfl rfl)
theorem dX19_back_26 : decode cX19_back 26 = .ok (.invokevirtual 516, 3) := dk_182 2 4 (dk_at dksX19_back_1 2 rfl rfl)
theorem dX19_back_29 : decode cX19_back 29 = .ok (.ireturn, 1) := dk_172 (dk_at dksX19_back_1 5 rfl rfl)
theorem dX19_back_30 : decode cX19_back 30 = .ok (.aload_n 0, 1) := dk_42 (dk_at dksX19_back_1 6 rfl rfl)
theorem dX19_back_31 : decode cX19_back 31 = .ok (.aload_n 0, 1) := dk_42 (dk_at dksX19_back_1 7 rfl rfl)
theorem dX19_back_32 : decode cX19_back 32 = .ok (.getfield 80, 3) := dk_180 0 80 (dk_at dksX19_back_1 8 rfl rfl)
theorem dX19_back_35 : decode cX19_back 35 = .ok (.iload_n 1, 1) := dk_27 (dk_at dksX19_back_1 11 rfl rfl)
theorem dX19_back_36 : decode cX19_back 36 = .ok (.iaload, 1) := dk_46 (dk_at dksX19_back_1 12 rfl rfl)
theorem dX19_back_37 : decode cX19_back 37 = .ok (.putfield 346, 3) := dk_181 1 90 (dk_at dksX19_back_1 13 rfl rfl)
theorem dX19_back_40 : decode cX19_back 40 = .ok (.aload_n 0, 1) := dk_42 (dk_at dksX19_back_1 16 rfl rfl)
theorem dX19_back_41 : decode cX19_back 41 = .ok (.aload_n 0, 1) := dk_42 (dk_at dksX19_back_1 17 rfl rfl)
theorem dX19_back_42 : decode cX19_back 42 = .ok (.getfield 83, 3) := dk_180 0 83 (dk_at dksX19_back_1 18 rfl rfl)
theorem dX19_back_45 : decode cX19_back 45 = .ok (.iload_n 1, 1) := dk_27 (dk_at dksX19_back_1 21 rfl rfl)
theorem dX19_back_46 : decode cX19_back 46 = .ok (.iaload, 1) := dk_46 (dk_at dksX19_back_1 22 rfl rfl)
theorem dX19_back_47 : decode cX19_back 47 = .ok (.putfield 331, 3) := dk_181 1 75 (dk_at dksX19_back_2 0 rfl rfl)
theorem dX19_back_50 : decode cX19_back 50 = .ok (.iconst 0, 1) := dk_3 (dk_at dksX19_back_2 3 rfl rfl)
theorem dX19_back_51 : decode cX19_back 51 = .ok (.istore_n 2, 1) := dk_61 (dk_at dksX19_back_2 4 rfl rfl)
theorem dX19_back_52 : decode cX19_back 52 = .ok (.iload_n 2, 1) := dk_28 (dk_at dksX19_back_2 5 rfl rfl)
theorem dX19_back_53 : decode cX19_back 53 = .ok (.aload_n 0, 1) := dk_42 (dk_at dksX19_back_2 6 rfl rfl)
theorem dX19_back_54 : decode cX19_back 54 = .ok (.getfield 346, 3) := dk_180 1 90 (dk_at dksX19_back_2 7 rfl rfl)
theorem dX19_back_57 : decode cX19_back 57 = .ok (.if_icmp .ge 43, 3) := dk_162 0 43 (dk_at dksX19_back_2 10 rfl rfl)
theorem dX19_back_60 : decode cX19_back 60 = .ok (.aload_n 0, 1) := dk_42 (dk_at dksX19_back_2 13 rfl rfl)
theorem dX19_back_61 : decode cX19_back 61 = .ok (.getfield 68, 3) := dk_180 0 68 (dk_at dksX19_back_2 14 rfl rfl)
theorem dX19_back_64 : decode cX19_back 64 = .ok (.iload_n 2, 1) := dk_28 (dk_at dksX19_back_2 17 rfl rfl)
theorem dX19_back_65 : decode cX19_back 65 = .ok (.aload_n 0, 1) := dk_42 (dk_at dksX19_back_2 18 rfl rfl)
theorem dX19_back_66 : decode cX19_back 66 = .ok (.getfield 74, 3) := dk_180 0 74 (dk_at dksX19_back_2 19 rfl rfl)
theorem dX19_back_69 : decode cX19_back 69 = .ok (.bipush 20, 2) := dk_16 20 (dk_at dksX19_back_2 22 rfl rfl)
theorem dX19_back_71 : decode cX19_back 71 = .ok (.iload_n 1, 1) := dk_27 (dk_at dksX19_back_3 0 rfl rfl)
theorem dX19_back_72 : decode cX19_back 72 = .ok (.imul, 1) := dk_104 (dk_at dksX19_back_3 1 rfl rfl)
theorem dX19_back_73 : decode cX19_back 73 = .ok (.iload_n 2, 1) := dk_28 (dk_at dksX19_back_3 2 rfl rfl)
theorem dX19_back_74 : decode cX19_back 74 = .ok (.iadd, 1) := dk_96 (dk_at dksX19_back_3 3 rfl rfl)
theorem dX19_back_75 : decode cX19_back 75 = .ok (.iaload, 1) := dk_46 (dk_at dksX19_back_3 4 rfl rfl)
theorem dX19_back_76 : decode cX19_back 76 = .ok (.iastore, 1) := dk_79 (dk_at dksX19_back_3 5 rfl rfl)
theorem dX19_back_77 : decode cX19_back 77 = .ok (.aload_n 0, 1) := dk_42 (dk_at dksX19_back_3 6 rfl rfl)
theorem dX19_back_78 : decode cX19_back 78 = .ok (.getfield 71, 3) := dk_180 0 71 (dk_at dksX19_back_3 7 rfl rfl)
theorem dX19_back_81 : decode cX19_back 81 = .ok (.iload_n 2, 1) := dk_28 (dk_at dksX19_back_3 10 rfl rfl)
theorem dX19_back_82 : decode cX19_back 82 = .ok (.aload_n 0, 1) := dk_42 (dk_at dksX19_back_3 11 rfl rfl)
theorem dX19_back_83 : decode cX19_back 83 = .ok (.getfield 77, 3) := dk_180 0 77 (dk_at dksX19_back_3 12 rfl rfl)
theorem dX19_back_86 : decode cX19_back 86 = .ok (.bipush 20, 2) := dk_16 20 (dk_at dksX19_back_3 15 rfl rfl)
theorem dX19_back_88 : decode cX19_back 88 = .ok (.iload_n 1, 1) := dk_27 (dk_at dksX19_back_3 17 rfl rfl)
theorem dX19_back_89 : decode cX19_back 89 = .ok (.imul, 1) := dk_104 (dk_at dksX19_back_3 18 rfl rfl)
theorem dX19_back_90 : decode cX19_back 90 = .ok (.iload_n 2, 1) := dk_28 (dk_at dksX19_back_3 19 rfl rfl)
theorem dX19_back_91 : decode cX19_back 91 = .ok (.iadd, 1) := dk_96 (dk_at dksX19_back_3 20 rfl rfl)
theorem dX19_back_92 : decode cX19_back 92 = .ok (.iaload, 1) := dk_46 (dk_at dksX19_back_3 21 rfl rfl)
theorem dX19_back_93 : decode cX19_back 93 = .ok (.iastore, 1) := dk_79 (dk_at dksX19_back_3 22 rfl rfl)
theorem dX19_back_94 : decode cX19_back 94 = .ok (.iinc 2 1, 3) := dk_132 2 1 (dk_at dksX19_back_4 0 rfl rfl)
theorem dX19_back_97 : decode cX19_back 97 = .ok (.goto (-45), 3) := dk_167 255 211 (dk_at dksX19_back_4 3 rfl rfl)
theorem dX19_back_100 : decode cX19_back 100 = .ok (.aload_n 0, 1) := dk_42 (dk_at dksX19_back_4 6 rfl rfl)
theorem dX19_back_101 : decode cX19_back 101 = .ok (.invokevirtual 520, 3) := dk_182 2 8 (dk_at dksX19_back_4 7 rfl rfl)
theorem dX19_back_104 : decode cX19_back 104 = .ok (.ireturn, 1) := dk_172 (dk_at dksX19_back_4 10 rfl rfl)
abbrev cX19_led : ByteArray := prog_23_method_125_code
def yX19_led : MethodName := ⟨RX19, "led", "(II)I"⟩
def dkwX19_led_2 : List UInt8 := [21, 4, 172, 132, 3, 1, 132, 4, 1, 167, 255, 210, 42, 4, 181, 0, 86, 3, 172]
abbrev dktX19_led_2 : List UInt8 := dkwX19_led_2 ++ []
def dkwX19_led_1 : List UInt8 := [162, 0, 35, 42, 27, 21, 4, 182, 1, 177, 16, 254, 159, 0, 6, 167, 0, 14, 29, 28, 160, 0, 6]
abbrev dktX19_led_1 : List UInt8 := dkwX19_led_1 ++ dktX19_led_2
def dkwX19_led_0 : List UInt8 := [42, 3, 181, 0, 86, 3, 62, 3, 54, 4, 42, 27, 182, 1, 174, 153, 0, 44, 21, 4, 42, 180, 1, 100]
abbrev dktX19_led_0 : List UInt8 := dkwX19_led_0 ++ dktX19_led_1
theorem dksX19_led_0 : cX19_led.data.toList.drop 0 = dktX19_led_0 := by decide +kernel
theorem dksX19_led_1 : cX19_led.data.toList.drop 24 = dktX19_led_1 := dk_seg dksX19_led_0 24 rfl rfl
theorem dksX19_led_2 : cX19_led.data.toList.drop 47 = dktX19_led_2 := dk_seg dksX19_led_1 23 rfl rfl
theorem dX19_led_0 : decode cX19_led 0 = .ok (.aload_n 0, 1) := dk_42 (dk_at dksX19_led_0 0 rfl rfl)
theorem dX19_led_1 : decode cX19_led 1 = .ok (.iconst 0, 1) := dk_3 (dk_at dksX19_led_0 1 rfl rfl)
theorem dX19_led_2 : decode cX19_led 2 = .ok (.putfield 86, 3) := dk_181 0 86 (dk_at dksX19_led_0 2 rfl rfl)
theorem dX19_led_5 : decode cX19_led 5 = .ok (.iconst 0, 1) := dk_3 (dk_at dksX19_led_0 5 rfl rfl)
theorem dX19_led_6 : decode cX19_led 6 = .ok (.istore_n 3, 1) := dk_62 (dk_at dksX19_led_0 6 rfl rfl)
theorem dX19_led_7 : decode cX19_led 7 = .ok (.iconst 0, 1) := dk_3 (dk_at dksX19_led_0 7 rfl rfl)
theorem dX19_led_8 : decode cX19_led 8 = .ok (.istore 4, 2) := dk_54 4 (dk_at dksX19_led_0 8 rfl rfl)
theorem dX19_led_10 : decode cX19_led 10 = .ok (.aload_n 0, 1) := dk_42 (dk_at dksX19_led_0 10 rfl rfl)
theorem dX19_led_11 : decode cX19_led 11 = .ok (.iload_n 1, 1) := dk_27 (dk_at dksX19_led_0 11 rfl rfl)
theorem dX19_led_12 : decode cX19_led 12 = .ok (.invokevirtual 430, 3) := dk_182 1 174 (dk_at dksX19_led_0 12 rfl rfl)
theorem dX19_led_15 : decode cX19_led 15 = .ok (.ifCond .eq 44, 3) := dk_153 0 44 (dk_at dksX19_led_0 15 rfl rfl)
theorem dX19_led_18 : decode cX19_led 18 = .ok (.iload 4, 2) := dk_21 4 (dk_at dksX19_led_0 18 rfl rfl)
theorem dX19_led_20 : decode cX19_led 20 = .ok (.aload_n 0, 1) := dk_42 (dk_at dksX19_led_0 20 rfl rfl)
theorem dX19_led_21 : decode cX19_led 21 = .ok (.getfield 356, 3) := dk_180 1 100 (dk_at dksX19_led_0 21 rfl rfl)
theorem dX19_led_24 : decode cX19_led 24 = .ok (.if_icmp .ge 35, 3) := dk_162 0 35 (dk_at dksX19_led_1 0 rfl rfl)
theorem dX19_led_27 : decode cX19_led 27 = .ok (.aload_n 0, 1) := dk_42 (dk_at dksX19_led_1 3 rfl rfl)
theorem dX19_led_28 : decode cX19_led 28 = .ok (.iload_n 1, 1) := dk_27 (dk_at dksX19_led_1 4 rfl rfl)
theorem dX19_led_29 : decode cX19_led 29 = .ok (.iload 4, 2) := dk_21 4 (dk_at dksX19_led_1 5 rfl rfl)
theorem dX19_led_31 : decode cX19_led 31 = .ok (.invokevirtual 433, 3) := dk_182 1 177 (dk_at dksX19_led_1 7 rfl rfl)
theorem dX19_led_34 : decode cX19_led 34 = .ok (.bipush (-2), 2) := dk_16 254 (dk_at dksX19_led_1 10 rfl rfl)
theorem dX19_led_36 : decode cX19_led 36 = .ok (.if_icmp .eq 6, 3) := dk_159 0 6 (dk_at dksX19_led_1 12 rfl rfl)
theorem dX19_led_39 : decode cX19_led 39 = .ok (.goto 14, 3) := dk_167 0 14 (dk_at dksX19_led_1 15 rfl rfl)
theorem dX19_led_42 : decode cX19_led 42 = .ok (.iload_n 3, 1) := dk_29 (dk_at dksX19_led_1 18 rfl rfl)
theorem dX19_led_43 : decode cX19_led 43 = .ok (.iload_n 2, 1) := dk_28 (dk_at dksX19_led_1 19 rfl rfl)
theorem dX19_led_44 : decode cX19_led 44 = .ok (.if_icmp .ne 6, 3) := dk_160 0 6 (dk_at dksX19_led_1 20 rfl rfl)
theorem dX19_led_47 : decode cX19_led 47 = .ok (.iload 4, 2) := dk_21 4 (dk_at dksX19_led_2 0 rfl rfl)
theorem dX19_led_49 : decode cX19_led 49 = .ok (.ireturn, 1) := dk_172 (dk_at dksX19_led_2 2 rfl rfl)
theorem dX19_led_50 : decode cX19_led 50 = .ok (.iinc 3 1, 3) := dk_132 3 1 (dk_at dksX19_led_2 3 rfl rfl)
theorem dX19_led_53 : decode cX19_led 53 = .ok (.iinc 4 1, 3) := dk_132 4 1 (dk_at dksX19_led_2 6 rfl rfl)
theorem dX19_led_56 : decode cX19_led 56 = .ok (.goto (-46), 3) := dk_167 255 210 (dk_at dksX19_led_2 9 rfl rfl)
theorem dX19_led_59 : decode cX19_led 59 = .ok (.aload_n 0, 1) := dk_42 (dk_at dksX19_led_2 12 rfl rfl)
theorem dX19_led_60 : decode cX19_led 60 = .ok (.iconst 1, 1) := dk_4 (dk_at dksX19_led_2 13 rfl rfl)
theorem dX19_led_61 : decode cX19_led 61 = .ok (.putfield 86, 3) := dk_181 0 86 (dk_at dksX19_led_2 14 rfl rfl)
theorem dX19_led_64 : decode cX19_led 64 = .ok (.iconst 0, 1) := dk_3 (dk_at dksX19_led_2 17 rfl rfl)
theorem dX19_led_65 : decode cX19_led 65 = .ok (.ireturn, 1) := dk_172 (dk_at dksX19_led_2 18 rfl rfl)
abbrev cX19_size : ByteArray := prog_23_method_126_code
def yX19_size : MethodName := ⟨RX19, "size", "(I)I"⟩
def dkwX19_size_7 : List UInt8 := [180, 1, 75, 172, 42, 180, 1, 78, 172]
abbrev dktX19_size_7 : List UInt8 := dkwX19_size_7 ++ []
def dkwX19_size_6 : List UInt8 := [153, 0, 7, 4, 167, 0, 4, 3, 172, 42, 180, 1, 73, 180, 1, 3, 172, 42, 180, 1, 90, 172, 42]
abbrev dktX19_size_6 : List UInt8 := dkwX19_size_6 ++ dktX19_size_7
def dkwX19_size_5 : List UInt8 := [42, 180, 1, 73, 180, 0, 245, 153, 0, 7, 4, 167, 0, 4, 3, 172, 42, 180, 1, 73, 180, 0, 250]
abbrev dktX19_size_5 : List UInt8 := dkwX19_size_5 ++ dktX19_size_6
def dkwX19_size_4 : List UInt8 := [42, 180, 1, 73, 180, 0, 255, 172, 42, 180, 1, 73, 180, 0, 228, 153, 0, 7, 4, 167, 0, 4, 3, 172]
abbrev dktX19_size_4 : List UInt8 := dkwX19_size_4 ++ dktX19_size_5
def dkwX19_size_3 : List UInt8 := [42, 180, 1, 73, 180, 0, 194, 172, 42, 180, 1, 73, 180, 0, 253, 172, 42, 180, 1, 73, 180, 0, 232, 172]
abbrev dktX19_size_3 : List UInt8 := dkwX19_size_3 ++ dktX19_size_4
def dkwX19_size_2 : List UInt8 := [170, 0, 0, 0, 0, 152, 0, 0, 0, 0, 0, 0, 0, 9, 0, 0, 0, 54, 0, 0, 0, 62, 0, 0, 0, 70, 0, 0, 0, 78, 0, 0, 0, 86, 0, 0, 0, 102, 0, 0, 0, 118, 0, 0, 0, 134, 0, 0, 0, 142, 0, 0, 0, 147]
abbrev dktX19_size_2 : List UInt8 := dkwX19_size_2 ++ dktX19_size_3
def dkwX19_size_1 : List UInt8 := [154, 0, 5, 2, 172, 42, 180, 1, 73, 199, 0, 5, 3, 172, 27]
abbrev dktX19_size_1 : List UInt8 := dkwX19_size_1 ++ dktX19_size_2
def dkwX19_size_0 : List UInt8 := [42, 3, 181, 0, 86, 27, 16, 11, 160, 0, 8, 42, 180, 1, 66, 172, 27, 3, 16, 10, 184, 0, 168]
abbrev dktX19_size_0 : List UInt8 := dkwX19_size_0 ++ dktX19_size_1
theorem dksX19_size_0 : cX19_size.data.toList.drop 0 = dktX19_size_0 := by decide +kernel
theorem dksX19_size_1 : cX19_size.data.toList.drop 23 = dktX19_size_1 := dk_seg dksX19_size_0 23 rfl rfl
theorem dksX19_size_2 : cX19_size.data.toList.drop 38 = dktX19_size_2 := dk_seg dksX19_size_1 15 rfl rfl
theorem dksX19_size_3 : cX19_size.data.toList.drop 92 = dktX19_size_3 := dk_seg dksX19_size_2 54 rfl rfl
theorem dksX19_size_4 : cX19_size.data.toList.drop 116 = dktX19_size_4 := dk_seg dksX19_size_3 24 rfl rfl
theorem dksX19_size_5 : cX19_size.data.toList.drop 140 = dktX19_size_5 := dk_seg dksX19_size_4 24 rfl rfl
theorem dksX19_size_6 : cX19_size.data.toList.drop 163 = dktX19_size_6 := dk_seg dksX19_size_5 23 rfl rfl
theorem dksX19_size_7 : cX19_size.data.toList.drop 186 = dktX19_size_7 := dk_seg dksX19_size_6 23 rfl rfl
theorem dX19_size_0 : decode cX19_size 0 = .ok (.aload_n 0, 1) := dk_42 (dk_at dksX19_size_0 0 rfl rfl)
theorem dX19_size_1 : decode cX19_size 1 = .ok (.iconst 0, 1) := dk_3 (dk_at dksX19_size_0 1 rfl rfl)
theorem dX19_size_2 : decode cX19_size 2 = .ok (.putfield 86, 3) := dk_181 0 86 (dk_at dksX19_size_0 2 rfl rfl)
theorem dX19_size_5 : decode cX19_size 5 = .ok (.iload_n 1, 1) := dk_27 (dk_at dksX19_size_0 5 rfl rfl)
theorem dX19_size_6 : decode cX19_size 6 = .ok (.bipush 11, 2) := dk_16 11 (dk_at dksX19_size_0 6 rfl rfl)
theorem dX19_size_8 : decode cX19_size 8 = .ok (.if_icmp .ne 8, 3) := dk_160 0 8 (dk_at dksX19_size_0 8 rfl rfl)
theorem dX19_size_11 : decode cX19_size 11 = .ok (.aload_n 0, 1) := dk_42 (dk_at dksX19_size_0 11 rfl rfl)
theorem dX19_size_12 : decode cX19_size 12 = .ok (.getfield 322, 3) := dk_180 1 66 (dk_at dksX19_size_0 12 rfl rfl)
theorem dX19_size_15 : decode cX19_size 15 = .ok (.ireturn, 1) := dk_172 (dk_at dksX19_size_0 15 rfl rfl)
theorem dX19_size_16 : decode cX19_size 16 = .ok (.iload_n 1, 1) := dk_27 (dk_at dksX19_size_0 16 rfl rfl)
theorem dX19_size_17 : decode cX19_size 17 = .ok (.iconst 0, 1) := dk_3 (dk_at dksX19_size_0 17 rfl rfl)
theorem dX19_size_18 : decode cX19_size 18 = .ok (.bipush 10, 2) := dk_16 10 (dk_at dksX19_size_0 18 rfl rfl)
theorem dX19_size_20 : decode cX19_size 20 = .ok (.invokestatic 168, 3) := dk_184 0 168 (dk_at dksX19_size_0 20 rfl rfl)
theorem dX19_size_23 : decode cX19_size 23 = .ok (.ifCond .ne 5, 3) := dk_154 0 5 (dk_at dksX19_size_1 0 rfl rfl)
theorem dX19_size_26 : decode cX19_size 26 = .ok (.iconst (-1), 1) := dk_2 (dk_at dksX19_size_1 3 rfl rfl)
theorem dX19_size_27 : decode cX19_size 27 = .ok (.ireturn, 1) := dk_172 (dk_at dksX19_size_1 4 rfl rfl)
theorem dX19_size_28 : decode cX19_size 28 = .ok (.aload_n 0, 1) := dk_42 (dk_at dksX19_size_1 5 rfl rfl)
theorem dX19_size_29 : decode cX19_size 29 = .ok (.getfield 329, 3) := dk_180 1 73 (dk_at dksX19_size_1 6 rfl rfl)
theorem dX19_size_32 : decode cX19_size 32 = .ok (.ifnonnull 5, 3) := dk_199 0 5 (dk_at dksX19_size_1 9 rfl rfl)
theorem dX19_size_35 : decode cX19_size 35 = .ok (.iconst 0, 1) := dk_3 (dk_at dksX19_size_1 12 rfl rfl)
theorem dX19_size_36 : decode cX19_size 36 = .ok (.ireturn, 1) := dk_172 (dk_at dksX19_size_1 13 rfl rfl)
theorem dX19_size_37 : decode cX19_size 37 = .ok (.iload_n 1, 1) := dk_27 (dk_at dksX19_size_1 14 rfl rfl)
theorem dX19_size_38 : decode cX19_size 38 = .ok (.tableswitch 152 0 9 #[54, 62, 70, 78, 86, 102, 118, 134, 142, 147], 54) := by decide +kernel
theorem dX19_size_92 : decode cX19_size 92 = .ok (.aload_n 0, 1) := dk_42 (dk_at dksX19_size_3 0 rfl rfl)
theorem dX19_size_93 : decode cX19_size 93 = .ok (.getfield 329, 3) := dk_180 1 73 (dk_at dksX19_size_3 1 rfl rfl)
theorem dX19_size_96 : decode cX19_size 96 = .ok (.getfield 194, 3) := dk_180 0 194 (dk_at dksX19_size_3 4 rfl rfl)
theorem dX19_size_99 : decode cX19_size 99 = .ok (.ireturn, 1) := dk_172 (dk_at dksX19_size_3 7 rfl rfl)
theorem dX19_size_100 : decode cX19_size 100 = .ok (.aload_n 0, 1) := dk_42 (dk_at dksX19_size_3 8 rfl rfl)
theorem dX19_size_101 : decode cX19_size 101 = .ok (.getfield 329, 3) := dk_180 1 73 (dk_at dksX19_size_3 9 rfl rfl)
theorem dX19_size_104 : decode cX19_size 104 = .ok (.getfield 253, 3) := dk_180 0 253 (dk_at dksX19_size_3 12 rfl rfl)
theorem dX19_size_107 : decode cX19_size 107 = .ok (.ireturn, 1) := dk_172 (dk_at dksX19_size_3 15 rfl rfl)
theorem dX19_size_108 : decode cX19_size 108 = .ok (.aload_n 0, 1) := dk_42 (dk_at dksX19_size_3 16 rfl rfl)
theorem dX19_size_109 : decode cX19_size 109 = .ok (.getfield 329, 3) := dk_180 1 73 (dk_at dksX19_size_3 17 rfl rfl)
theorem dX19_size_112 : decode cX19_size 112 = .ok (.getfield 232, 3) := dk_180 0 232 (dk_at dksX19_size_3 20 rfl rfl)
theorem dX19_size_115 : decode cX19_size 115 = .ok (.ireturn, 1) := dk_172 (dk_at dksX19_size_3 23 rfl rfl)
theorem dX19_size_116 : decode cX19_size 116 = .ok (.aload_n 0, 1) := dk_42 (dk_at dksX19_size_4 0 rfl rfl)
theorem dX19_size_117 : decode cX19_size 117 = .ok (.getfield 329, 3) := dk_180 1 73 (dk_at dksX19_size_4 1 rfl rfl)
theorem dX19_size_120 : decode cX19_size 120 = .ok (.getfield 255, 3) := dk_180 0 255 (dk_at dksX19_size_4 4 rfl rfl)
theorem dX19_size_123 : decode cX19_size 123 = .ok (.ireturn, 1) := dk_172 (dk_at dksX19_size_4 7 rfl rfl)
theorem dX19_size_124 : decode cX19_size 124 = .ok (.aload_n 0, 1) := dk_42 (dk_at dksX19_size_4 8 rfl rfl)
theorem dX19_size_125 : decode cX19_size 125 = .ok (.getfield 329, 3) := dk_180 1 73 (dk_at dksX19_size_4 9 rfl rfl)
theorem dX19_size_128 : decode cX19_size 128 = .ok (.getfield 228, 3) := dk_180 0 228 (dk_at dksX19_size_4 12 rfl rfl)
theorem dX19_size_131 : decode cX19_size 131 = .ok (.ifCond .eq 7, 3) := dk_153 0 7 (dk_at dksX19_size_4 15 rfl rfl)
theorem dX19_size_134 : decode cX19_size 134 = .ok (.iconst 1, 1) := dk_4 (dk_at dksX19_size_4 18 rfl rfl)
theorem dX19_size_135 : decode cX19_size 135 = .ok (.goto 4, 3) := dk_167 0 4 (dk_at dksX19_size_4 19 rfl rfl)
theorem dX19_size_138 : decode cX19_size 138 = .ok (.iconst 0, 1) := dk_3 (dk_at dksX19_size_4 22 rfl rfl)
theorem dX19_size_139 : decode cX19_size 139 = .ok (.ireturn, 1) := dk_172 (dk_at dksX19_size_4 23 rfl rfl)
theorem dX19_size_140 : decode cX19_size 140 = .ok (.aload_n 0, 1) := dk_42 (dk_at dksX19_size_5 0 rfl rfl)
theorem dX19_size_141 : decode cX19_size 141 = .ok (.getfield 329, 3) := dk_180 1 73 (dk_at dksX19_size_5 1 rfl rfl)
theorem dX19_size_144 : decode cX19_size 144 = .ok (.getfield 245, 3) := dk_180 0 245 (dk_at dksX19_size_5 4 rfl rfl)
theorem dX19_size_147 : decode cX19_size 147 = .ok (.ifCond .eq 7, 3) := dk_153 0 7 (dk_at dksX19_size_5 7 rfl rfl)
theorem dX19_size_150 : decode cX19_size 150 = .ok (.iconst 1, 1) := dk_4 (dk_at dksX19_size_5 10 rfl rfl)
theorem dX19_size_151 : decode cX19_size 151 = .ok (.goto 4, 3) := dk_167 0 4 (dk_at dksX19_size_5 11 rfl rfl)
theorem dX19_size_154 : decode cX19_size 154 = .ok (.iconst 0, 1) := dk_3 (dk_at dksX19_size_5 14 rfl rfl)
theorem dX19_size_155 : decode cX19_size 155 = .ok (.ireturn, 1) := dk_172 (dk_at dksX19_size_5 15 rfl rfl)
theorem dX19_size_156 : decode cX19_size 156 = .ok (.aload_n 0, 1) := dk_42 (dk_at dksX19_size_5 16 rfl rfl)
theorem dX19_size_157 : decode cX19_size 157 = .ok (.getfield 329, 3) := dk_180 1 73 (dk_at dksX19_size_5 17 rfl rfl)
theorem dX19_size_160 : decode cX19_size 160 = .ok (.getfield 250, 3) := dk_180 0 250 (dk_at dksX19_size_5 20 rfl rfl)
theorem dX19_size_163 : decode cX19_size 163 = .ok (.ifCond .eq 7, 3) := dk_153 0 7 (dk_at dksX19_size_6 0 rfl rfl)
theorem dX19_size_166 : decode cX19_size 166 = .ok (.iconst 1, 1) := dk_4 (dk_at dksX19_size_6 3 rfl rfl)
theorem dX19_size_167 : decode cX19_size 167 = .ok (.goto 4, 3) := dk_167 0 4 (dk_at dksX19_size_6 4 rfl rfl)
theorem dX19_size_170 : decode cX19_size 170 = .ok (.iconst 0, 1) := dk_3 (dk_at dksX19_size_6 7 rfl rfl)
theorem dX19_size_171 : decode cX19_size 171 = .ok (.ireturn, 1) := dk_172 (dk_at dksX19_size_6 8 rfl rfl)
theorem dX19_size_172 : decode cX19_size 172 = .ok (.aload_n 0, 1) := dk_42 (dk_at dksX19_size_6 9 rfl rfl)
theorem dX19_size_173 : decode cX19_size 173 = .ok (.getfield 329, 3) := dk_180 1 73 (dk_at dksX19_size_6 10 rfl rfl)
theorem dX19_size_176 : decode cX19_size 176 = .ok (.getfield 259, 3) := dk_180 1 3 (dk_at dksX19_size_6 13 rfl rfl)
theorem dX19_size_179 : decode cX19_size 179 = .ok (.ireturn, 1) := dk_172 (dk_at dksX19_size_6 16 rfl rfl)
theorem dX19_size_180 : decode cX19_size 180 = .ok (.aload_n 0, 1) := dk_42 (dk_at dksX19_size_6 17 rfl rfl)
theorem dX19_size_181 : decode cX19_size 181 = .ok (.getfield 346, 3) := dk_180 1 90 (dk_at dksX19_size_6 18 rfl rfl)
theorem dX19_size_184 : decode cX19_size 184 = .ok (.ireturn, 1) := dk_172 (dk_at dksX19_size_6 21 rfl rfl)
theorem dX19_size_185 : decode cX19_size 185 = .ok (.aload_n 0, 1) := dk_42 (dk_at dksX19_size_6 22 rfl rfl)
theorem dX19_size_186 : decode cX19_size 186 = .ok (.getfield 331, 3) := dk_180 1 75 (dk_at dksX19_size_7 0 rfl rfl)
theorem dX19_size_189 : decode cX19_size 189 = .ok (.ireturn, 1) := dk_172 (dk_at dksX19_size_7 3 rfl rfl)
theorem dX19_size_190 : decode cX19_size 190 = .ok (.aload_n 0, 1) := dk_42 (dk_at dksX19_size_7 4 rfl rfl)
theorem dX19_size_191 : decode cX19_size 191 = .ok (.getfield 334, 3) := dk_180 1 78 (dk_at dksX19_size_7 5 rfl rfl)
theorem dX19_size_194 : decode cX19_size 194 = .ok (.ireturn, 1) := dk_172 (dk_at dksX19_size_7 8 rfl rfl)
abbrev cX19_words : ByteArray := prog_23_method_127_code
def yX19_words : MethodName := ⟨RX19, "words", "(I)I"⟩
def dkwX19_words_1 : List UInt8 := [167, 0, 4, 2, 172]
abbrev dktX19_words_1 : List UInt8 := dkwX19_words_1 ++ []
def dkwX19_words_0 : List UInt8 := [42, 3, 181, 0, 86, 42, 27, 182, 1, 174, 153, 0, 15, 42, 180, 1, 73, 180, 1, 27, 27, 46]
abbrev dktX19_words_0 : List UInt8 := dkwX19_words_0 ++ dktX19_words_1
theorem dksX19_words_0 : cX19_words.data.toList.drop 0 = dktX19_words_0 := by decide +kernel
theorem dksX19_words_1 : cX19_words.data.toList.drop 22 = dktX19_words_1 := dk_seg dksX19_words_0 22 rfl rfl
theorem dX19_words_0 : decode cX19_words 0 = .ok (.aload_n 0, 1) := dk_42 (dk_at dksX19_words_0 0 rfl rfl)
theorem dX19_words_1 : decode cX19_words 1 = .ok (.iconst 0, 1) := dk_3 (dk_at dksX19_words_0 1 rfl rfl)
theorem dX19_words_2 : decode cX19_words 2 = .ok (.putfield 86, 3) := dk_181 0 86 (dk_at dksX19_words_0 2 rfl rfl)
theorem dX19_words_5 : decode cX19_words 5 = .ok (.aload_n 0, 1) := dk_42 (dk_at dksX19_words_0 5 rfl rfl)
theorem dX19_words_6 : decode cX19_words 6 = .ok (.iload_n 1, 1) := dk_27 (dk_at dksX19_words_0 6 rfl rfl)
theorem dX19_words_7 : decode cX19_words 7 = .ok (.invokevirtual 430, 3) := dk_182 1 174 (dk_at dksX19_words_0 7 rfl rfl)
theorem dX19_words_10 : decode cX19_words 10 = .ok (.ifCond .eq 15, 3) := dk_153 0 15 (dk_at dksX19_words_0 10 rfl rfl)
theorem dX19_words_13 : decode cX19_words 13 = .ok (.aload_n 0, 1) := dk_42 (dk_at dksX19_words_0 13 rfl rfl)
theorem dX19_words_14 : decode cX19_words 14 = .ok (.getfield 329, 3) := dk_180 1 73 (dk_at dksX19_words_0 14 rfl rfl)
theorem dX19_words_17 : decode cX19_words 17 = .ok (.getfield 283, 3) := dk_180 1 27 (dk_at dksX19_words_0 17 rfl rfl)
theorem dX19_words_20 : decode cX19_words 20 = .ok (.iload_n 1, 1) := dk_27 (dk_at dksX19_words_0 20 rfl rfl)
theorem dX19_words_21 : decode cX19_words 21 = .ok (.iaload, 1) := dk_46 (dk_at dksX19_words_0 21 rfl rfl)
theorem dX19_words_22 : decode cX19_words 22 = .ok (.goto 4, 3) := dk_167 0 4 (dk_at dksX19_words_1 0 rfl rfl)
theorem dX19_words_25 : decode cX19_words 25 = .ok (.iconst (-1), 1) := dk_2 (dk_at dksX19_words_1 3 rfl rfl)
theorem dX19_words_26 : decode cX19_words 26 = .ok (.ireturn, 1) := dk_172 (dk_at dksX19_words_1 4 rfl rfl)
abbrev cX19_trouble : ByteArray := prog_23_method_128_code
def yX19_trouble : MethodName := ⟨RX19, "trouble", "()I"⟩
def dkwX19_trouble_0 : List UInt8 := [42, 3, 181, 0, 86, 42, 180, 0, 89, 172]
abbrev dktX19_trouble_0 : List UInt8 := dkwX19_trouble_0 ++ []
theorem dksX19_trouble_0 : cX19_trouble.data.toList.drop 0 = dktX19_trouble_0 := by decide +kernel
theorem dX19_trouble_0 : decode cX19_trouble 0 = .ok (.aload_n 0, 1) := dk_42 (dk_at dksX19_trouble_0 0 rfl rfl)
theorem dX19_trouble_1 : decode cX19_trouble 1 = .ok (.iconst 0, 1) := dk_3 (dk_at dksX19_trouble_0 1 rfl rfl)
theorem dX19_trouble_2 : decode cX19_trouble 2 = .ok (.putfield 86, 3) := dk_181 0 86 (dk_at dksX19_trouble_0 2 rfl rfl)
theorem dX19_trouble_5 : decode cX19_trouble 5 = .ok (.aload_n 0, 1) := dk_42 (dk_at dksX19_trouble_0 5 rfl rfl)
theorem dX19_trouble_6 : decode cX19_trouble 6 = .ok (.getfield 89, 3) := dk_180 0 89 (dk_at dksX19_trouble_0 6 rfl rfl)
theorem dX19_trouble_9 : decode cX19_trouble 9 = .ok (.ireturn, 1) := dk_172 (dk_at dksX19_trouble_0 9 rfl rfl)
theorem q143 : (Jvm.Cond.initialized "FifthCardModel") ∈ lw_all := lw_g (lw_at lw_m1 22 rfl) rfl
theorem q1445 : (Jvm.Cond.instantiable "FifthCardModel" (46 : Nat)) ∈ lw_all := lw_g (lw_at lw_m6 124 rfl) rfl
theorem q1447 : (Jvm.Cond.instanceMethod ({ cls := "FifthCardModel", name := "<init>", desc := "()V" } : Jvm.MethodName)) ∈ lw_all := lw_g (lw_at lw_m6 126 rfl) rfl
theorem q1448 : (Jvm.Cond.code ({ cls := "FifthCardModel", name := "<init>", desc := "()V" } : Jvm.MethodName) prog_23_method_1_code (1 : Nat) (Option.none : Option Jvm.ClassFile.FieldType)) ∈ lw_all := lw_g (lw_at lw_m6 127 rfl) rfl
theorem q1449 : (Jvm.Cond.methodLink "FifthCardModel" (1 : Nat) ({ cls := "java/lang/Object", name := "<init>", desc := "()V" } : Jvm.MethodName)) ∈ lw_all := lw_g (lw_at lw_m6 128 rfl) rfl
theorem q1450 : (Jvm.Cond.constant "FifthCardModel" (42 : Nat) (32768 : Int32)) ∈ lw_all := lw_g (lw_at lw_m6 129 rfl) rfl
theorem q1451 : (Jvm.Cond.fieldLink "FifthCardModel" (86 : Nat) "FifthCardModel" "thrown" "I") ∈ lw_all := lw_g (lw_at lw_m6 130 rfl) rfl
theorem q1452 : (Jvm.Cond.fieldLink "FifthCardModel" (89 : Nat) "FifthCardModel" "trouble" "I") ∈ lw_all := lw_g (lw_at lw_m6 131 rfl) rfl
theorem q1453 : (Jvm.Cond.fieldLink "FifthCardModel" (9 : Nat) "FifthCardModel" "where" "I") ∈ lw_all := lw_g (lw_at lw_m6 132 rfl) rfl
theorem q1454 : (Jvm.Cond.fieldLink "FifthCardModel" (329 : Nat) "FifthCardModel" "trick" "LFifthCardModel$Trick;") ∈ lw_all := lw_g (lw_at lw_m6 133 rfl) rfl
theorem q1455 : (Jvm.Cond.fieldLink "FifthCardModel" (190 : Nat) "FifthCardModel" "read" "LFifthCardModel$Trick;") ∈ lw_all := lw_g (lw_at lw_m6 134 rfl) rfl
theorem q1456 : (Jvm.Cond.fieldLink "FifthCardModel" (13 : Nat) "FifthCardModel" "tape" "[B") ∈ lw_all := lw_g (lw_at lw_m6 135 rfl) rfl
theorem q1457 : (Jvm.Cond.fieldLink "FifthCardModel" (322 : Nat) "FifthCardModel" "taped" "I") ∈ lw_all := lw_g (lw_at lw_m6 136 rfl) rfl
theorem q1458 : (Jvm.Cond.fieldLink "FifthCardModel" (103 : Nat) "FifthCardModel" "size" "I") ∈ lw_all := lw_g (lw_at lw_m6 137 rfl) rfl
theorem q1459 : (Jvm.Cond.fieldLink "FifthCardModel" (121 : Nat) "FifthCardModel" "at" "I") ∈ lw_all := lw_g (lw_at lw_m6 138 rfl) rfl
theorem q1460 : (Jvm.Cond.fieldLink "FifthCardModel" (118 : Nat) "FifthCardModel" "sort" "I") ∈ lw_all := lw_g (lw_at lw_m6 139 rfl) rfl
theorem q1461 : (Jvm.Cond.fieldLink "FifthCardModel" (127 : Nat) "FifthCardModel" "place" "I") ∈ lw_all := lw_g (lw_at lw_m6 140 rfl) rfl
theorem q1462 : (Jvm.Cond.fieldLink "FifthCardModel" (130 : Nat) "FifthCardModel" "sign" "I") ∈ lw_all := lw_g (lw_at lw_m6 141 rfl) rfl
theorem q1463 : (Jvm.Cond.fieldLink "FifthCardModel" (144 : Nat) "FifthCardModel" "number" "I") ∈ lw_all := lw_g (lw_at lw_m6 142 rfl) rfl
theorem q1464 : (Jvm.Cond.fieldLink "FifthCardModel" (147 : Nat) "FifthCardModel" "fault" "I") ∈ lw_all := lw_g (lw_at lw_m6 143 rfl) rfl
theorem q1465 : (Jvm.Cond.fieldLink "FifthCardModel" (150 : Nat) "FifthCardModel" "wrongAt" "I") ∈ lw_all := lw_g (lw_at lw_m6 144 rfl) rfl
theorem q1466 : (Jvm.Cond.fieldLink "FifthCardModel" (137 : Nat) "FifthCardModel" "word" "J") ∈ lw_all := lw_g (lw_at lw_m6 145 rfl) rfl
theorem q1467 : (Jvm.Cond.fieldLink "FifthCardModel" (17 : Nat) "FifthCardModel" "cards" "[B") ∈ lw_all := lw_g (lw_at lw_m6 146 rfl) rfl
theorem q1468 : (Jvm.Cond.fieldLink "FifthCardModel" (356 : Nat) "FifthCardModel" "hands" "I") ∈ lw_all := lw_g (lw_at lw_m6 147 rfl) rfl
theorem q1469 : (Jvm.Cond.fieldLink "FifthCardModel" (20 : Nat) "FifthCardModel" "pick" "[I") ∈ lw_all := lw_g (lw_at lw_m6 148 rfl) rfl
theorem q1470 : (Jvm.Cond.fieldLink "FifthCardModel" (24 : Nat) "FifthCardModel" "shown" "[I") ∈ lw_all := lw_g (lw_at lw_m6 149 rfl) rfl
theorem q1471 : (Jvm.Cond.fieldLink "FifthCardModel" (27 : Nat) "FifthCardModel" "sorted" "[I") ∈ lw_all := lw_g (lw_at lw_m6 150 rfl) rfl
theorem q1472 : (Jvm.Cond.fieldLink "FifthCardModel" (30 : Nat) "FifthCardModel" "fit" "[I") ∈ lw_all := lw_g (lw_at lw_m6 151 rfl) rfl
theorem q1473 : (Jvm.Cond.fieldLink "FifthCardModel" (400 : Nat) "FifthCardModel" "fitMany" "I") ∈ lw_all := lw_g (lw_at lw_m6 152 rfl) rfl
theorem q1474 : (Jvm.Cond.fieldLink "FifthCardModel" (33 : Nat) "FifthCardModel" "codes" "[I") ∈ lw_all := lw_g (lw_at lw_m6 153 rfl) rfl
theorem q1475 : (Jvm.Cond.fieldLink "FifthCardModel" (397 : Nat) "FifthCardModel" "codeMany" "I") ∈ lw_all := lw_g (lw_at lw_m6 154 rfl) rfl
theorem q1476 : (Jvm.Cond.fieldLink "FifthCardModel" (36 : Nat) "FifthCardModel" "laidRow" "[I") ∈ lw_all := lw_g (lw_at lw_m6 155 rfl) rfl
theorem q1477 : (Jvm.Cond.fieldLink "FifthCardModel" (39 : Nat) "FifthCardModel" "changed" "[I") ∈ lw_all := lw_g (lw_at lw_m6 156 rfl) rfl
theorem q1478 : (Jvm.Cond.fieldLink "FifthCardModel" (43 : Nat) "FifthCardModel" "key" "[I") ∈ lw_all := lw_g (lw_at lw_m6 157 rfl) rfl
theorem q1479 : (Jvm.Cond.fieldLink "FifthCardModel" (46 : Nat) "FifthCardModel" "owner" "[I") ∈ lw_all := lw_g (lw_at lw_m6 158 rfl) rfl
theorem q1480 : (Jvm.Cond.fieldLink "FifthCardModel" (49 : Nat) "FifthCardModel" "paired" "[I") ∈ lw_all := lw_g (lw_at lw_m6 159 rfl) rfl
theorem q1481 : (Jvm.Cond.fieldLink "FifthCardModel" (52 : Nat) "FifthCardModel" "queue" "[I") ∈ lw_all := lw_g (lw_at lw_m6 160 rfl) rfl
theorem q1482 : (Jvm.Cond.fieldLink "FifthCardModel" (55 : Nat) "FifthCardModel" "cameFrom" "[I") ∈ lw_all := lw_g (lw_at lw_m6 161 rfl) rfl
theorem q1483 : (Jvm.Cond.fieldLink "FifthCardModel" (58 : Nat) "FifthCardModel" "isDone" "[Z") ∈ lw_all := lw_g (lw_at lw_m6 162 rfl) rfl
theorem q1484 : (Jvm.Cond.fieldLink "FifthCardModel" (62 : Nat) "FifthCardModel" "tableRow" "[I") ∈ lw_all := lw_g (lw_at lw_m6 163 rfl) rfl
theorem q1485 : (Jvm.Cond.fieldLink "FifthCardModel" (65 : Nat) "FifthCardModel" "candidates" "[I") ∈ lw_all := lw_g (lw_at lw_m6 164 rfl) rfl
theorem q1486 : (Jvm.Cond.fieldLink "FifthCardModel" (343 : Nat) "FifthCardModel" "isTableKnown" "Z") ∈ lw_all := lw_g (lw_at lw_m6 165 rfl) rfl
theorem q1487 : (Jvm.Cond.fieldLink "FifthCardModel" (427 : Nat) "FifthCardModel" "hasTable" "Z") ∈ lw_all := lw_g (lw_at lw_m6 166 rfl) rfl
theorem q1488 : (Jvm.Cond.fieldLink "FifthCardModel" (68 : Nat) "FifthCardModel" "eveningHand" "[I") ∈ lw_all := lw_g (lw_at lw_m6 167 rfl) rfl
theorem q1489 : (Jvm.Cond.fieldLink "FifthCardModel" (71 : Nat) "FifthCardModel" "eveningRow" "[I") ∈ lw_all := lw_g (lw_at lw_m6 168 rfl) rfl
theorem q1490 : (Jvm.Cond.fieldLink "FifthCardModel" (74 : Nat) "FifthCardModel" "keptHand" "[I") ∈ lw_all := lw_g (lw_at lw_m6 169 rfl) rfl
theorem q1491 : (Jvm.Cond.fieldLink "FifthCardModel" (77 : Nat) "FifthCardModel" "keptRow" "[I") ∈ lw_all := lw_g (lw_at lw_m6 170 rfl) rfl
theorem q1492 : (Jvm.Cond.fieldLink "FifthCardModel" (80 : Nat) "FifthCardModel" "keptMany" "[I") ∈ lw_all := lw_g (lw_at lw_m6 171 rfl) rfl
theorem q1493 : (Jvm.Cond.fieldLink "FifthCardModel" (83 : Nat) "FifthCardModel" "keptSeed" "[I") ∈ lw_all := lw_g (lw_at lw_m6 172 rfl) rfl
theorem q1494 : (Jvm.Cond.fieldLink "FifthCardModel" (346 : Nat) "FifthCardModel" "evenings" "I") ∈ lw_all := lw_g (lw_at lw_m6 173 rfl) rfl
theorem q1495 : (Jvm.Cond.fieldLink "FifthCardModel" (334 : Nat) "FifthCardModel" "images" "I") ∈ lw_all := lw_g (lw_at lw_m6 174 rfl) rfl
theorem q1496 : (Jvm.Cond.fieldLink "FifthCardModel" (331 : Nat) "FifthCardModel" "seed" "I") ∈ lw_all := lw_g (lw_at lw_m6 175 rfl) rfl
theorem q1497 : (Jvm.Cond.lays "FifthCardModel" "FifthCardModel" "thrown" "I") ∈ lw_all := lw_g (lw_at lw_m6 176 rfl) rfl
theorem q1498 : (Jvm.Cond.soleField "FifthCardModel" "thrown") ∈ lw_all := lw_g (lw_at lw_m6 177 rfl) rfl
theorem q1499 : (Jvm.Cond.lays "FifthCardModel" "FifthCardModel" "trouble" "I") ∈ lw_all := lw_g (lw_at lw_m6 178 rfl) rfl
theorem q1500 : (Jvm.Cond.soleField "FifthCardModel" "trouble") ∈ lw_all := lw_g (lw_at lw_m6 179 rfl) rfl
theorem q1501 : (Jvm.Cond.lays "FifthCardModel" "FifthCardModel" "where" "I") ∈ lw_all := lw_g (lw_at lw_m6 180 rfl) rfl
theorem q1502 : (Jvm.Cond.soleField "FifthCardModel" "where") ∈ lw_all := lw_g (lw_at lw_m6 181 rfl) rfl
theorem q1503 : (Jvm.Cond.lays "FifthCardModel" "FifthCardModel" "trick" "LFifthCardModel$Trick;") ∈ lw_all := lw_g (lw_at lw_m6 182 rfl) rfl
theorem q1504 : (Jvm.Cond.soleField "FifthCardModel" "trick") ∈ lw_all := lw_g (lw_at lw_m6 183 rfl) rfl
theorem q1505 : (Jvm.Cond.lays "FifthCardModel" "FifthCardModel" "read" "LFifthCardModel$Trick;") ∈ lw_all := lw_g (lw_at lw_m6 184 rfl) rfl
theorem q1506 : (Jvm.Cond.soleField "FifthCardModel" "read") ∈ lw_all := lw_g (lw_at lw_m6 185 rfl) rfl
theorem q1507 : (Jvm.Cond.laysFinal "FifthCardModel" "FifthCardModel" "tape" "[B") ∈ lw_all := lw_g (lw_at lw_m6 186 rfl) rfl
theorem q1508 : (Jvm.Cond.soleField "FifthCardModel" "tape") ∈ lw_all := lw_g (lw_at lw_m6 187 rfl) rfl
theorem q1509 : (Jvm.Cond.lays "FifthCardModel" "FifthCardModel" "taped" "I") ∈ lw_all := lw_g (lw_at lw_m6 188 rfl) rfl
theorem q1510 : (Jvm.Cond.soleField "FifthCardModel" "taped") ∈ lw_all := lw_g (lw_at lw_m6 189 rfl) rfl
theorem q1511 : (Jvm.Cond.lays "FifthCardModel" "FifthCardModel" "size" "I") ∈ lw_all := lw_g (lw_at lw_m6 190 rfl) rfl
theorem q1512 : (Jvm.Cond.soleField "FifthCardModel" "size") ∈ lw_all := lw_g (lw_at lw_m6 191 rfl) rfl
theorem q1513 : (Jvm.Cond.lays "FifthCardModel" "FifthCardModel" "at" "I") ∈ lw_all := lw_g (lw_at lw_m6 192 rfl) rfl
theorem q1514 : (Jvm.Cond.soleField "FifthCardModel" "at") ∈ lw_all := lw_g (lw_at lw_m6 193 rfl) rfl
theorem q1515 : (Jvm.Cond.lays "FifthCardModel" "FifthCardModel" "sort" "I") ∈ lw_all := lw_g (lw_at lw_m6 194 rfl) rfl
theorem q1516 : (Jvm.Cond.soleField "FifthCardModel" "sort") ∈ lw_all := lw_g (lw_at lw_m6 195 rfl) rfl
theorem q1517 : (Jvm.Cond.lays "FifthCardModel" "FifthCardModel" "place" "I") ∈ lw_all := lw_g (lw_at lw_m6 196 rfl) rfl
theorem q1518 : (Jvm.Cond.soleField "FifthCardModel" "place") ∈ lw_all := lw_g (lw_at lw_m6 197 rfl) rfl
theorem q1519 : (Jvm.Cond.lays "FifthCardModel" "FifthCardModel" "sign" "I") ∈ lw_all := lw_g (lw_at lw_m6 198 rfl) rfl
theorem q1520 : (Jvm.Cond.soleField "FifthCardModel" "sign") ∈ lw_all := lw_g (lw_at lw_m6 199 rfl) rfl
theorem q1521 : (Jvm.Cond.lays "FifthCardModel" "FifthCardModel" "number" "I") ∈ lw_all := lw_g (lw_at lw_m6 200 rfl) rfl
theorem q1522 : (Jvm.Cond.soleField "FifthCardModel" "number") ∈ lw_all := lw_g (lw_at lw_m6 201 rfl) rfl
theorem q1523 : (Jvm.Cond.lays "FifthCardModel" "FifthCardModel" "fault" "I") ∈ lw_all := lw_g (lw_at lw_m6 202 rfl) rfl
theorem q1524 : (Jvm.Cond.soleField "FifthCardModel" "fault") ∈ lw_all := lw_g (lw_at lw_m6 203 rfl) rfl
theorem q1525 : (Jvm.Cond.lays "FifthCardModel" "FifthCardModel" "wrongAt" "I") ∈ lw_all := lw_g (lw_at lw_m6 204 rfl) rfl
theorem q1526 : (Jvm.Cond.soleField "FifthCardModel" "wrongAt") ∈ lw_all := lw_g (lw_at lw_m6 205 rfl) rfl
theorem q1527 : (Jvm.Cond.lays "FifthCardModel" "FifthCardModel" "word" "J") ∈ lw_all := lw_g (lw_at lw_m6 206 rfl) rfl
theorem q1528 : (Jvm.Cond.soleField "FifthCardModel" "word") ∈ lw_all := lw_g (lw_at lw_m6 207 rfl) rfl
theorem q1529 : (Jvm.Cond.laysFinal "FifthCardModel" "FifthCardModel" "cards" "[B") ∈ lw_all := lw_g (lw_at lw_m6 208 rfl) rfl
theorem q1530 : (Jvm.Cond.soleField "FifthCardModel" "cards") ∈ lw_all := lw_g (lw_at lw_m6 209 rfl) rfl
theorem q1531 : (Jvm.Cond.lays "FifthCardModel" "FifthCardModel" "hands" "I") ∈ lw_all := lw_g (lw_at lw_m6 210 rfl) rfl
theorem q1532 : (Jvm.Cond.soleField "FifthCardModel" "hands") ∈ lw_all := lw_g (lw_at lw_m6 211 rfl) rfl
theorem q1533 : (Jvm.Cond.laysFinal "FifthCardModel" "FifthCardModel" "pick" "[I") ∈ lw_all := lw_g (lw_at lw_m6 212 rfl) rfl
theorem q1534 : (Jvm.Cond.soleField "FifthCardModel" "pick") ∈ lw_all := lw_g (lw_at lw_m6 213 rfl) rfl
theorem q1535 : (Jvm.Cond.laysFinal "FifthCardModel" "FifthCardModel" "shown" "[I") ∈ lw_all := lw_g (lw_at lw_m6 214 rfl) rfl
theorem q1536 : (Jvm.Cond.soleField "FifthCardModel" "shown") ∈ lw_all := lw_g (lw_at lw_m6 215 rfl) rfl
theorem q1537 : (Jvm.Cond.laysFinal "FifthCardModel" "FifthCardModel" "sorted" "[I") ∈ lw_all := lw_g (lw_at lw_m6 216 rfl) rfl
theorem q1538 : (Jvm.Cond.soleField "FifthCardModel" "sorted") ∈ lw_all := lw_g (lw_at lw_m6 217 rfl) rfl
theorem q1539 : (Jvm.Cond.laysFinal "FifthCardModel" "FifthCardModel" "fit" "[I") ∈ lw_all := lw_g (lw_at lw_m6 218 rfl) rfl
theorem q1540 : (Jvm.Cond.soleField "FifthCardModel" "fit") ∈ lw_all := lw_g (lw_at lw_m6 219 rfl) rfl
theorem q1541 : (Jvm.Cond.lays "FifthCardModel" "FifthCardModel" "fitMany" "I") ∈ lw_all := lw_g (lw_at lw_m6 220 rfl) rfl
theorem q1542 : (Jvm.Cond.soleField "FifthCardModel" "fitMany") ∈ lw_all := lw_g (lw_at lw_m6 221 rfl) rfl
theorem q1543 : (Jvm.Cond.laysFinal "FifthCardModel" "FifthCardModel" "codes" "[I") ∈ lw_all := lw_g (lw_at lw_m6 222 rfl) rfl
theorem q1544 : (Jvm.Cond.soleField "FifthCardModel" "codes") ∈ lw_all := lw_g (lw_at lw_m6 223 rfl) rfl
theorem q1545 : (Jvm.Cond.lays "FifthCardModel" "FifthCardModel" "codeMany" "I") ∈ lw_all := lw_g (lw_at lw_m6 224 rfl) rfl
theorem q1546 : (Jvm.Cond.soleField "FifthCardModel" "codeMany") ∈ lw_all := lw_g (lw_at lw_m6 225 rfl) rfl
theorem q1547 : (Jvm.Cond.laysFinal "FifthCardModel" "FifthCardModel" "laidRow" "[I") ∈ lw_all := lw_g (lw_at lw_m6 226 rfl) rfl
theorem q1548 : (Jvm.Cond.soleField "FifthCardModel" "laidRow") ∈ lw_all := lw_g (lw_at lw_m6 227 rfl) rfl
theorem q1549 : (Jvm.Cond.laysFinal "FifthCardModel" "FifthCardModel" "changed" "[I") ∈ lw_all := lw_g (lw_at lw_m6 228 rfl) rfl
theorem q1550 : (Jvm.Cond.soleField "FifthCardModel" "changed") ∈ lw_all := lw_g (lw_at lw_m6 229 rfl) rfl
theorem q1551 : (Jvm.Cond.laysFinal "FifthCardModel" "FifthCardModel" "key" "[I") ∈ lw_all := lw_g (lw_at lw_m6 230 rfl) rfl
theorem q1552 : (Jvm.Cond.soleField "FifthCardModel" "key") ∈ lw_all := lw_g (lw_at lw_m6 231 rfl) rfl
theorem q1553 : (Jvm.Cond.laysFinal "FifthCardModel" "FifthCardModel" "owner" "[I") ∈ lw_all := lw_g (lw_at lw_m6 232 rfl) rfl
theorem q1554 : (Jvm.Cond.soleField "FifthCardModel" "owner") ∈ lw_all := lw_g (lw_at lw_m6 233 rfl) rfl
theorem q1555 : (Jvm.Cond.laysFinal "FifthCardModel" "FifthCardModel" "paired" "[I") ∈ lw_all := lw_g (lw_at lw_m6 234 rfl) rfl
theorem q1556 : (Jvm.Cond.soleField "FifthCardModel" "paired") ∈ lw_all := lw_g (lw_at lw_m6 235 rfl) rfl
theorem q1557 : (Jvm.Cond.laysFinal "FifthCardModel" "FifthCardModel" "queue" "[I") ∈ lw_all := lw_g (lw_at lw_m6 236 rfl) rfl
theorem q1558 : (Jvm.Cond.soleField "FifthCardModel" "queue") ∈ lw_all := lw_g (lw_at lw_m6 237 rfl) rfl
theorem q1559 : (Jvm.Cond.laysFinal "FifthCardModel" "FifthCardModel" "cameFrom" "[I") ∈ lw_all := lw_g (lw_at lw_m6 238 rfl) rfl
theorem q1560 : (Jvm.Cond.soleField "FifthCardModel" "cameFrom") ∈ lw_all := lw_g (lw_at lw_m6 239 rfl) rfl
theorem q1561 : (Jvm.Cond.laysFinal "FifthCardModel" "FifthCardModel" "isDone" "[Z") ∈ lw_all := lw_g (lw_at lw_m7 0 rfl) rfl
theorem q1562 : (Jvm.Cond.soleField "FifthCardModel" "isDone") ∈ lw_all := lw_g (lw_at lw_m7 1 rfl) rfl
theorem q1563 : (Jvm.Cond.laysFinal "FifthCardModel" "FifthCardModel" "tableRow" "[I") ∈ lw_all := lw_g (lw_at lw_m7 2 rfl) rfl
theorem q1564 : (Jvm.Cond.soleField "FifthCardModel" "tableRow") ∈ lw_all := lw_g (lw_at lw_m7 3 rfl) rfl
theorem q1565 : (Jvm.Cond.laysFinal "FifthCardModel" "FifthCardModel" "candidates" "[I") ∈ lw_all := lw_g (lw_at lw_m7 4 rfl) rfl
theorem q1566 : (Jvm.Cond.soleField "FifthCardModel" "candidates") ∈ lw_all := lw_g (lw_at lw_m7 5 rfl) rfl
theorem q1567 : (Jvm.Cond.lays "FifthCardModel" "FifthCardModel" "isTableKnown" "Z") ∈ lw_all := lw_g (lw_at lw_m7 6 rfl) rfl
theorem q1568 : (Jvm.Cond.soleField "FifthCardModel" "isTableKnown") ∈ lw_all := lw_g (lw_at lw_m7 7 rfl) rfl
theorem q1569 : (Jvm.Cond.lays "FifthCardModel" "FifthCardModel" "hasTable" "Z") ∈ lw_all := lw_g (lw_at lw_m7 8 rfl) rfl
theorem q1570 : (Jvm.Cond.soleField "FifthCardModel" "hasTable") ∈ lw_all := lw_g (lw_at lw_m7 9 rfl) rfl
theorem q1571 : (Jvm.Cond.laysFinal "FifthCardModel" "FifthCardModel" "eveningHand" "[I") ∈ lw_all := lw_g (lw_at lw_m7 10 rfl) rfl
theorem q1572 : (Jvm.Cond.soleField "FifthCardModel" "eveningHand") ∈ lw_all := lw_g (lw_at lw_m7 11 rfl) rfl
theorem q1573 : (Jvm.Cond.laysFinal "FifthCardModel" "FifthCardModel" "eveningRow" "[I") ∈ lw_all := lw_g (lw_at lw_m7 12 rfl) rfl
theorem q1574 : (Jvm.Cond.soleField "FifthCardModel" "eveningRow") ∈ lw_all := lw_g (lw_at lw_m7 13 rfl) rfl
theorem q1575 : (Jvm.Cond.laysFinal "FifthCardModel" "FifthCardModel" "keptHand" "[I") ∈ lw_all := lw_g (lw_at lw_m7 14 rfl) rfl
theorem q1576 : (Jvm.Cond.soleField "FifthCardModel" "keptHand") ∈ lw_all := lw_g (lw_at lw_m7 15 rfl) rfl
theorem q1577 : (Jvm.Cond.laysFinal "FifthCardModel" "FifthCardModel" "keptRow" "[I") ∈ lw_all := lw_g (lw_at lw_m7 16 rfl) rfl
theorem q1578 : (Jvm.Cond.soleField "FifthCardModel" "keptRow") ∈ lw_all := lw_g (lw_at lw_m7 17 rfl) rfl
theorem q1579 : (Jvm.Cond.laysFinal "FifthCardModel" "FifthCardModel" "keptMany" "[I") ∈ lw_all := lw_g (lw_at lw_m7 18 rfl) rfl
theorem q1580 : (Jvm.Cond.soleField "FifthCardModel" "keptMany") ∈ lw_all := lw_g (lw_at lw_m7 19 rfl) rfl
theorem q1581 : (Jvm.Cond.laysFinal "FifthCardModel" "FifthCardModel" "keptSeed" "[I") ∈ lw_all := lw_g (lw_at lw_m7 20 rfl) rfl
theorem q1582 : (Jvm.Cond.soleField "FifthCardModel" "keptSeed") ∈ lw_all := lw_g (lw_at lw_m7 21 rfl) rfl
theorem q1583 : (Jvm.Cond.lays "FifthCardModel" "FifthCardModel" "evenings" "I") ∈ lw_all := lw_g (lw_at lw_m7 22 rfl) rfl
theorem q1584 : (Jvm.Cond.soleField "FifthCardModel" "evenings") ∈ lw_all := lw_g (lw_at lw_m7 23 rfl) rfl
theorem q1585 : (Jvm.Cond.lays "FifthCardModel" "FifthCardModel" "images" "I") ∈ lw_all := lw_g (lw_at lw_m7 24 rfl) rfl
theorem q1586 : (Jvm.Cond.soleField "FifthCardModel" "images") ∈ lw_all := lw_g (lw_at lw_m7 25 rfl) rfl
theorem q1587 : (Jvm.Cond.lays "FifthCardModel" "FifthCardModel" "seed" "I") ∈ lw_all := lw_g (lw_at lw_m7 26 rfl) rfl
theorem q1588 : (Jvm.Cond.soleField "FifthCardModel" "seed") ∈ lw_all := lw_g (lw_at lw_m7 27 rfl) rfl
theorem q1589 : (Jvm.Cond.superclass "FifthCardModel" "java/lang/Object") ∈ lw_all := lw_g (lw_at lw_m7 28 rfl) rfl
theorem q1592 : (Jvm.Cond.instanceMethod ({ cls := "FifthCardModel", name := "thrown", desc := "()I" } : Jvm.MethodName)) ∈ lw_all := lw_g (lw_at lw_m7 31 rfl) rfl
theorem q1593 : (Jvm.Cond.selects "FifthCardModel" ({ cls := "FifthCardModel", name := "thrown", desc := "()I" } : Jvm.MethodName) ({ cls := "FifthCardModel", name := "thrown", desc := "()I" } : Jvm.MethodName)) ∈ lw_all := lw_g (lw_at lw_m7 32 rfl) rfl
theorem q1594 : (Jvm.Cond.code ({ cls := "FifthCardModel", name := "thrown", desc := "()I" } : Jvm.MethodName) prog_23_method_2_code (1 : Nat) (Option.some Jvm.ClassFile.FieldType.int)) ∈ lw_all := lw_g (lw_at lw_m7 33 rfl) rfl
theorem q1596 : (Jvm.Cond.instanceMethod ({ cls := "FifthCardModel", name := "feed", desc := "(IIIII)I" } : Jvm.MethodName)) ∈ lw_all := lw_g (lw_at lw_m7 35 rfl) rfl
theorem q1597 : (Jvm.Cond.selects "FifthCardModel" ({ cls := "FifthCardModel", name := "feed", desc := "(IIIII)I" } : Jvm.MethodName) ({ cls := "FifthCardModel", name := "feed", desc := "(IIIII)I" } : Jvm.MethodName)) ∈ lw_all := lw_g (lw_at lw_m7 36 rfl) rfl
theorem q1598 : (Jvm.Cond.code ({ cls := "FifthCardModel", name := "feed", desc := "(IIIII)I" } : Jvm.MethodName) prog_23_method_34_code (8 : Nat) (Option.some Jvm.ClassFile.FieldType.int)) ∈ lw_all := lw_g (lw_at lw_m7 37 rfl) rfl
theorem q1600 : (Jvm.Cond.instanceMethod ({ cls := "FifthCardModel", name := "trick", desc := "(I)I" } : Jvm.MethodName)) ∈ lw_all := lw_g (lw_at lw_m7 39 rfl) rfl
theorem q1601 : (Jvm.Cond.selects "FifthCardModel" ({ cls := "FifthCardModel", name := "trick", desc := "(I)I" } : Jvm.MethodName) ({ cls := "FifthCardModel", name := "trick", desc := "(I)I" } : Jvm.MethodName)) ∈ lw_all := lw_g (lw_at lw_m7 40 rfl) rfl
theorem q1602 : (Jvm.Cond.code ({ cls := "FifthCardModel", name := "trick", desc := "(I)I" } : Jvm.MethodName) prog_23_method_35_code (3 : Nat) (Option.some Jvm.ClassFile.FieldType.int)) ∈ lw_all := lw_g (lw_at lw_m7 41 rfl) rfl
theorem q1603 : (Jvm.Cond.methodLink "FifthCardModel" (92 : Nat) ({ cls := "FifthCardModel", name := "refused", desc := "(I)I" } : Jvm.MethodName)) ∈ lw_all := lw_g (lw_at lw_m7 42 rfl) rfl
theorem q1604 : (Jvm.Cond.privateMethod ({ cls := "FifthCardModel", name := "refused", desc := "(I)I" } : Jvm.MethodName)) ∈ lw_tbl := lw_at lw_m7 43 rfl
theorem q1605 : (Jvm.Cond.instanceMethod ({ cls := "FifthCardModel", name := "refused", desc := "(I)I" } : Jvm.MethodName)) ∈ lw_all := lw_g (lw_at lw_m7 44 rfl) rfl
theorem q1606 : (Jvm.Cond.code ({ cls := "FifthCardModel", name := "refused", desc := "(I)I" } : Jvm.MethodName) prog_23_method_3_code (2 : Nat) (Option.some Jvm.ClassFile.FieldType.int)) ∈ lw_all := lw_g (lw_at lw_m7 45 rfl) rfl
theorem q1607 : (Jvm.Cond.classLink "FifthCardModel" (195 : Nat) "FifthCardModel$Trick") ∈ lw_all := lw_g (lw_at lw_m7 46 rfl) rfl
theorem q1609 : (Jvm.Cond.methodLinkNest "FifthCardModel" (325 : Nat) ({ cls := "FifthCardModel$Trick", name := "<init>", desc := "()V" } : Jvm.MethodName) "FifthCardModel") ∈ lw_tbl := lw_at lw_m7 48 rfl
theorem q1613 : (Jvm.Cond.fieldLinkNest "FifthCardModel" (194 : Nat) "FifthCardModel$Trick" "cards" "I" "FifthCardModel") ∈ lw_tbl := lw_at lw_m7 52 rfl
theorem q1614 : (Jvm.Cond.fieldLinkNest "FifthCardModel" (253 : Nat) "FifthCardModel$Trick" "suits" "I" "FifthCardModel") ∈ lw_tbl := lw_at lw_m7 53 rfl
theorem q1616 : (Jvm.Cond.fieldLinkNest "FifthCardModel" (232 : Nat) "FifthCardModel$Trick" "hand" "I" "FifthCardModel") ∈ lw_tbl := lw_at lw_m7 55 rfl
theorem q1617 : (Jvm.Cond.fieldLinkNest "FifthCardModel" (255 : Nat) "FifthCardModel$Trick" "kept" "I" "FifthCardModel") ∈ lw_tbl := lw_at lw_m7 56 rfl
theorem q1619 : (Jvm.Cond.fieldLinkNest "FifthCardModel" (257 : Nat) "FifthCardModel$Trick" "shown" "I" "FifthCardModel") ∈ lw_tbl := lw_at lw_m7 58 rfl
theorem q1620 : (Jvm.Cond.fieldLinkNest "FifthCardModel" (259 : Nat) "FifthCardModel$Trick" "rules" "I" "FifthCardModel") ∈ lw_tbl := lw_at lw_m7 59 rfl
theorem q1621 : (Jvm.Cond.fieldLinkNest "FifthCardModel" (305 : Nat) "FifthCardModel$Trick" "evenings" "I" "FifthCardModel") ∈ lw_tbl := lw_at lw_m7 60 rfl
theorem q1623 : (Jvm.Cond.fieldLinkNest "FifthCardModel" (228 : Nat) "FifthCardModel$Trick" "isStranger" "Z" "FifthCardModel") ∈ lw_tbl := lw_at lw_m7 62 rfl
theorem q1624 : (Jvm.Cond.fieldLinkNest "FifthCardModel" (245 : Nat) "FifthCardModel$Trick" "isHeld" "Z" "FifthCardModel") ∈ lw_tbl := lw_at lw_m7 63 rfl
theorem q1626 : (Jvm.Cond.fieldLinkNest "FifthCardModel" (250 : Nat) "FifthCardModel$Trick" "isTilted" "Z" "FifthCardModel") ∈ lw_tbl := lw_at lw_m7 65 rfl
theorem q1628 : (Jvm.Cond.fieldLinkNest "FifthCardModel" (283 : Nat) "FifthCardModel$Trick" "rule" "[I" "FifthCardModel") ∈ lw_tbl := lw_at lw_m7 67 rfl
theorem q1630 : (Jvm.Cond.fieldLinkNest "FifthCardModel" (308 : Nat) "FifthCardModel$Trick" "eveningCards" "[I" "FifthCardModel") ∈ lw_tbl := lw_at lw_m7 69 rfl
theorem q1632 : (Jvm.Cond.fieldLinkNest "FifthCardModel" (315 : Nat) "FifthCardModel$Trick" "eveningRow" "[I" "FifthCardModel") ∈ lw_tbl := lw_at lw_m7 71 rfl
theorem q1634 : (Jvm.Cond.fieldLinkNest "FifthCardModel" (319 : Nat) "FifthCardModel$Trick" "eveningTilts" "[I" "FifthCardModel") ∈ lw_tbl := lw_at lw_m7 73 rfl
theorem q1636 : (Jvm.Cond.fieldLinkNest "FifthCardModel" (270 : Nat) "FifthCardModel$Trick" "name" "[J" "FifthCardModel") ∈ lw_tbl := lw_at lw_m7 75 rfl
theorem q1669 : (Jvm.Cond.methodLink "FifthCardModel" (161 : Nat) ({ cls := "FifthCardModel", name := "goesOn", desc := "()V" } : Jvm.MethodName)) ∈ lw_all := lw_g (lw_at lw_m7 108 rfl) rfl
theorem q1670 : (Jvm.Cond.privateMethod ({ cls := "FifthCardModel", name := "goesOn", desc := "()V" } : Jvm.MethodName)) ∈ lw_tbl := lw_at lw_m7 109 rfl
theorem q1671 : (Jvm.Cond.instanceMethod ({ cls := "FifthCardModel", name := "goesOn", desc := "()V" } : Jvm.MethodName)) ∈ lw_all := lw_g (lw_at lw_m7 110 rfl) rfl
theorem q1672 : (Jvm.Cond.code ({ cls := "FifthCardModel", name := "goesOn", desc := "()V" } : Jvm.MethodName) prog_23_method_15_code (3 : Nat) (Option.none : Option Jvm.ClassFile.FieldType)) ∈ lw_all := lw_g (lw_at lw_m7 111 rfl) rfl
theorem q1673 : (Jvm.Cond.methodLink "FifthCardModel" (124 : Nat) ({ cls := "FifthCardModel", name := "byteAt", desc := "(I)I" } : Jvm.MethodName)) ∈ lw_all := lw_g (lw_at lw_m7 112 rfl) rfl
theorem q1674 : (Jvm.Cond.privateMethod ({ cls := "FifthCardModel", name := "byteAt", desc := "(I)I" } : Jvm.MethodName)) ∈ lw_tbl := lw_at lw_m7 113 rfl
theorem q1675 : (Jvm.Cond.instanceMethod ({ cls := "FifthCardModel", name := "byteAt", desc := "(I)I" } : Jvm.MethodName)) ∈ lw_all := lw_g (lw_at lw_m7 114 rfl) rfl
theorem q1676 : (Jvm.Cond.code ({ cls := "FifthCardModel", name := "byteAt", desc := "(I)I" } : Jvm.MethodName) prog_23_method_11_code (2 : Nat) (Option.some Jvm.ClassFile.FieldType.int)) ∈ lw_all := lw_g (lw_at lw_m7 115 rfl) rfl
theorem q1677 : (Jvm.Cond.methodLink "FifthCardModel" (133 : Nat) ({ cls := "FifthCardModel", name := "isLetter", desc := "(I)Z" } : Jvm.MethodName)) ∈ lw_all := lw_g (lw_at lw_m7 116 rfl) rfl
theorem q1678 : (Jvm.Cond.static ({ cls := "FifthCardModel", name := "isLetter", desc := "(I)Z" } : Jvm.MethodName)) ∈ lw_all := lw_g (lw_at lw_m7 117 rfl) rfl
theorem q1679 : (Jvm.Cond.code ({ cls := "FifthCardModel", name := "isLetter", desc := "(I)Z" } : Jvm.MethodName) prog_23_method_12_code (1 : Nat) (Option.some Jvm.ClassFile.FieldType.boolean)) ∈ lw_all := lw_g (lw_at lw_m7 118 rfl) rfl
theorem q1680 : (Jvm.Cond.constantLong "FifthCardModel" (112 : Nat) (32 : Int64)) ∈ lw_all := lw_g (lw_at lw_m7 119 rfl) rfl
theorem q1681 : (Jvm.Cond.methodLink "FifthCardModel" (141 : Nat) ({ cls := "FifthCardModel", name := "isDigit", desc := "(I)Z" } : Jvm.MethodName)) ∈ lw_all := lw_g (lw_at lw_m7 120 rfl) rfl
theorem q1682 : (Jvm.Cond.static ({ cls := "FifthCardModel", name := "isDigit", desc := "(I)Z" } : Jvm.MethodName)) ∈ lw_all := lw_g (lw_at lw_m7 121 rfl) rfl
theorem q1683 : (Jvm.Cond.code ({ cls := "FifthCardModel", name := "isDigit", desc := "(I)Z" } : Jvm.MethodName) prog_23_method_13_code (1 : Nat) (Option.some Jvm.ClassFile.FieldType.boolean)) ∈ lw_all := lw_g (lw_at lw_m7 122 rfl) rfl
theorem q1684 : (Jvm.Cond.methodLink "FifthCardModel" (326 : Nat) ({ cls := "FifthCardModel", name := "readAll", desc := "()V" } : Jvm.MethodName)) ∈ lw_all := lw_g (lw_at lw_m7 123 rfl) rfl
theorem q1685 : (Jvm.Cond.privateMethod ({ cls := "FifthCardModel", name := "readAll", desc := "()V" } : Jvm.MethodName)) ∈ lw_tbl := lw_at lw_m7 124 rfl
theorem q1686 : (Jvm.Cond.instanceMethod ({ cls := "FifthCardModel", name := "readAll", desc := "()V" } : Jvm.MethodName)) ∈ lw_all := lw_g (lw_at lw_m7 125 rfl) rfl
theorem q1687 : (Jvm.Cond.code ({ cls := "FifthCardModel", name := "readAll", desc := "()V" } : Jvm.MethodName) prog_23_method_26_code (2 : Nat) (Option.none : Option Jvm.ClassFile.FieldType)) ∈ lw_all := lw_g (lw_at lw_m7 126 rfl) rfl
theorem q1688 : (Jvm.Cond.methodLink "FifthCardModel" (198 : Nat) ({ cls := "FifthCardModel", name := "readLine", desc := "()V" } : Jvm.MethodName)) ∈ lw_all := lw_g (lw_at lw_m7 127 rfl) rfl
theorem q1689 : (Jvm.Cond.privateMethod ({ cls := "FifthCardModel", name := "readLine", desc := "()V" } : Jvm.MethodName)) ∈ lw_tbl := lw_at lw_m7 128 rfl
theorem q1690 : (Jvm.Cond.instanceMethod ({ cls := "FifthCardModel", name := "readLine", desc := "()V" } : Jvm.MethodName)) ∈ lw_all := lw_g (lw_at lw_m7 129 rfl) rfl
theorem q1691 : (Jvm.Cond.code ({ cls := "FifthCardModel", name := "readLine", desc := "()V" } : Jvm.MethodName) prog_23_method_27_code (1 : Nat) (Option.none : Option Jvm.ClassFile.FieldType)) ∈ lw_all := lw_g (lw_at lw_m7 130 rfl) rfl
theorem q1692 : (Jvm.Cond.stringRef "FifthCardModel" (180 : Nat) "trick") ∈ lw_tbl := lw_at lw_m7 131 rfl
theorem q1693 : (Jvm.Cond.methodLink "FifthCardModel" (157 : Nat) ({ cls := "FifthCardModel", name := "isWord", desc := "(Ljava/lang/String;)Z" } : Jvm.MethodName)) ∈ lw_all := lw_g (lw_at lw_m7 132 rfl) rfl
theorem q1694 : (Jvm.Cond.privateMethod ({ cls := "FifthCardModel", name := "isWord", desc := "(Ljava/lang/String;)Z" } : Jvm.MethodName)) ∈ lw_tbl := lw_at lw_m7 133 rfl
theorem q1695 : (Jvm.Cond.instanceMethod ({ cls := "FifthCardModel", name := "isWord", desc := "(Ljava/lang/String;)Z" } : Jvm.MethodName)) ∈ lw_all := lw_g (lw_at lw_m7 134 rfl) rfl
theorem q1696 : (Jvm.Cond.code ({ cls := "FifthCardModel", name := "isWord", desc := "(Ljava/lang/String;)Z" } : Jvm.MethodName) prog_23_method_17_code (2 : Nat) (Option.some Jvm.ClassFile.FieldType.boolean)) ∈ lw_all := lw_g (lw_at lw_m7 135 rfl) rfl
theorem q1697 : (Jvm.Cond.methodLink "FifthCardModel" (153 : Nat) ({ cls := "FifthCardModel", name := "wordOf", desc := "(Ljava/lang/String;)J" } : Jvm.MethodName)) ∈ lw_all := lw_g (lw_at lw_m7 136 rfl) rfl
theorem q1698 : (Jvm.Cond.static ({ cls := "FifthCardModel", name := "wordOf", desc := "(Ljava/lang/String;)J" } : Jvm.MethodName)) ∈ lw_all := lw_g (lw_at lw_m7 137 rfl) rfl
theorem q1699 : (Jvm.Cond.code ({ cls := "FifthCardModel", name := "wordOf", desc := "(Ljava/lang/String;)J" } : Jvm.MethodName) prog_23_method_14_code (4 : Nat) (Option.some Jvm.ClassFile.FieldType.long)) ∈ lw_all := lw_g (lw_at lw_m7 138 rfl) rfl
theorem q1700 : (Jvm.Cond.methodLink "FifthCardModel" (106 : Nat) ({ cls := "java/lang/String", name := "length", desc := "()I" } : Jvm.MethodName)) ∈ lw_all := lw_g (lw_at lw_m7 139 rfl) rfl
theorem q1708 : (Jvm.Cond.methodLink "FifthCardModel" (114 : Nat) ({ cls := "java/lang/String", name := "charAt", desc := "(I)C" } : Jvm.MethodName)) ∈ lw_all := lw_g (lw_at lw_m7 147 rfl) rfl
theorem q1728 : (Jvm.Cond.methodLink "FifthCardModel" (204 : Nat) ({ cls := "FifthCardModel", name := "readTrick", desc := "()V" } : Jvm.MethodName)) ∈ lw_all := lw_g (lw_at lw_m7 167 rfl) rfl
theorem q1729 : (Jvm.Cond.privateMethod ({ cls := "FifthCardModel", name := "readTrick", desc := "()V" } : Jvm.MethodName)) ∈ lw_tbl := lw_at lw_m7 168 rfl
theorem q1730 : (Jvm.Cond.instanceMethod ({ cls := "FifthCardModel", name := "readTrick", desc := "()V" } : Jvm.MethodName)) ∈ lw_all := lw_g (lw_at lw_m7 169 rfl) rfl
theorem q1731 : (Jvm.Cond.code ({ cls := "FifthCardModel", name := "readTrick", desc := "()V" } : Jvm.MethodName) prog_23_method_28_code (5 : Nat) (Option.none : Option Jvm.ClassFile.FieldType)) ∈ lw_all := lw_g (lw_at lw_m7 170 rfl) rfl
theorem q1732 : (Jvm.Cond.methodLink "FifthCardModel" (164 : Nat) ({ cls := "FifthCardModel", name := "flaw", desc := "(I)V" } : Jvm.MethodName)) ∈ lw_all := lw_g (lw_at lw_m7 171 rfl) rfl
theorem q1733 : (Jvm.Cond.privateMethod ({ cls := "FifthCardModel", name := "flaw", desc := "(I)V" } : Jvm.MethodName)) ∈ lw_tbl := lw_at lw_m7 172 rfl
theorem q1734 : (Jvm.Cond.instanceMethod ({ cls := "FifthCardModel", name := "flaw", desc := "(I)V" } : Jvm.MethodName)) ∈ lw_all := lw_g (lw_at lw_m7 173 rfl) rfl
theorem q1735 : (Jvm.Cond.code ({ cls := "FifthCardModel", name := "flaw", desc := "(I)V" } : Jvm.MethodName) prog_23_method_16_code (2 : Nat) (Option.none : Option Jvm.ClassFile.FieldType)) ∈ lw_all := lw_g (lw_at lw_m7 174 rfl) rfl
theorem q1736 : (Jvm.Cond.stringRef "FifthCardModel" (213 : Nat) "cards") ∈ lw_tbl := lw_at lw_m7 175 rfl
theorem q1737 : (Jvm.Cond.methodLink "FifthCardModel" (214 : Nat) ({ cls := "FifthCardModel", name := "readPart", desc := "(Ljava/lang/String;II)I" } : Jvm.MethodName)) ∈ lw_all := lw_g (lw_at lw_m7 176 rfl) rfl
theorem q1738 : (Jvm.Cond.privateMethod ({ cls := "FifthCardModel", name := "readPart", desc := "(Ljava/lang/String;II)I" } : Jvm.MethodName)) ∈ lw_tbl := lw_at lw_m7 177 rfl
theorem q1739 : (Jvm.Cond.instanceMethod ({ cls := "FifthCardModel", name := "readPart", desc := "(Ljava/lang/String;II)I" } : Jvm.MethodName)) ∈ lw_all := lw_g (lw_at lw_m7 178 rfl) rfl
theorem q1740 : (Jvm.Cond.code ({ cls := "FifthCardModel", name := "readPart", desc := "(Ljava/lang/String;II)I" } : Jvm.MethodName) prog_23_method_23_code (5 : Nat) (Option.some Jvm.ClassFile.FieldType.int)) ∈ lw_all := lw_g (lw_at lw_m7 179 rfl) rfl
theorem q1741 : (Jvm.Cond.methodLink "FifthCardModel" (172 : Nat) ({ cls := "FifthCardModel", name := "needs", desc := "(Ljava/lang/String;)V" } : Jvm.MethodName)) ∈ lw_all := lw_g (lw_at lw_m7 180 rfl) rfl
theorem q1742 : (Jvm.Cond.privateMethod ({ cls := "FifthCardModel", name := "needs", desc := "(Ljava/lang/String;)V" } : Jvm.MethodName)) ∈ lw_tbl := lw_at lw_m7 181 rfl
theorem q1743 : (Jvm.Cond.instanceMethod ({ cls := "FifthCardModel", name := "needs", desc := "(Ljava/lang/String;)V" } : Jvm.MethodName)) ∈ lw_all := lw_g (lw_at lw_m7 182 rfl) rfl
theorem q1744 : (Jvm.Cond.code ({ cls := "FifthCardModel", name := "needs", desc := "(Ljava/lang/String;)V" } : Jvm.MethodName) prog_23_method_20_code (2 : Nat) (Option.none : Option Jvm.ClassFile.FieldType)) ∈ lw_all := lw_g (lw_at lw_m7 183 rfl) rfl
theorem q1745 : (Jvm.Cond.methodLink "FifthCardModel" (176 : Nat) ({ cls := "FifthCardModel", name := "bounded", desc := "(II)I" } : Jvm.MethodName)) ∈ lw_all := lw_g (lw_at lw_m7 184 rfl) rfl
theorem q1746 : (Jvm.Cond.privateMethod ({ cls := "FifthCardModel", name := "bounded", desc := "(II)I" } : Jvm.MethodName)) ∈ lw_tbl := lw_at lw_m7 185 rfl
theorem q1747 : (Jvm.Cond.instanceMethod ({ cls := "FifthCardModel", name := "bounded", desc := "(II)I" } : Jvm.MethodName)) ∈ lw_all := lw_g (lw_at lw_m7 186 rfl) rfl
theorem q1748 : (Jvm.Cond.code ({ cls := "FifthCardModel", name := "bounded", desc := "(II)I" } : Jvm.MethodName) prog_23_method_22_code (3 : Nat) (Option.some Jvm.ClassFile.FieldType.int)) ∈ lw_all := lw_g (lw_at lw_m7 187 rfl) rfl
theorem q1749 : (Jvm.Cond.methodLink "FifthCardModel" (168 : Nat) ({ cls := "FifthCardModel", name := "in", desc := "(III)Z" } : Jvm.MethodName)) ∈ lw_all := lw_g (lw_at lw_m7 188 rfl) rfl
theorem q1750 : (Jvm.Cond.static ({ cls := "FifthCardModel", name := "in", desc := "(III)Z" } : Jvm.MethodName)) ∈ lw_all := lw_g (lw_at lw_m7 189 rfl) rfl
theorem q1751 : (Jvm.Cond.code ({ cls := "FifthCardModel", name := "in", desc := "(III)Z" } : Jvm.MethodName) prog_23_method_7_code (3 : Nat) (Option.some Jvm.ClassFile.FieldType.boolean)) ∈ lw_all := lw_g (lw_at lw_m7 190 rfl) rfl
theorem q1752 : (Jvm.Cond.stringRef "FifthCardModel" (218 : Nat) "suits") ∈ lw_tbl := lw_at lw_m7 191 rfl
theorem q1753 : (Jvm.Cond.stringRef "FifthCardModel" (220 : Nat) "hand") ∈ lw_tbl := lw_at lw_m7 192 rfl
theorem q1754 : (Jvm.Cond.stringRef "FifthCardModel" (222 : Nat) "kept") ∈ lw_tbl := lw_at lw_m7 193 rfl
theorem q1755 : (Jvm.Cond.stringRef "FifthCardModel" (224 : Nat) "she") ∈ lw_tbl := lw_at lw_m7 194 rfl
theorem q1756 : (Jvm.Cond.stringRef "FifthCardModel" (226 : Nat) "stranger") ∈ lw_tbl := lw_at lw_m7 195 rfl
theorem q1757 : (Jvm.Cond.methodLink "FifthCardModel" (234 : Nat) ({ cls := "FifthCardModel$Trick", name := "handsOf", desc := "(I)J" } : Jvm.MethodName)) ∈ lw_all := lw_g (lw_at lw_m7 196 rfl) rfl
theorem q1762 : (Jvm.Cond.static ({ cls := "FifthCardModel", name := "rowsOf", desc := "(II)J" } : Jvm.MethodName)) ∈ lw_all := lw_g (lw_at lw_m7 201 rfl) rfl
theorem q1763 : (Jvm.Cond.code ({ cls := "FifthCardModel", name := "rowsOf", desc := "(II)J" } : Jvm.MethodName) prog_23_method_9_code (5 : Nat) (Option.some Jvm.ClassFile.FieldType.long)) ∈ lw_all := lw_g (lw_at lw_m7 202 rfl) rfl
theorem q1765 : (Jvm.Cond.static ({ cls := "FifthCardModel", name := "setsOf", desc := "(II)J" } : Jvm.MethodName)) ∈ lw_all := lw_g (lw_at lw_m7 204 rfl) rfl
theorem q1766 : (Jvm.Cond.code ({ cls := "FifthCardModel", name := "setsOf", desc := "(II)J" } : Jvm.MethodName) prog_23_method_10_code (2 : Nat) (Option.some Jvm.ClassFile.FieldType.long)) ∈ lw_all := lw_g (lw_at lw_m7 205 rfl) rfl
theorem q1767 : (Jvm.Cond.methodLink "FifthCardModel" (99 : Nat) ({ cls := "FifthCardModel", name := "rowsOf", desc := "(II)J" } : Jvm.MethodName)) ∈ lw_all := lw_g (lw_at lw_m7 206 rfl) rfl
theorem q1768 : (Jvm.Cond.constantLong "FifthCardModel" (238 : Nat) (2000 : Int64)) ∈ lw_all := lw_g (lw_at lw_m7 207 rfl) rfl
theorem q1769 : (Jvm.Cond.stringRef "FifthCardModel" (240 : Nat) "held") ∈ lw_tbl := lw_at lw_m7 208 rfl
theorem q1770 : (Jvm.Cond.methodLink "FifthCardModel" (242 : Nat) ({ cls := "FifthCardModel", name := "eatsWord", desc := "(Ljava/lang/String;)Z" } : Jvm.MethodName)) ∈ lw_all := lw_g (lw_at lw_m7 209 rfl) rfl
theorem q1771 : (Jvm.Cond.privateMethod ({ cls := "FifthCardModel", name := "eatsWord", desc := "(Ljava/lang/String;)Z" } : Jvm.MethodName)) ∈ lw_tbl := lw_at lw_m7 210 rfl
theorem q1772 : (Jvm.Cond.instanceMethod ({ cls := "FifthCardModel", name := "eatsWord", desc := "(Ljava/lang/String;)Z" } : Jvm.MethodName)) ∈ lw_all := lw_g (lw_at lw_m7 211 rfl) rfl
theorem q1773 : (Jvm.Cond.code ({ cls := "FifthCardModel", name := "eatsWord", desc := "(Ljava/lang/String;)Z" } : Jvm.MethodName) prog_23_method_18_code (3 : Nat) (Option.some Jvm.ClassFile.FieldType.boolean)) ∈ lw_all := lw_g (lw_at lw_m7 212 rfl) rfl
theorem q1774 : (Jvm.Cond.stringRef "FifthCardModel" (248 : Nat) "tilts") ∈ lw_tbl := lw_at lw_m7 213 rfl
theorem q1775 : (Jvm.Cond.stringRef "FifthCardModel" (182 : Nat) "rule") ∈ lw_tbl := lw_at lw_m7 214 rfl
theorem q1776 : (Jvm.Cond.methodLink "FifthCardModel" (207 : Nat) ({ cls := "FifthCardModel", name := "readRule", desc := "()V" } : Jvm.MethodName)) ∈ lw_all := lw_g (lw_at lw_m7 215 rfl) rfl
theorem q1777 : (Jvm.Cond.privateMethod ({ cls := "FifthCardModel", name := "readRule", desc := "()V" } : Jvm.MethodName)) ∈ lw_tbl := lw_at lw_m7 216 rfl
theorem q1778 : (Jvm.Cond.instanceMethod ({ cls := "FifthCardModel", name := "readRule", desc := "()V" } : Jvm.MethodName)) ∈ lw_all := lw_g (lw_at lw_m7 217 rfl) rfl
theorem q1779 : (Jvm.Cond.code ({ cls := "FifthCardModel", name := "readRule", desc := "()V" } : Jvm.MethodName) prog_23_method_29_code (4 : Nat) (Option.none : Option Jvm.ClassFile.FieldType)) ∈ lw_all := lw_g (lw_at lw_m7 218 rfl) rfl
theorem q1780 : (Jvm.Cond.methodLink "FifthCardModel" (262 : Nat) ({ cls := "FifthCardModel", name := "begins", desc := "(II)V" } : Jvm.MethodName)) ∈ lw_all := lw_g (lw_at lw_m7 219 rfl) rfl
theorem q1781 : (Jvm.Cond.privateMethod ({ cls := "FifthCardModel", name := "begins", desc := "(II)V" } : Jvm.MethodName)) ∈ lw_tbl := lw_at lw_m7 220 rfl
theorem q1782 : (Jvm.Cond.instanceMethod ({ cls := "FifthCardModel", name := "begins", desc := "(II)V" } : Jvm.MethodName)) ∈ lw_all := lw_g (lw_at lw_m7 221 rfl) rfl
theorem q1783 : (Jvm.Cond.code ({ cls := "FifthCardModel", name := "begins", desc := "(II)V" } : Jvm.MethodName) prog_23_method_25_code (3 : Nat) (Option.none : Option Jvm.ClassFile.FieldType)) ∈ lw_all := lw_g (lw_at lw_m7 222 rfl) rfl
theorem q1784 : (Jvm.Cond.methodLink "FifthCardModel" (266 : Nat) ({ cls := "FifthCardModel", name := "isName", desc := "()Z" } : Jvm.MethodName)) ∈ lw_all := lw_g (lw_at lw_m7 223 rfl) rfl
theorem q1785 : (Jvm.Cond.privateMethod ({ cls := "FifthCardModel", name := "isName", desc := "()Z" } : Jvm.MethodName)) ∈ lw_tbl := lw_at lw_m7 224 rfl
theorem q1786 : (Jvm.Cond.instanceMethod ({ cls := "FifthCardModel", name := "isName", desc := "()Z" } : Jvm.MethodName)) ∈ lw_all := lw_g (lw_at lw_m7 225 rfl) rfl
theorem q1787 : (Jvm.Cond.code ({ cls := "FifthCardModel", name := "isName", desc := "()Z" } : Jvm.MethodName) prog_23_method_24_code (1 : Nat) (Option.some Jvm.ClassFile.FieldType.boolean)) ∈ lw_all := lw_g (lw_at lw_m7 226 rfl) rfl
theorem q1788 : (Jvm.Cond.stringRef "FifthCardModel" (184 : Nat) "evening") ∈ lw_tbl := lw_at lw_m7 227 rfl
theorem q1789 : (Jvm.Cond.stringRef "FifthCardModel" (186 : Nat) "shows") ∈ lw_tbl := lw_at lw_m7 228 rfl
theorem q1790 : (Jvm.Cond.stringRef "FifthCardModel" (188 : Nat) "tilted") ∈ lw_tbl := lw_at lw_m7 229 rfl
theorem q1791 : (Jvm.Cond.stringRef "FifthCardModel" (274 : Nat) "suit") ∈ lw_tbl := lw_at lw_m7 230 rfl
theorem q1792 : (Jvm.Cond.stringRef "FifthCardModel" (276 : Nat) "table") ∈ lw_tbl := lw_at lw_m7 231 rfl
theorem q1793 : (Jvm.Cond.stringRef "FifthCardModel" (278 : Nat) "keeps") ∈ lw_tbl := lw_at lw_m7 232 rfl
theorem q1794 : (Jvm.Cond.methodLink "FifthCardModel" (280 : Nat) ({ cls := "FifthCardModel", name := "readWords", desc := "()I" } : Jvm.MethodName)) ∈ lw_all := lw_g (lw_at lw_m7 233 rfl) rfl
theorem q1795 : (Jvm.Cond.privateMethod ({ cls := "FifthCardModel", name := "readWords", desc := "()I" } : Jvm.MethodName)) ∈ lw_tbl := lw_at lw_m7 234 rfl
theorem q1796 : (Jvm.Cond.instanceMethod ({ cls := "FifthCardModel", name := "readWords", desc := "()I" } : Jvm.MethodName)) ∈ lw_all := lw_g (lw_at lw_m7 235 rfl) rfl
theorem q1797 : (Jvm.Cond.code ({ cls := "FifthCardModel", name := "readWords", desc := "()I" } : Jvm.MethodName) prog_23_method_30_code (3 : Nat) (Option.some Jvm.ClassFile.FieldType.int)) ∈ lw_all := lw_g (lw_at lw_m7 236 rfl) rfl
theorem q1798 : (Jvm.Cond.stringRef "FifthCardModel" (285 : Nat) "low") ∈ lw_tbl := lw_at lw_m7 237 rfl
theorem q1799 : (Jvm.Cond.stringRef "FifthCardModel" (287 : Nat) "high") ∈ lw_tbl := lw_at lw_m7 238 rfl
theorem q1800 : (Jvm.Cond.stringRef "FifthCardModel" (289 : Nat) "mid") ∈ lw_tbl := lw_at lw_m7 239 rfl
theorem q1801 : (Jvm.Cond.stringRef "FifthCardModel" (291 : Nat) "sum") ∈ lw_tbl := lw_at lw_m8 0 rfl
theorem q1802 : (Jvm.Cond.stringRef "FifthCardModel" (293 : Nat) "tells") ∈ lw_tbl := lw_at lw_m8 1 rfl
theorem q1803 : (Jvm.Cond.stringRef "FifthCardModel" (295 : Nat) "place") ∈ lw_tbl := lw_at lw_m8 2 rfl
theorem q1804 : (Jvm.Cond.stringRef "FifthCardModel" (296 : Nat) "rank") ∈ lw_tbl := lw_at lw_m8 3 rfl
theorem q1805 : (Jvm.Cond.stringRef "FifthCardModel" (298 : Nat) "gap") ∈ lw_tbl := lw_at lw_m8 4 rfl
theorem q1806 : (Jvm.Cond.stringRef "FifthCardModel" (300 : Nat) "ring") ∈ lw_tbl := lw_at lw_m8 5 rfl
theorem q1807 : (Jvm.Cond.methodLink "FifthCardModel" (210 : Nat) ({ cls := "FifthCardModel", name := "readEvening", desc := "()V" } : Jvm.MethodName)) ∈ lw_all := lw_g (lw_at lw_m8 6 rfl) rfl
theorem q1808 : (Jvm.Cond.privateMethod ({ cls := "FifthCardModel", name := "readEvening", desc := "()V" } : Jvm.MethodName)) ∈ lw_tbl := lw_at lw_m8 7 rfl
theorem q1809 : (Jvm.Cond.instanceMethod ({ cls := "FifthCardModel", name := "readEvening", desc := "()V" } : Jvm.MethodName)) ∈ lw_all := lw_g (lw_at lw_m8 8 rfl) rfl
theorem q1810 : (Jvm.Cond.code ({ cls := "FifthCardModel", name := "readEvening", desc := "()V" } : Jvm.MethodName) prog_23_method_32_code (3 : Nat) (Option.none : Option Jvm.ClassFile.FieldType)) ∈ lw_all := lw_g (lw_at lw_m8 9 rfl) rfl
theorem q1811 : (Jvm.Cond.methodLink "FifthCardModel" (311 : Nat) ({ cls := "FifthCardModel", name := "readUnlike", desc := "([IIII)V" } : Jvm.MethodName)) ∈ lw_all := lw_g (lw_at lw_m8 10 rfl) rfl
theorem q1812 : (Jvm.Cond.privateMethod ({ cls := "FifthCardModel", name := "readUnlike", desc := "([IIII)V" } : Jvm.MethodName)) ∈ lw_tbl := lw_at lw_m8 11 rfl
theorem q1813 : (Jvm.Cond.instanceMethod ({ cls := "FifthCardModel", name := "readUnlike", desc := "([IIII)V" } : Jvm.MethodName)) ∈ lw_all := lw_g (lw_at lw_m8 12 rfl) rfl
theorem q1814 : (Jvm.Cond.code ({ cls := "FifthCardModel", name := "readUnlike", desc := "([IIII)V" } : Jvm.MethodName) prog_23_method_31_code (8 : Nat) (Option.none : Option Jvm.ClassFile.FieldType)) ∈ lw_all := lw_g (lw_at lw_m8 13 rfl) rfl
theorem q1815 : (Jvm.Cond.methodLink "FifthCardModel" (302 : Nat) ({ cls := "FifthCardModel", name := "needsSign", desc := "(I)V" } : Jvm.MethodName)) ∈ lw_all := lw_g (lw_at lw_m8 14 rfl) rfl
theorem q1816 : (Jvm.Cond.privateMethod ({ cls := "FifthCardModel", name := "needsSign", desc := "(I)V" } : Jvm.MethodName)) ∈ lw_tbl := lw_at lw_m8 15 rfl
theorem q1817 : (Jvm.Cond.instanceMethod ({ cls := "FifthCardModel", name := "needsSign", desc := "(I)V" } : Jvm.MethodName)) ∈ lw_all := lw_g (lw_at lw_m8 16 rfl) rfl
theorem q1818 : (Jvm.Cond.code ({ cls := "FifthCardModel", name := "needsSign", desc := "(I)V" } : Jvm.MethodName) prog_23_method_21_code (2 : Nat) (Option.none : Option Jvm.ClassFile.FieldType)) ∈ lw_all := lw_g (lw_at lw_m8 17 rfl) rfl
theorem q1819 : (Jvm.Cond.methodLink "FifthCardModel" (316 : Nat) ({ cls := "FifthCardModel", name := "readPlaces", desc := "()I" } : Jvm.MethodName)) ∈ lw_all := lw_g (lw_at lw_m8 18 rfl) rfl
theorem q1820 : (Jvm.Cond.privateMethod ({ cls := "FifthCardModel", name := "readPlaces", desc := "()I" } : Jvm.MethodName)) ∈ lw_tbl := lw_at lw_m8 19 rfl
theorem q1821 : (Jvm.Cond.instanceMethod ({ cls := "FifthCardModel", name := "readPlaces", desc := "()I" } : Jvm.MethodName)) ∈ lw_all := lw_g (lw_at lw_m8 20 rfl) rfl
theorem q1822 : (Jvm.Cond.code ({ cls := "FifthCardModel", name := "readPlaces", desc := "()I" } : Jvm.MethodName) prog_23_method_33_code (4 : Nat) (Option.some Jvm.ClassFile.FieldType.int)) ∈ lw_all := lw_g (lw_at lw_m8 21 rfl) rfl
theorem q1823 : (Jvm.Cond.methodLink "FifthCardModel" (201 : Nat) ({ cls := "FifthCardModel", name := "eatsSign", desc := "(I)Z" } : Jvm.MethodName)) ∈ lw_all := lw_g (lw_at lw_m8 22 rfl) rfl
theorem q1824 : (Jvm.Cond.privateMethod ({ cls := "FifthCardModel", name := "eatsSign", desc := "(I)Z" } : Jvm.MethodName)) ∈ lw_tbl := lw_at lw_m8 23 rfl
theorem q1825 : (Jvm.Cond.instanceMethod ({ cls := "FifthCardModel", name := "eatsSign", desc := "(I)Z" } : Jvm.MethodName)) ∈ lw_all := lw_g (lw_at lw_m8 24 rfl) rfl
theorem q1826 : (Jvm.Cond.code ({ cls := "FifthCardModel", name := "eatsSign", desc := "(I)Z" } : Jvm.MethodName) prog_23_method_19_code (3 : Nat) (Option.some Jvm.ClassFile.FieldType.boolean)) ∈ lw_all := lw_g (lw_at lw_m8 25 rfl) rfl
theorem q1827 : (Jvm.Cond.methodLink "FifthCardModel" (337 : Nat) ({ cls := "FifthCardModel", name := "deals", desc := "()V" } : Jvm.MethodName)) ∈ lw_all := lw_g (lw_at lw_m8 26 rfl) rfl
theorem q1828 : (Jvm.Cond.privateMethod ({ cls := "FifthCardModel", name := "deals", desc := "()V" } : Jvm.MethodName)) ∈ lw_tbl := lw_at lw_m8 27 rfl
theorem q1829 : (Jvm.Cond.instanceMethod ({ cls := "FifthCardModel", name := "deals", desc := "()V" } : Jvm.MethodName)) ∈ lw_all := lw_g (lw_at lw_m8 28 rfl) rfl
theorem q1830 : (Jvm.Cond.code ({ cls := "FifthCardModel", name := "deals", desc := "()V" } : Jvm.MethodName) prog_23_method_38_code (3 : Nat) (Option.none : Option Jvm.ClassFile.FieldType)) ∈ lw_all := lw_g (lw_at lw_m8 29 rfl) rfl
theorem q1831 : (Jvm.Cond.methodLink "FifthCardModel" (359 : Nat) ({ cls := "FifthCardModel", name := "next", desc := "(I)I" } : Jvm.MethodName)) ∈ lw_all := lw_g (lw_at lw_m8 30 rfl) rfl
theorem q1832 : (Jvm.Cond.privateMethod ({ cls := "FifthCardModel", name := "next", desc := "(I)I" } : Jvm.MethodName)) ∈ lw_tbl := lw_at lw_m8 31 rfl
theorem q1833 : (Jvm.Cond.instanceMethod ({ cls := "FifthCardModel", name := "next", desc := "(I)I" } : Jvm.MethodName)) ∈ lw_all := lw_g (lw_at lw_m8 32 rfl) rfl
theorem q1834 : (Jvm.Cond.code ({ cls := "FifthCardModel", name := "next", desc := "(I)I" } : Jvm.MethodName) prog_23_method_39_code (3 : Nat) (Option.some Jvm.ClassFile.FieldType.int)) ∈ lw_all := lw_g (lw_at lw_m8 33 rfl) rfl
theorem q1835 : (Jvm.Cond.methodLink "FifthCardModel" (362 : Nat) ({ cls := "FifthCardModel", name := "isPicked", desc := "(II)Z" } : Jvm.MethodName)) ∈ lw_all := lw_g (lw_at lw_m8 34 rfl) rfl
theorem q1836 : (Jvm.Cond.privateMethod ({ cls := "FifthCardModel", name := "isPicked", desc := "(II)Z" } : Jvm.MethodName)) ∈ lw_tbl := lw_at lw_m8 35 rfl
theorem q1837 : (Jvm.Cond.instanceMethod ({ cls := "FifthCardModel", name := "isPicked", desc := "(II)Z" } : Jvm.MethodName)) ∈ lw_all := lw_g (lw_at lw_m8 36 rfl) rfl
theorem q1838 : (Jvm.Cond.code ({ cls := "FifthCardModel", name := "isPicked", desc := "(II)Z" } : Jvm.MethodName) prog_23_method_40_code (4 : Nat) (Option.some Jvm.ClassFile.FieldType.boolean)) ∈ lw_all := lw_g (lw_at lw_m8 37 rfl) rfl
theorem q1839 : (Jvm.Cond.methodLink "FifthCardModel" (340 : Nat) ({ cls := "FifthCardModel", name := "laysCodes", desc := "()V" } : Jvm.MethodName)) ∈ lw_all := lw_g (lw_at lw_m8 38 rfl) rfl
theorem q1840 : (Jvm.Cond.privateMethod ({ cls := "FifthCardModel", name := "laysCodes", desc := "()V" } : Jvm.MethodName)) ∈ lw_tbl := lw_at lw_m8 39 rfl
theorem q1841 : (Jvm.Cond.instanceMethod ({ cls := "FifthCardModel", name := "laysCodes", desc := "()V" } : Jvm.MethodName)) ∈ lw_all := lw_g (lw_at lw_m8 40 rfl) rfl
theorem q1842 : (Jvm.Cond.code ({ cls := "FifthCardModel", name := "laysCodes", desc := "()V" } : Jvm.MethodName) prog_23_method_60_code (6 : Nat) (Option.none : Option Jvm.ClassFile.FieldType)) ∈ lw_all := lw_g (lw_at lw_m8 41 rfl) rfl
theorem q1843 : (Jvm.Cond.methodLink "FifthCardModel" (388 : Nat) ({ cls := "FifthCardModel", name := "isOneOrder", desc := "()Z" } : Jvm.MethodName)) ∈ lw_all := lw_g (lw_at lw_m8 42 rfl) rfl
theorem q1844 : (Jvm.Cond.privateMethod ({ cls := "FifthCardModel", name := "isOneOrder", desc := "()Z" } : Jvm.MethodName)) ∈ lw_tbl := lw_at lw_m8 43 rfl
theorem q1845 : (Jvm.Cond.instanceMethod ({ cls := "FifthCardModel", name := "isOneOrder", desc := "()Z" } : Jvm.MethodName)) ∈ lw_all := lw_g (lw_at lw_m8 44 rfl) rfl
theorem q1846 : (Jvm.Cond.code ({ cls := "FifthCardModel", name := "isOneOrder", desc := "()Z" } : Jvm.MethodName) prog_23_method_57_code (1 : Nat) (Option.some Jvm.ClassFile.FieldType.boolean)) ∈ lw_all := lw_g (lw_at lw_m8 45 rfl) rfl
theorem q1847 : (Jvm.Cond.methodLink "FifthCardModel" (347 : Nat) ({ cls := "FifthCardModel", name := "handNumber", desc := "([II)I" } : Jvm.MethodName)) ∈ lw_all := lw_g (lw_at lw_m8 46 rfl) rfl
theorem q1848 : (Jvm.Cond.privateMethod ({ cls := "FifthCardModel", name := "handNumber", desc := "([II)I" } : Jvm.MethodName)) ∈ lw_tbl := lw_at lw_m8 47 rfl
theorem q1849 : (Jvm.Cond.instanceMethod ({ cls := "FifthCardModel", name := "handNumber", desc := "([II)I" } : Jvm.MethodName)) ∈ lw_all := lw_g (lw_at lw_m8 48 rfl) rfl
theorem q1850 : (Jvm.Cond.code ({ cls := "FifthCardModel", name := "handNumber", desc := "([II)I" } : Jvm.MethodName) prog_23_method_43_code (6 : Nat) (Option.some Jvm.ClassFile.FieldType.int)) ∈ lw_all := lw_g (lw_at lw_m8 49 rfl) rfl
theorem q1851 : (Jvm.Cond.methodLink "FifthCardModel" (366 : Nat) ({ cls := "FifthCardModel", name := "cardOf", desc := "(II)I" } : Jvm.MethodName)) ∈ lw_all := lw_g (lw_at lw_m8 50 rfl) rfl
theorem q1852 : (Jvm.Cond.privateMethod ({ cls := "FifthCardModel", name := "cardOf", desc := "(II)I" } : Jvm.MethodName)) ∈ lw_tbl := lw_at lw_m8 51 rfl
theorem q1853 : (Jvm.Cond.instanceMethod ({ cls := "FifthCardModel", name := "cardOf", desc := "(II)I" } : Jvm.MethodName)) ∈ lw_all := lw_g (lw_at lw_m8 52 rfl) rfl
theorem q1854 : (Jvm.Cond.code ({ cls := "FifthCardModel", name := "cardOf", desc := "(II)I" } : Jvm.MethodName) prog_23_method_41_code (3 : Nat) (Option.some Jvm.ClassFile.FieldType.int)) ∈ lw_all := lw_g (lw_at lw_m8 53 rfl) rfl
theorem q1855 : (Jvm.Cond.methodLink "FifthCardModel" (369 : Nat) ({ cls := "FifthCardModel", name := "has", desc := "(II)Z" } : Jvm.MethodName)) ∈ lw_all := lw_g (lw_at lw_m8 54 rfl) rfl
theorem q1856 : (Jvm.Cond.privateMethod ({ cls := "FifthCardModel", name := "has", desc := "(II)Z" } : Jvm.MethodName)) ∈ lw_tbl := lw_at lw_m8 55 rfl
theorem q1857 : (Jvm.Cond.instanceMethod ({ cls := "FifthCardModel", name := "has", desc := "(II)Z" } : Jvm.MethodName)) ∈ lw_all := lw_g (lw_at lw_m8 56 rfl) rfl
theorem q1858 : (Jvm.Cond.code ({ cls := "FifthCardModel", name := "has", desc := "(II)Z" } : Jvm.MethodName) prog_23_method_42_code (4 : Nat) (Option.some Jvm.ClassFile.FieldType.boolean)) ∈ lw_all := lw_g (lw_at lw_m8 57 rfl) rfl
theorem q1859 : (Jvm.Cond.methodLink "FifthCardModel" (351 : Nat) ({ cls := "FifthCardModel", name := "rowNumber", desc := "([II)I" } : Jvm.MethodName)) ∈ lw_all := lw_g (lw_at lw_m8 58 rfl) rfl
theorem q1860 : (Jvm.Cond.privateMethod ({ cls := "FifthCardModel", name := "rowNumber", desc := "([II)I" } : Jvm.MethodName)) ∈ lw_tbl := lw_at lw_m8 59 rfl
theorem q1861 : (Jvm.Cond.instanceMethod ({ cls := "FifthCardModel", name := "rowNumber", desc := "([II)I" } : Jvm.MethodName)) ∈ lw_all := lw_g (lw_at lw_m8 60 rfl) rfl
theorem q1862 : (Jvm.Cond.code ({ cls := "FifthCardModel", name := "rowNumber", desc := "([II)I" } : Jvm.MethodName) prog_23_method_44_code (7 : Nat) (Option.some Jvm.ClassFile.FieldType.int)) ∈ lw_all := lw_g (lw_at lw_m8 61 rfl) rfl
theorem q1863 : (Jvm.Cond.methodLink "FifthCardModel" (354 : Nat) ({ cls := "FifthCardModel$Trick", name := "tilts", desc := "()I" } : Jvm.MethodName)) ∈ lw_all := lw_g (lw_at lw_m8 62 rfl) rfl
theorem q1867 : (Jvm.Cond.methodLink "FifthCardModel" (96 : Nat) ({ cls := "FifthCardModel", name := "good", desc := "(I)I" } : Jvm.MethodName)) ∈ lw_all := lw_g (lw_at lw_m8 66 rfl) rfl
theorem q1868 : (Jvm.Cond.privateMethod ({ cls := "FifthCardModel", name := "good", desc := "(I)I" } : Jvm.MethodName)) ∈ lw_tbl := lw_at lw_m8 67 rfl
theorem q1869 : (Jvm.Cond.instanceMethod ({ cls := "FifthCardModel", name := "good", desc := "(I)I" } : Jvm.MethodName)) ∈ lw_all := lw_g (lw_at lw_m8 68 rfl) rfl
theorem q1870 : (Jvm.Cond.code ({ cls := "FifthCardModel", name := "good", desc := "(I)I" } : Jvm.MethodName) prog_23_method_5_code (2 : Nat) (Option.some Jvm.ClassFile.FieldType.int)) ∈ lw_all := lw_g (lw_at lw_m8 69 rfl) rfl
theorem q1872 : (Jvm.Cond.instanceMethod ({ cls := "FifthCardModel", name := "fault", desc := "()I" } : Jvm.MethodName)) ∈ lw_all := lw_g (lw_at lw_m8 71 rfl) rfl
theorem q1873 : (Jvm.Cond.selects "FifthCardModel" ({ cls := "FifthCardModel", name := "fault", desc := "()I" } : Jvm.MethodName) ({ cls := "FifthCardModel", name := "fault", desc := "()I" } : Jvm.MethodName)) ∈ lw_all := lw_g (lw_at lw_m8 72 rfl) rfl
theorem q1874 : (Jvm.Cond.code ({ cls := "FifthCardModel", name := "fault", desc := "()I" } : Jvm.MethodName) prog_23_method_36_code (1 : Nat) (Option.some Jvm.ClassFile.FieldType.int)) ∈ lw_all := lw_g (lw_at lw_m8 73 rfl) rfl
theorem q1876 : (Jvm.Cond.instanceMethod ({ cls := "FifthCardModel", name := "where", desc := "()I" } : Jvm.MethodName)) ∈ lw_all := lw_g (lw_at lw_m8 75 rfl) rfl
theorem q1877 : (Jvm.Cond.selects "FifthCardModel" ({ cls := "FifthCardModel", name := "where", desc := "()I" } : Jvm.MethodName) ({ cls := "FifthCardModel", name := "where", desc := "()I" } : Jvm.MethodName)) ∈ lw_all := lw_g (lw_at lw_m8 76 rfl) rfl
theorem q1878 : (Jvm.Cond.code ({ cls := "FifthCardModel", name := "where", desc := "()I" } : Jvm.MethodName) prog_23_method_37_code (1 : Nat) (Option.some Jvm.ClassFile.FieldType.int)) ∈ lw_all := lw_g (lw_at lw_m8 77 rfl) rfl
theorem q1880 : (Jvm.Cond.instanceMethod ({ cls := "FifthCardModel", name := "hands", desc := "()I" } : Jvm.MethodName)) ∈ lw_all := lw_g (lw_at lw_m8 79 rfl) rfl
theorem q1881 : (Jvm.Cond.selects "FifthCardModel" ({ cls := "FifthCardModel", name := "hands", desc := "()I" } : Jvm.MethodName) ({ cls := "FifthCardModel", name := "hands", desc := "()I" } : Jvm.MethodName)) ∈ lw_all := lw_g (lw_at lw_m8 80 rfl) rfl
theorem q1882 : (Jvm.Cond.code ({ cls := "FifthCardModel", name := "hands", desc := "()I" } : Jvm.MethodName) prog_23_method_49_code (1 : Nat) (Option.some Jvm.ClassFile.FieldType.int)) ∈ lw_all := lw_g (lw_at lw_m8 81 rfl) rfl
theorem q1884 : (Jvm.Cond.instanceMethod ({ cls := "FifthCardModel", name := "rows", desc := "()I" } : Jvm.MethodName)) ∈ lw_all := lw_g (lw_at lw_m8 83 rfl) rfl
theorem q1885 : (Jvm.Cond.selects "FifthCardModel" ({ cls := "FifthCardModel", name := "rows", desc := "()I" } : Jvm.MethodName) ({ cls := "FifthCardModel", name := "rows", desc := "()I" } : Jvm.MethodName)) ∈ lw_all := lw_g (lw_at lw_m8 84 rfl) rfl
theorem q1886 : (Jvm.Cond.code ({ cls := "FifthCardModel", name := "rows", desc := "()I" } : Jvm.MethodName) prog_23_method_50_code (1 : Nat) (Option.some Jvm.ClassFile.FieldType.int)) ∈ lw_all := lw_g (lw_at lw_m8 85 rfl) rfl
theorem q1887 : (Jvm.Cond.methodLink "FifthCardModel" (372 : Nat) ({ cls := "FifthCardModel", name := "rowMany", desc := "()I" } : Jvm.MethodName)) ∈ lw_all := lw_g (lw_at lw_m8 86 rfl) rfl
theorem q1888 : (Jvm.Cond.privateMethod ({ cls := "FifthCardModel", name := "rowMany", desc := "()I" } : Jvm.MethodName)) ∈ lw_tbl := lw_at lw_m8 87 rfl
theorem q1889 : (Jvm.Cond.instanceMethod ({ cls := "FifthCardModel", name := "rowMany", desc := "()I" } : Jvm.MethodName)) ∈ lw_all := lw_g (lw_at lw_m8 88 rfl) rfl
theorem q1890 : (Jvm.Cond.code ({ cls := "FifthCardModel", name := "rowMany", desc := "()I" } : Jvm.MethodName) prog_23_method_46_code (1 : Nat) (Option.some Jvm.ClassFile.FieldType.int)) ∈ lw_all := lw_g (lw_at lw_m8 89 rfl) rfl
theorem q1892 : (Jvm.Cond.instanceMethod ({ cls := "FifthCardModel", name := "hand", desc := "(II)I" } : Jvm.MethodName)) ∈ lw_all := lw_g (lw_at lw_m8 91 rfl) rfl
theorem q1893 : (Jvm.Cond.selects "FifthCardModel" ({ cls := "FifthCardModel", name := "hand", desc := "(II)I" } : Jvm.MethodName) ({ cls := "FifthCardModel", name := "hand", desc := "(II)I" } : Jvm.MethodName)) ∈ lw_all := lw_g (lw_at lw_m8 92 rfl) rfl
theorem q1894 : (Jvm.Cond.code ({ cls := "FifthCardModel", name := "hand", desc := "(II)I" } : Jvm.MethodName) prog_23_method_51_code (3 : Nat) (Option.some Jvm.ClassFile.FieldType.int)) ∈ lw_all := lw_g (lw_at lw_m8 93 rfl) rfl
theorem q1895 : (Jvm.Cond.methodLink "FifthCardModel" (375 : Nat) ({ cls := "FifthCardModel", name := "isHand", desc := "(I)Z" } : Jvm.MethodName)) ∈ lw_all := lw_g (lw_at lw_m8 94 rfl) rfl
theorem q1896 : (Jvm.Cond.privateMethod ({ cls := "FifthCardModel", name := "isHand", desc := "(I)Z" } : Jvm.MethodName)) ∈ lw_tbl := lw_at lw_m8 95 rfl
theorem q1897 : (Jvm.Cond.instanceMethod ({ cls := "FifthCardModel", name := "isHand", desc := "(I)Z" } : Jvm.MethodName)) ∈ lw_all := lw_g (lw_at lw_m8 96 rfl) rfl
theorem q1898 : (Jvm.Cond.code ({ cls := "FifthCardModel", name := "isHand", desc := "(I)Z" } : Jvm.MethodName) prog_23_method_47_code (2 : Nat) (Option.some Jvm.ClassFile.FieldType.boolean)) ∈ lw_all := lw_g (lw_at lw_m8 97 rfl) rfl
theorem q1900 : (Jvm.Cond.instanceMethod ({ cls := "FifthCardModel", name := "handOf", desc := "(IIIII)I" } : Jvm.MethodName)) ∈ lw_all := lw_g (lw_at lw_m8 99 rfl) rfl
theorem q1901 : (Jvm.Cond.selects "FifthCardModel" ({ cls := "FifthCardModel", name := "handOf", desc := "(IIIII)I" } : Jvm.MethodName) ({ cls := "FifthCardModel", name := "handOf", desc := "(IIIII)I" } : Jvm.MethodName)) ∈ lw_all := lw_g (lw_at lw_m8 100 rfl) rfl
theorem q1902 : (Jvm.Cond.code ({ cls := "FifthCardModel", name := "handOf", desc := "(IIIII)I" } : Jvm.MethodName) prog_23_method_52_code (9 : Nat) (Option.some Jvm.ClassFile.FieldType.int)) ∈ lw_all := lw_g (lw_at lw_m8 101 rfl) rfl
theorem q1904 : (Jvm.Cond.instanceMethod ({ cls := "FifthCardModel", name := "row", desc := "(II)I" } : Jvm.MethodName)) ∈ lw_all := lw_g (lw_at lw_m8 103 rfl) rfl
theorem q1905 : (Jvm.Cond.selects "FifthCardModel" ({ cls := "FifthCardModel", name := "row", desc := "(II)I" } : Jvm.MethodName) ({ cls := "FifthCardModel", name := "row", desc := "(II)I" } : Jvm.MethodName)) ∈ lw_all := lw_g (lw_at lw_m8 104 rfl) rfl
theorem q1906 : (Jvm.Cond.code ({ cls := "FifthCardModel", name := "row", desc := "(II)I" } : Jvm.MethodName) prog_23_method_53_code (3 : Nat) (Option.some Jvm.ClassFile.FieldType.int)) ∈ lw_all := lw_g (lw_at lw_m8 105 rfl) rfl
theorem q1907 : (Jvm.Cond.methodLink "FifthCardModel" (378 : Nat) ({ cls := "FifthCardModel", name := "isRow", desc := "(I)Z" } : Jvm.MethodName)) ∈ lw_all := lw_g (lw_at lw_m8 106 rfl) rfl
theorem q1908 : (Jvm.Cond.privateMethod ({ cls := "FifthCardModel", name := "isRow", desc := "(I)Z" } : Jvm.MethodName)) ∈ lw_tbl := lw_at lw_m8 107 rfl
theorem q1909 : (Jvm.Cond.instanceMethod ({ cls := "FifthCardModel", name := "isRow", desc := "(I)Z" } : Jvm.MethodName)) ∈ lw_all := lw_g (lw_at lw_m8 108 rfl) rfl
theorem q1910 : (Jvm.Cond.code ({ cls := "FifthCardModel", name := "isRow", desc := "(I)Z" } : Jvm.MethodName) prog_23_method_48_code (2 : Nat) (Option.some Jvm.ClassFile.FieldType.boolean)) ∈ lw_all := lw_g (lw_at lw_m8 109 rfl) rfl
theorem q1911 : (Jvm.Cond.methodLink "FifthCardModel" (381 : Nat) ({ cls := "FifthCardModel", name := "rowCards", desc := "(I[I)V" } : Jvm.MethodName)) ∈ lw_all := lw_g (lw_at lw_m8 110 rfl) rfl
theorem q1912 : (Jvm.Cond.privateMethod ({ cls := "FifthCardModel", name := "rowCards", desc := "(I[I)V" } : Jvm.MethodName)) ∈ lw_tbl := lw_at lw_m8 111 rfl
theorem q1913 : (Jvm.Cond.instanceMethod ({ cls := "FifthCardModel", name := "rowCards", desc := "(I[I)V" } : Jvm.MethodName)) ∈ lw_all := lw_g (lw_at lw_m8 112 rfl) rfl
theorem q1914 : (Jvm.Cond.code ({ cls := "FifthCardModel", name := "rowCards", desc := "(I[I)V" } : Jvm.MethodName) prog_23_method_45_code (9 : Nat) (Option.none : Option Jvm.ClassFile.FieldType)) ∈ lw_all := lw_g (lw_at lw_m8 113 rfl) rfl
theorem q1916 : (Jvm.Cond.instanceMethod ({ cls := "FifthCardModel", name := "tilted", desc := "(I)I" } : Jvm.MethodName)) ∈ lw_all := lw_g (lw_at lw_m8 115 rfl) rfl
theorem q1917 : (Jvm.Cond.selects "FifthCardModel" ({ cls := "FifthCardModel", name := "tilted", desc := "(I)I" } : Jvm.MethodName) ({ cls := "FifthCardModel", name := "tilted", desc := "(I)I" } : Jvm.MethodName)) ∈ lw_all := lw_g (lw_at lw_m8 116 rfl) rfl
theorem q1918 : (Jvm.Cond.code ({ cls := "FifthCardModel", name := "tilted", desc := "(I)I" } : Jvm.MethodName) prog_23_method_54_code (2 : Nat) (Option.some Jvm.ClassFile.FieldType.int)) ∈ lw_all := lw_g (lw_at lw_m8 117 rfl) rfl
theorem q1920 : (Jvm.Cond.instanceMethod ({ cls := "FifthCardModel", name := "fits", desc := "(II)I" } : Jvm.MethodName)) ∈ lw_all := lw_g (lw_at lw_m8 119 rfl) rfl
theorem q1921 : (Jvm.Cond.selects "FifthCardModel" ({ cls := "FifthCardModel", name := "fits", desc := "(II)I" } : Jvm.MethodName) ({ cls := "FifthCardModel", name := "fits", desc := "(II)I" } : Jvm.MethodName)) ∈ lw_all := lw_g (lw_at lw_m8 120 rfl) rfl
theorem q1922 : (Jvm.Cond.code ({ cls := "FifthCardModel", name := "fits", desc := "(II)I" } : Jvm.MethodName) prog_23_method_56_code (3 : Nat) (Option.some Jvm.ClassFile.FieldType.int)) ∈ lw_all := lw_g (lw_at lw_m8 121 rfl) rfl
theorem q1923 : (Jvm.Cond.methodLink "FifthCardModel" (385 : Nat) ({ cls := "FifthCardModel", name := "rowFits", desc := "(II)Z" } : Jvm.MethodName)) ∈ lw_all := lw_g (lw_at lw_m8 122 rfl) rfl
theorem q1924 : (Jvm.Cond.privateMethod ({ cls := "FifthCardModel", name := "rowFits", desc := "(II)Z" } : Jvm.MethodName)) ∈ lw_tbl := lw_at lw_m8 123 rfl
theorem q1925 : (Jvm.Cond.instanceMethod ({ cls := "FifthCardModel", name := "rowFits", desc := "(II)Z" } : Jvm.MethodName)) ∈ lw_all := lw_g (lw_at lw_m8 124 rfl) rfl
theorem q1926 : (Jvm.Cond.code ({ cls := "FifthCardModel", name := "rowFits", desc := "(II)Z" } : Jvm.MethodName) prog_23_method_55_code (5 : Nat) (Option.some Jvm.ClassFile.FieldType.boolean)) ∈ lw_all := lw_g (lw_at lw_m8 125 rfl) rfl
theorem q1928 : (Jvm.Cond.instanceMethod ({ cls := "FifthCardModel", name := "fitting", desc := "()I" } : Jvm.MethodName)) ∈ lw_all := lw_g (lw_at lw_m8 127 rfl) rfl
theorem q1929 : (Jvm.Cond.selects "FifthCardModel" ({ cls := "FifthCardModel", name := "fitting", desc := "()I" } : Jvm.MethodName) ({ cls := "FifthCardModel", name := "fitting", desc := "()I" } : Jvm.MethodName)) ∈ lw_all := lw_g (lw_at lw_m8 128 rfl) rfl
theorem q1930 : (Jvm.Cond.code ({ cls := "FifthCardModel", name := "fitting", desc := "()I" } : Jvm.MethodName) prog_23_method_59_code (1 : Nat) (Option.some Jvm.ClassFile.FieldType.int)) ∈ lw_all := lw_g (lw_at lw_m8 129 rfl) rfl
theorem q1931 : (Jvm.Cond.methodLink "FifthCardModel" (394 : Nat) ({ cls := "FifthCardModel", name := "fittingMany", desc := "()I" } : Jvm.MethodName)) ∈ lw_all := lw_g (lw_at lw_m8 130 rfl) rfl
theorem q1932 : (Jvm.Cond.privateMethod ({ cls := "FifthCardModel", name := "fittingMany", desc := "()I" } : Jvm.MethodName)) ∈ lw_tbl := lw_at lw_m8 131 rfl
theorem q1933 : (Jvm.Cond.instanceMethod ({ cls := "FifthCardModel", name := "fittingMany", desc := "()I" } : Jvm.MethodName)) ∈ lw_all := lw_g (lw_at lw_m8 132 rfl) rfl
theorem q1934 : (Jvm.Cond.code ({ cls := "FifthCardModel", name := "fittingMany", desc := "()I" } : Jvm.MethodName) prog_23_method_58_code (1 : Nat) (Option.some Jvm.ClassFile.FieldType.int)) ∈ lw_all := lw_g (lw_at lw_m8 133 rfl) rfl
theorem q1935 : (Jvm.Cond.methodLink "FifthCardModel" (391 : Nat) ({ cls := "FifthCardModel", name := "setsOf", desc := "(II)J" } : Jvm.MethodName)) ∈ lw_all := lw_g (lw_at lw_m8 134 rfl) rfl
theorem q1937 : (Jvm.Cond.instanceMethod ({ cls := "FifthCardModel", name := "lays", desc := "(II)I" } : Jvm.MethodName)) ∈ lw_all := lw_g (lw_at lw_m8 136 rfl) rfl
theorem q1938 : (Jvm.Cond.selects "FifthCardModel" ({ cls := "FifthCardModel", name := "lays", desc := "(II)I" } : Jvm.MethodName) ({ cls := "FifthCardModel", name := "lays", desc := "(II)I" } : Jvm.MethodName)) ∈ lw_all := lw_g (lw_at lw_m8 137 rfl) rfl
theorem q1939 : (Jvm.Cond.code ({ cls := "FifthCardModel", name := "lays", desc := "(II)I" } : Jvm.MethodName) prog_23_method_71_code (3 : Nat) (Option.some Jvm.ClassFile.FieldType.int)) ∈ lw_all := lw_g (lw_at lw_m8 138 rfl) rfl
theorem q1940 : (Jvm.Cond.methodLink "FifthCardModel" (430 : Nat) ({ cls := "FifthCardModel", name := "isRule", desc := "(I)Z" } : Jvm.MethodName)) ∈ lw_all := lw_g (lw_at lw_m8 139 rfl) rfl
theorem q1941 : (Jvm.Cond.privateMethod ({ cls := "FifthCardModel", name := "isRule", desc := "(I)Z" } : Jvm.MethodName)) ∈ lw_tbl := lw_at lw_m8 140 rfl
theorem q1942 : (Jvm.Cond.instanceMethod ({ cls := "FifthCardModel", name := "isRule", desc := "(I)Z" } : Jvm.MethodName)) ∈ lw_all := lw_g (lw_at lw_m8 141 rfl) rfl
theorem q1943 : (Jvm.Cond.code ({ cls := "FifthCardModel", name := "isRule", desc := "(I)Z" } : Jvm.MethodName) prog_23_method_70_code (2 : Nat) (Option.some Jvm.ClassFile.FieldType.boolean)) ∈ lw_all := lw_g (lw_at lw_m8 142 rfl) rfl
theorem q1944 : (Jvm.Cond.methodLink "FifthCardModel" (433 : Nat) ({ cls := "FifthCardModel", name := "laysNow", desc := "(II)I" } : Jvm.MethodName)) ∈ lw_all := lw_g (lw_at lw_m8 143 rfl) rfl
theorem q1945 : (Jvm.Cond.privateMethod ({ cls := "FifthCardModel", name := "laysNow", desc := "(II)I" } : Jvm.MethodName)) ∈ lw_tbl := lw_at lw_m8 144 rfl
theorem q1946 : (Jvm.Cond.instanceMethod ({ cls := "FifthCardModel", name := "laysNow", desc := "(II)I" } : Jvm.MethodName)) ∈ lw_all := lw_g (lw_at lw_m8 145 rfl) rfl
theorem q1947 : (Jvm.Cond.code ({ cls := "FifthCardModel", name := "laysNow", desc := "(II)I" } : Jvm.MethodName) prog_23_method_69_code (4 : Nat) (Option.some Jvm.ClassFile.FieldType.int)) ∈ lw_all := lw_g (lw_at lw_m8 146 rfl) rfl
theorem q1948 : (Jvm.Cond.methodLink "FifthCardModel" (418 : Nat) ({ cls := "FifthCardModel", name := "laysSuit", desc := "(I)I" } : Jvm.MethodName)) ∈ lw_all := lw_g (lw_at lw_m8 147 rfl) rfl
theorem q1949 : (Jvm.Cond.privateMethod ({ cls := "FifthCardModel", name := "laysSuit", desc := "(I)I" } : Jvm.MethodName)) ∈ lw_tbl := lw_at lw_m8 148 rfl
theorem q1950 : (Jvm.Cond.instanceMethod ({ cls := "FifthCardModel", name := "laysSuit", desc := "(I)I" } : Jvm.MethodName)) ∈ lw_all := lw_g (lw_at lw_m8 149 rfl) rfl
theorem q1951 : (Jvm.Cond.code ({ cls := "FifthCardModel", name := "laysSuit", desc := "(I)I" } : Jvm.MethodName) prog_23_method_68_code (13 : Nat) (Option.some Jvm.ClassFile.FieldType.int)) ∈ lw_all := lw_g (lw_at lw_m8 150 rfl) rfl
theorem q1952 : (Jvm.Cond.methodLink "FifthCardModel" (415 : Nat) ({ cls := "FifthCardModel", name := "orders", desc := "(II)V" } : Jvm.MethodName)) ∈ lw_all := lw_g (lw_at lw_m8 151 rfl) rfl
theorem q1953 : (Jvm.Cond.privateMethod ({ cls := "FifthCardModel", name := "orders", desc := "(II)V" } : Jvm.MethodName)) ∈ lw_tbl := lw_at lw_m8 152 rfl
theorem q1954 : (Jvm.Cond.instanceMethod ({ cls := "FifthCardModel", name := "orders", desc := "(II)V" } : Jvm.MethodName)) ∈ lw_all := lw_g (lw_at lw_m8 153 rfl) rfl
theorem q1955 : (Jvm.Cond.code ({ cls := "FifthCardModel", name := "orders", desc := "(II)V" } : Jvm.MethodName) prog_23_method_66_code (9 : Nat) (Option.none : Option Jvm.ClassFile.FieldType)) ∈ lw_all := lw_g (lw_at lw_m8 154 rfl) rfl
theorem q1956 : (Jvm.Cond.methodLink "FifthCardModel" (421 : Nat) ({ cls := "FifthCardModel", name := "laysWords", desc := "(II)I" } : Jvm.MethodName)) ∈ lw_all := lw_g (lw_at lw_m8 155 rfl) rfl
theorem q1957 : (Jvm.Cond.privateMethod ({ cls := "FifthCardModel", name := "laysWords", desc := "(II)I" } : Jvm.MethodName)) ∈ lw_tbl := lw_at lw_m8 156 rfl
theorem q1958 : (Jvm.Cond.instanceMethod ({ cls := "FifthCardModel", name := "laysWords", desc := "(II)I" } : Jvm.MethodName)) ∈ lw_all := lw_g (lw_at lw_m8 157 rfl) rfl
theorem q1959 : (Jvm.Cond.code ({ cls := "FifthCardModel", name := "laysWords", desc := "(II)I" } : Jvm.MethodName) prog_23_method_67_code (13 : Nat) (Option.some Jvm.ClassFile.FieldType.int)) ∈ lw_all := lw_g (lw_at lw_m8 158 rfl) rfl
theorem q1960 : (Jvm.Cond.methodLink "FifthCardModel" (406 : Nat) ({ cls := "FifthCardModel", name := "sorts", desc := "(I)V" } : Jvm.MethodName)) ∈ lw_all := lw_g (lw_at lw_m8 159 rfl) rfl
theorem q1961 : (Jvm.Cond.privateMethod ({ cls := "FifthCardModel", name := "sorts", desc := "(I)V" } : Jvm.MethodName)) ∈ lw_tbl := lw_at lw_m8 160 rfl
theorem q1962 : (Jvm.Cond.instanceMethod ({ cls := "FifthCardModel", name := "sorts", desc := "(I)V" } : Jvm.MethodName)) ∈ lw_all := lw_g (lw_at lw_m8 161 rfl) rfl
theorem q1963 : (Jvm.Cond.code ({ cls := "FifthCardModel", name := "sorts", desc := "(I)V" } : Jvm.MethodName) prog_23_method_63_code (5 : Nat) (Option.none : Option Jvm.ClassFile.FieldType)) ∈ lw_all := lw_g (lw_at lw_m8 162 rfl) rfl
theorem q1964 : (Jvm.Cond.methodLink "FifthCardModel" (409 : Nat) ({ cls := "FifthCardModel", name := "keepsAt", desc := "(I)I" } : Jvm.MethodName)) ∈ lw_all := lw_g (lw_at lw_m8 163 rfl) rfl
theorem q1965 : (Jvm.Cond.privateMethod ({ cls := "FifthCardModel", name := "keepsAt", desc := "(I)I" } : Jvm.MethodName)) ∈ lw_tbl := lw_at lw_m8 164 rfl
theorem q1966 : (Jvm.Cond.instanceMethod ({ cls := "FifthCardModel", name := "keepsAt", desc := "(I)I" } : Jvm.MethodName)) ∈ lw_all := lw_g (lw_at lw_m8 165 rfl) rfl
theorem q1967 : (Jvm.Cond.code ({ cls := "FifthCardModel", name := "keepsAt", desc := "(I)I" } : Jvm.MethodName) prog_23_method_64_code (5 : Nat) (Option.some Jvm.ClassFile.FieldType.int)) ∈ lw_all := lw_g (lw_at lw_m8 166 rfl) rfl
theorem q1968 : (Jvm.Cond.methodLink "FifthCardModel" (412 : Nat) ({ cls := "FifthCardModel", name := "tells", desc := "(IIII)I" } : Jvm.MethodName)) ∈ lw_all := lw_g (lw_at lw_m8 167 rfl) rfl
theorem q1969 : (Jvm.Cond.privateMethod ({ cls := "FifthCardModel", name := "tells", desc := "(IIII)I" } : Jvm.MethodName)) ∈ lw_tbl := lw_at lw_m8 168 rfl
theorem q1970 : (Jvm.Cond.instanceMethod ({ cls := "FifthCardModel", name := "tells", desc := "(IIII)I" } : Jvm.MethodName)) ∈ lw_all := lw_g (lw_at lw_m8 169 rfl) rfl
theorem q1971 : (Jvm.Cond.code ({ cls := "FifthCardModel", name := "tells", desc := "(IIII)I" } : Jvm.MethodName) prog_23_method_65_code (10 : Nat) (Option.some Jvm.ClassFile.FieldType.int)) ∈ lw_all := lw_g (lw_at lw_m8 170 rfl) rfl
theorem q1972 : (Jvm.Cond.methodLink "FifthCardModel" (424 : Nat) ({ cls := "FifthCardModel", name := "knowsTable", desc := "()V" } : Jvm.MethodName)) ∈ lw_all := lw_g (lw_at lw_m8 171 rfl) rfl
theorem q1973 : (Jvm.Cond.privateMethod ({ cls := "FifthCardModel", name := "knowsTable", desc := "()V" } : Jvm.MethodName)) ∈ lw_tbl := lw_at lw_m8 172 rfl
theorem q1974 : (Jvm.Cond.instanceMethod ({ cls := "FifthCardModel", name := "knowsTable", desc := "()V" } : Jvm.MethodName)) ∈ lw_all := lw_g (lw_at lw_m8 173 rfl) rfl
theorem q1975 : (Jvm.Cond.code ({ cls := "FifthCardModel", name := "knowsTable", desc := "()V" } : Jvm.MethodName) prog_23_method_100_code (4 : Nat) (Option.none : Option Jvm.ClassFile.FieldType)) ∈ lw_all := lw_g (lw_at lw_m8 174 rfl) rfl
theorem q1976 : (Jvm.Cond.methodLink "FifthCardModel" (488 : Nat) ({ cls := "FifthCardModel", name := "pairsNow", desc := "()I" } : Jvm.MethodName)) ∈ lw_all := lw_g (lw_at lw_m8 175 rfl) rfl
theorem q1977 : (Jvm.Cond.privateMethod ({ cls := "FifthCardModel", name := "pairsNow", desc := "()I" } : Jvm.MethodName)) ∈ lw_tbl := lw_at lw_m8 176 rfl
theorem q1978 : (Jvm.Cond.instanceMethod ({ cls := "FifthCardModel", name := "pairsNow", desc := "()I" } : Jvm.MethodName)) ∈ lw_all := lw_g (lw_at lw_m8 177 rfl) rfl
theorem q1979 : (Jvm.Cond.code ({ cls := "FifthCardModel", name := "pairsNow", desc := "()I" } : Jvm.MethodName) prog_23_method_98_code (3 : Nat) (Option.some Jvm.ClassFile.FieldType.int)) ∈ lw_all := lw_g (lw_at lw_m8 178 rfl) rfl
theorem q1980 : (Jvm.Cond.methodLink "FifthCardModel" (458 : Nat) ({ cls := "FifthCardModel", name := "clearOwners", desc := "()V" } : Jvm.MethodName)) ∈ lw_all := lw_g (lw_at lw_m8 179 rfl) rfl
theorem q1981 : (Jvm.Cond.privateMethod ({ cls := "FifthCardModel", name := "clearOwners", desc := "()V" } : Jvm.MethodName)) ∈ lw_tbl := lw_at lw_m8 180 rfl
theorem q1982 : (Jvm.Cond.instanceMethod ({ cls := "FifthCardModel", name := "clearOwners", desc := "()V" } : Jvm.MethodName)) ∈ lw_all := lw_g (lw_at lw_m8 181 rfl) rfl
theorem q1983 : (Jvm.Cond.code ({ cls := "FifthCardModel", name := "clearOwners", desc := "()V" } : Jvm.MethodName) prog_23_method_85_code (2 : Nat) (Option.none : Option Jvm.ClassFile.FieldType)) ∈ lw_all := lw_g (lw_at lw_m8 182 rfl) rfl
theorem q1984 : (Jvm.Cond.methodLink "FifthCardModel" (485 : Nat) ({ cls := "FifthCardModel", name := "goesOnFrom", desc := "(III)Z" } : Jvm.MethodName)) ∈ lw_all := lw_g (lw_at lw_m8 183 rfl) rfl
theorem q1985 : (Jvm.Cond.privateMethod ({ cls := "FifthCardModel", name := "goesOnFrom", desc := "(III)Z" } : Jvm.MethodName)) ∈ lw_tbl := lw_at lw_m8 184 rfl
theorem q1986 : (Jvm.Cond.instanceMethod ({ cls := "FifthCardModel", name := "goesOnFrom", desc := "(III)Z" } : Jvm.MethodName)) ∈ lw_all := lw_g (lw_at lw_m8 185 rfl) rfl
theorem q1987 : (Jvm.Cond.code ({ cls := "FifthCardModel", name := "goesOnFrom", desc := "(III)Z" } : Jvm.MethodName) prog_23_method_96_code (10 : Nat) (Option.some Jvm.ClassFile.FieldType.boolean)) ∈ lw_all := lw_g (lw_at lw_m8 186 rfl) rfl
theorem q1988 : (Jvm.Cond.methodLink "FifthCardModel" (479 : Nat) ({ cls := "FifthCardModel", name := "fitsOf", desc := "(I)V" } : Jvm.MethodName)) ∈ lw_all := lw_g (lw_at lw_m8 187 rfl) rfl
theorem q1989 : (Jvm.Cond.privateMethod ({ cls := "FifthCardModel", name := "fitsOf", desc := "(I)V" } : Jvm.MethodName)) ∈ lw_tbl := lw_at lw_m8 188 rfl
theorem q1990 : (Jvm.Cond.instanceMethod ({ cls := "FifthCardModel", name := "fitsOf", desc := "(I)V" } : Jvm.MethodName)) ∈ lw_all := lw_g (lw_at lw_m8 189 rfl) rfl
theorem q1991 : (Jvm.Cond.code ({ cls := "FifthCardModel", name := "fitsOf", desc := "(I)V" } : Jvm.MethodName) prog_23_method_61_code (4 : Nat) (Option.none : Option Jvm.ClassFile.FieldType)) ∈ lw_all := lw_g (lw_at lw_m8 190 rfl) rfl
theorem q1992 : (Jvm.Cond.methodLink "FifthCardModel" (403 : Nat) ({ cls := "FifthCardModel", name := "puts", desc := "(I)V" } : Jvm.MethodName)) ∈ lw_all := lw_g (lw_at lw_m8 191 rfl) rfl
theorem q1993 : (Jvm.Cond.privateMethod ({ cls := "FifthCardModel", name := "puts", desc := "(I)V" } : Jvm.MethodName)) ∈ lw_tbl := lw_at lw_m8 192 rfl
theorem q1994 : (Jvm.Cond.instanceMethod ({ cls := "FifthCardModel", name := "puts", desc := "(I)V" } : Jvm.MethodName)) ∈ lw_all := lw_g (lw_at lw_m8 193 rfl) rfl
theorem q1995 : (Jvm.Cond.code ({ cls := "FifthCardModel", name := "puts", desc := "(I)V" } : Jvm.MethodName) prog_23_method_62_code (5 : Nat) (Option.none : Option Jvm.ClassFile.FieldType)) ∈ lw_all := lw_g (lw_at lw_m8 194 rfl) rfl
theorem q1996 : (Jvm.Cond.methodLink "FifthCardModel" (470 : Nat) ({ cls := "FifthCardModel", name := "ownerOf", desc := "(I)I" } : Jvm.MethodName)) ∈ lw_all := lw_g (lw_at lw_m8 195 rfl) rfl
theorem q1997 : (Jvm.Cond.privateMethod ({ cls := "FifthCardModel", name := "ownerOf", desc := "(I)I" } : Jvm.MethodName)) ∈ lw_tbl := lw_at lw_m8 196 rfl
theorem q1998 : (Jvm.Cond.instanceMethod ({ cls := "FifthCardModel", name := "ownerOf", desc := "(I)I" } : Jvm.MethodName)) ∈ lw_all := lw_g (lw_at lw_m8 197 rfl) rfl
theorem q1999 : (Jvm.Cond.code ({ cls := "FifthCardModel", name := "ownerOf", desc := "(I)I" } : Jvm.MethodName) prog_23_method_89_code (3 : Nat) (Option.some Jvm.ClassFile.FieldType.int)) ∈ lw_all := lw_g (lw_at lw_m8 198 rfl) rfl
theorem q2000 : (Jvm.Cond.methodLink "FifthCardModel" (455 : Nat) ({ cls := "FifthCardModel", name := "slot", desc := "(I)I" } : Jvm.MethodName)) ∈ lw_all := lw_g (lw_at lw_m8 199 rfl) rfl
theorem q2001 : (Jvm.Cond.privateMethod ({ cls := "FifthCardModel", name := "slot", desc := "(I)I" } : Jvm.MethodName)) ∈ lw_tbl := lw_at lw_m8 200 rfl
theorem q2002 : (Jvm.Cond.instanceMethod ({ cls := "FifthCardModel", name := "slot", desc := "(I)I" } : Jvm.MethodName)) ∈ lw_all := lw_g (lw_at lw_m8 201 rfl) rfl
theorem q2003 : (Jvm.Cond.code ({ cls := "FifthCardModel", name := "slot", desc := "(I)I" } : Jvm.MethodName) prog_23_method_86_code (3 : Nat) (Option.some Jvm.ClassFile.FieldType.int)) ∈ lw_all := lw_g (lw_at lw_m8 202 rfl) rfl
theorem q2004 : (Jvm.Cond.constant "FifthCardModel" (454 : Nat) (-1640531535 : Int32)) ∈ lw_all := lw_g (lw_at lw_m8 203 rfl) rfl
theorem q2005 : (Jvm.Cond.methodLink "FifthCardModel" (482 : Nat) ({ cls := "FifthCardModel", name := "takes", desc := "(II)V" } : Jvm.MethodName)) ∈ lw_all := lw_g (lw_at lw_m8 204 rfl) rfl
theorem q2006 : (Jvm.Cond.privateMethod ({ cls := "FifthCardModel", name := "takes", desc := "(II)V" } : Jvm.MethodName)) ∈ lw_tbl := lw_at lw_m8 205 rfl
theorem q2007 : (Jvm.Cond.instanceMethod ({ cls := "FifthCardModel", name := "takes", desc := "(II)V" } : Jvm.MethodName)) ∈ lw_all := lw_g (lw_at lw_m8 206 rfl) rfl
theorem q2008 : (Jvm.Cond.code ({ cls := "FifthCardModel", name := "takes", desc := "(II)V" } : Jvm.MethodName) prog_23_method_97_code (6 : Nat) (Option.none : Option Jvm.ClassFile.FieldType)) ∈ lw_all := lw_g (lw_at lw_m8 207 rfl) rfl
theorem q2009 : (Jvm.Cond.methodLink "FifthCardModel" (461 : Nat) ({ cls := "FifthCardModel", name := "owns", desc := "(II)V" } : Jvm.MethodName)) ∈ lw_all := lw_g (lw_at lw_m8 208 rfl) rfl
theorem q2010 : (Jvm.Cond.privateMethod ({ cls := "FifthCardModel", name := "owns", desc := "(II)V" } : Jvm.MethodName)) ∈ lw_tbl := lw_at lw_m8 209 rfl
theorem q2011 : (Jvm.Cond.instanceMethod ({ cls := "FifthCardModel", name := "owns", desc := "(II)V" } : Jvm.MethodName)) ∈ lw_all := lw_g (lw_at lw_m8 210 rfl) rfl
theorem q2012 : (Jvm.Cond.code ({ cls := "FifthCardModel", name := "owns", desc := "(II)V" } : Jvm.MethodName) prog_23_method_88_code (4 : Nat) (Option.none : Option Jvm.ClassFile.FieldType)) ∈ lw_all := lw_g (lw_at lw_m8 211 rfl) rfl
theorem q2013 : (Jvm.Cond.methodLink "FifthCardModel" (491 : Nat) ({ cls := "FifthCardModel", name := "settles", desc := "(II)Z" } : Jvm.MethodName)) ∈ lw_all := lw_g (lw_at lw_m8 212 rfl) rfl
theorem q2014 : (Jvm.Cond.privateMethod ({ cls := "FifthCardModel", name := "settles", desc := "(II)Z" } : Jvm.MethodName)) ∈ lw_tbl := lw_at lw_m8 213 rfl
theorem q2015 : (Jvm.Cond.instanceMethod ({ cls := "FifthCardModel", name := "settles", desc := "(II)Z" } : Jvm.MethodName)) ∈ lw_all := lw_g (lw_at lw_m8 214 rfl) rfl
theorem q2016 : (Jvm.Cond.code ({ cls := "FifthCardModel", name := "settles", desc := "(II)Z" } : Jvm.MethodName) prog_23_method_101_code (5 : Nat) (Option.some Jvm.ClassFile.FieldType.boolean)) ∈ lw_all := lw_g (lw_at lw_m8 215 rfl) rfl
theorem q2018 : (Jvm.Cond.instanceMethod ({ cls := "FifthCardModel", name := "kept", desc := "(III)I" } : Jvm.MethodName)) ∈ lw_all := lw_g (lw_at lw_m8 217 rfl) rfl
theorem q2019 : (Jvm.Cond.selects "FifthCardModel" ({ cls := "FifthCardModel", name := "kept", desc := "(III)I" } : Jvm.MethodName) ({ cls := "FifthCardModel", name := "kept", desc := "(III)I" } : Jvm.MethodName)) ∈ lw_all := lw_g (lw_at lw_m8 218 rfl) rfl
theorem q2020 : (Jvm.Cond.code ({ cls := "FifthCardModel", name := "kept", desc := "(III)I" } : Jvm.MethodName) prog_23_method_72_code (9 : Nat) (Option.some Jvm.ClassFile.FieldType.int)) ∈ lw_all := lw_g (lw_at lw_m8 219 rfl) rfl
theorem q2022 : (Jvm.Cond.instanceMethod ({ cls := "FifthCardModel", name := "says", desc := "(II)I" } : Jvm.MethodName)) ∈ lw_all := lw_g (lw_at lw_m8 221 rfl) rfl
theorem q2023 : (Jvm.Cond.selects "FifthCardModel" ({ cls := "FifthCardModel", name := "says", desc := "(II)I" } : Jvm.MethodName) ({ cls := "FifthCardModel", name := "says", desc := "(II)I" } : Jvm.MethodName)) ∈ lw_all := lw_g (lw_at lw_m8 222 rfl) rfl
theorem q2024 : (Jvm.Cond.code ({ cls := "FifthCardModel", name := "says", desc := "(II)I" } : Jvm.MethodName) prog_23_method_76_code (3 : Nat) (Option.some Jvm.ClassFile.FieldType.int)) ∈ lw_all := lw_g (lw_at lw_m8 223 rfl) rfl
theorem q2025 : (Jvm.Cond.methodLink "FifthCardModel" (436 : Nat) ({ cls := "FifthCardModel", name := "laysAll", desc := "(I)V" } : Jvm.MethodName)) ∈ lw_all := lw_g (lw_at lw_m8 224 rfl) rfl
theorem q2026 : (Jvm.Cond.privateMethod ({ cls := "FifthCardModel", name := "laysAll", desc := "(I)V" } : Jvm.MethodName)) ∈ lw_tbl := lw_at lw_m8 225 rfl
theorem q2027 : (Jvm.Cond.instanceMethod ({ cls := "FifthCardModel", name := "laysAll", desc := "(I)V" } : Jvm.MethodName)) ∈ lw_all := lw_g (lw_at lw_m8 226 rfl) rfl
theorem q2028 : (Jvm.Cond.code ({ cls := "FifthCardModel", name := "laysAll", desc := "(I)V" } : Jvm.MethodName) prog_23_method_73_code (3 : Nat) (Option.none : Option Jvm.ClassFile.FieldType)) ∈ lw_all := lw_g (lw_at lw_m8 227 rfl) rfl
theorem q2029 : (Jvm.Cond.methodLink "FifthCardModel" (439 : Nat) ({ cls := "FifthCardModel", name := "firstWith", desc := "(I)I" } : Jvm.MethodName)) ∈ lw_all := lw_g (lw_at lw_m8 228 rfl) rfl
theorem q2030 : (Jvm.Cond.privateMethod ({ cls := "FifthCardModel", name := "firstWith", desc := "(I)I" } : Jvm.MethodName)) ∈ lw_tbl := lw_at lw_m8 229 rfl
theorem q2031 : (Jvm.Cond.instanceMethod ({ cls := "FifthCardModel", name := "firstWith", desc := "(I)I" } : Jvm.MethodName)) ∈ lw_all := lw_g (lw_at lw_m8 230 rfl) rfl
theorem q2032 : (Jvm.Cond.code ({ cls := "FifthCardModel", name := "firstWith", desc := "(I)I" } : Jvm.MethodName) prog_23_method_75_code (3 : Nat) (Option.some Jvm.ClassFile.FieldType.int)) ∈ lw_all := lw_g (lw_at lw_m8 231 rfl) rfl
theorem q2034 : (Jvm.Cond.instanceMethod ({ cls := "FifthCardModel", name := "works", desc := "(I)I" } : Jvm.MethodName)) ∈ lw_all := lw_g (lw_at lw_m8 233 rfl) rfl
theorem q2035 : (Jvm.Cond.selects "FifthCardModel" ({ cls := "FifthCardModel", name := "works", desc := "(I)I" } : Jvm.MethodName) ({ cls := "FifthCardModel", name := "works", desc := "(I)I" } : Jvm.MethodName)) ∈ lw_all := lw_g (lw_at lw_m8 234 rfl) rfl
theorem q2036 : (Jvm.Cond.code ({ cls := "FifthCardModel", name := "works", desc := "(I)I" } : Jvm.MethodName) prog_23_method_79_code (2 : Nat) (Option.some Jvm.ClassFile.FieldType.int)) ∈ lw_all := lw_g (lw_at lw_m8 235 rfl) rfl
theorem q2037 : (Jvm.Cond.methodLink "FifthCardModel" (445 : Nat) ({ cls := "FifthCardModel", name := "isWorking", desc := "()Z" } : Jvm.MethodName)) ∈ lw_all := lw_g (lw_at lw_m8 236 rfl) rfl
theorem q2038 : (Jvm.Cond.privateMethod ({ cls := "FifthCardModel", name := "isWorking", desc := "()Z" } : Jvm.MethodName)) ∈ lw_tbl := lw_at lw_m8 237 rfl
theorem q2039 : (Jvm.Cond.instanceMethod ({ cls := "FifthCardModel", name := "isWorking", desc := "()Z" } : Jvm.MethodName)) ∈ lw_all := lw_g (lw_at lw_m8 238 rfl) rfl
theorem q2040 : (Jvm.Cond.code ({ cls := "FifthCardModel", name := "isWorking", desc := "()Z" } : Jvm.MethodName) prog_23_method_78_code (2 : Nat) (Option.some Jvm.ClassFile.FieldType.boolean)) ∈ lw_all := lw_g (lw_at lw_m8 239 rfl) rfl
theorem q2041 : (Jvm.Cond.methodLink "FifthCardModel" (442 : Nat) ({ cls := "FifthCardModel", name := "clashNow", desc := "()I" } : Jvm.MethodName)) ∈ lw_all := lw_g (lw_at lw_m9 0 rfl) rfl
theorem q2042 : (Jvm.Cond.privateMethod ({ cls := "FifthCardModel", name := "clashNow", desc := "()I" } : Jvm.MethodName)) ∈ lw_tbl := lw_at lw_m9 1 rfl
theorem q2043 : (Jvm.Cond.instanceMethod ({ cls := "FifthCardModel", name := "clashNow", desc := "()I" } : Jvm.MethodName)) ∈ lw_all := lw_g (lw_at lw_m9 2 rfl) rfl
theorem q2044 : (Jvm.Cond.code ({ cls := "FifthCardModel", name := "clashNow", desc := "()I" } : Jvm.MethodName) prog_23_method_77_code (2 : Nat) (Option.some Jvm.ClassFile.FieldType.int)) ∈ lw_all := lw_g (lw_at lw_m9 3 rfl) rfl
theorem q2046 : (Jvm.Cond.instanceMethod ({ cls := "FifthCardModel", name := "clash", desc := "(IZ)I" } : Jvm.MethodName)) ∈ lw_all := lw_g (lw_at lw_m9 5 rfl) rfl
theorem q2047 : (Jvm.Cond.selects "FifthCardModel" ({ cls := "FifthCardModel", name := "clash", desc := "(IZ)I" } : Jvm.MethodName) ({ cls := "FifthCardModel", name := "clash", desc := "(IZ)I" } : Jvm.MethodName)) ∈ lw_all := lw_g (lw_at lw_m9 6 rfl) rfl
theorem q2048 : (Jvm.Cond.code ({ cls := "FifthCardModel", name := "clash", desc := "(IZ)I" } : Jvm.MethodName) prog_23_method_80_code (4 : Nat) (Option.some Jvm.ClassFile.FieldType.int)) ∈ lw_all := lw_g (lw_at lw_m9 7 rfl) rfl
theorem q2050 : (Jvm.Cond.instanceMethod ({ cls := "FifthCardModel", name := "laid", desc := "(I)I" } : Jvm.MethodName)) ∈ lw_all := lw_g (lw_at lw_m9 9 rfl) rfl
theorem q2051 : (Jvm.Cond.selects "FifthCardModel" ({ cls := "FifthCardModel", name := "laid", desc := "(I)I" } : Jvm.MethodName) ({ cls := "FifthCardModel", name := "laid", desc := "(I)I" } : Jvm.MethodName)) ∈ lw_all := lw_g (lw_at lw_m9 10 rfl) rfl
theorem q2052 : (Jvm.Cond.code ({ cls := "FifthCardModel", name := "laid", desc := "(I)I" } : Jvm.MethodName) prog_23_method_81_code (4 : Nat) (Option.some Jvm.ClassFile.FieldType.int)) ∈ lw_all := lw_g (lw_at lw_m9 11 rfl) rfl
theorem q2054 : (Jvm.Cond.instanceMethod ({ cls := "FifthCardModel", name := "fails", desc := "(I)I" } : Jvm.MethodName)) ∈ lw_all := lw_g (lw_at lw_m9 13 rfl) rfl
theorem q2055 : (Jvm.Cond.selects "FifthCardModel" ({ cls := "FifthCardModel", name := "fails", desc := "(I)I" } : Jvm.MethodName) ({ cls := "FifthCardModel", name := "fails", desc := "(I)I" } : Jvm.MethodName)) ∈ lw_all := lw_g (lw_at lw_m9 14 rfl) rfl
theorem q2056 : (Jvm.Cond.code ({ cls := "FifthCardModel", name := "fails", desc := "(I)I" } : Jvm.MethodName) prog_23_method_82_code (4 : Nat) (Option.some Jvm.ClassFile.FieldType.int)) ∈ lw_all := lw_g (lw_at lw_m9 15 rfl) rfl
theorem q2058 : (Jvm.Cond.instanceMethod ({ cls := "FifthCardModel", name := "seen", desc := "(I)I" } : Jvm.MethodName)) ∈ lw_all := lw_g (lw_at lw_m9 17 rfl) rfl
theorem q2059 : (Jvm.Cond.selects "FifthCardModel" ({ cls := "FifthCardModel", name := "seen", desc := "(I)I" } : Jvm.MethodName) ({ cls := "FifthCardModel", name := "seen", desc := "(I)I" } : Jvm.MethodName)) ∈ lw_all := lw_g (lw_at lw_m9 18 rfl) rfl
theorem q2060 : (Jvm.Cond.code ({ cls := "FifthCardModel", name := "seen", desc := "(I)I" } : Jvm.MethodName) prog_23_method_91_code (2 : Nat) (Option.some Jvm.ClassFile.FieldType.int)) ∈ lw_all := lw_g (lw_at lw_m9 19 rfl) rfl
theorem q2061 : (Jvm.Cond.methodLink "FifthCardModel" (464 : Nat) ({ cls := "FifthCardModel", name := "ownsLaid", desc := "()V" } : Jvm.MethodName)) ∈ lw_all := lw_g (lw_at lw_m9 20 rfl) rfl
theorem q2062 : (Jvm.Cond.privateMethod ({ cls := "FifthCardModel", name := "ownsLaid", desc := "()V" } : Jvm.MethodName)) ∈ lw_tbl := lw_at lw_m9 21 rfl
theorem q2063 : (Jvm.Cond.instanceMethod ({ cls := "FifthCardModel", name := "ownsLaid", desc := "()V" } : Jvm.MethodName)) ∈ lw_all := lw_g (lw_at lw_m9 22 rfl) rfl
theorem q2064 : (Jvm.Cond.code ({ cls := "FifthCardModel", name := "ownsLaid", desc := "()V" } : Jvm.MethodName) prog_23_method_90_code (2 : Nat) (Option.none : Option Jvm.ClassFile.FieldType)) ∈ lw_all := lw_g (lw_at lw_m9 23 rfl) rfl
theorem q2065 : (Jvm.Cond.methodLink "FifthCardModel" (467 : Nat) ({ cls := "FifthCardModel", name := "isSeen", desc := "()Z" } : Jvm.MethodName)) ∈ lw_all := lw_g (lw_at lw_m9 24 rfl) rfl
theorem q2066 : (Jvm.Cond.privateMethod ({ cls := "FifthCardModel", name := "isSeen", desc := "()Z" } : Jvm.MethodName)) ∈ lw_tbl := lw_at lw_m9 25 rfl
theorem q2067 : (Jvm.Cond.instanceMethod ({ cls := "FifthCardModel", name := "isSeen", desc := "()Z" } : Jvm.MethodName)) ∈ lw_all := lw_g (lw_at lw_m9 26 rfl) rfl
theorem q2068 : (Jvm.Cond.code ({ cls := "FifthCardModel", name := "isSeen", desc := "()Z" } : Jvm.MethodName) prog_23_method_84_code (3 : Nat) (Option.some Jvm.ClassFile.FieldType.boolean)) ∈ lw_all := lw_g (lw_at lw_m9 27 rfl) rfl
theorem q2069 : (Jvm.Cond.methodLink "FifthCardModel" (448 : Nat) ({ cls := "FifthCardModel", name := "becomes", desc := "(II)I" } : Jvm.MethodName)) ∈ lw_all := lw_g (lw_at lw_m9 28 rfl) rfl
theorem q2070 : (Jvm.Cond.privateMethod ({ cls := "FifthCardModel", name := "becomes", desc := "(II)I" } : Jvm.MethodName)) ∈ lw_tbl := lw_at lw_m9 29 rfl
theorem q2071 : (Jvm.Cond.instanceMethod ({ cls := "FifthCardModel", name := "becomes", desc := "(II)I" } : Jvm.MethodName)) ∈ lw_all := lw_g (lw_at lw_m9 30 rfl) rfl
theorem q2072 : (Jvm.Cond.code ({ cls := "FifthCardModel", name := "becomes", desc := "(II)I" } : Jvm.MethodName) prog_23_method_83_code (7 : Nat) (Option.some Jvm.ClassFile.FieldType.int)) ∈ lw_all := lw_g (lw_at lw_m9 31 rfl) rfl
theorem q2073 : (Jvm.Cond.methodLink "FifthCardModel" (451 : Nat) ({ cls := "FifthCardModel", name := "isOwned", desc := "(I)Z" } : Jvm.MethodName)) ∈ lw_all := lw_g (lw_at lw_m9 32 rfl) rfl
theorem q2074 : (Jvm.Cond.privateMethod ({ cls := "FifthCardModel", name := "isOwned", desc := "(I)Z" } : Jvm.MethodName)) ∈ lw_tbl := lw_at lw_m9 33 rfl
theorem q2075 : (Jvm.Cond.instanceMethod ({ cls := "FifthCardModel", name := "isOwned", desc := "(I)Z" } : Jvm.MethodName)) ∈ lw_all := lw_g (lw_at lw_m9 34 rfl) rfl
theorem q2076 : (Jvm.Cond.code ({ cls := "FifthCardModel", name := "isOwned", desc := "(I)Z" } : Jvm.MethodName) prog_23_method_87_code (2 : Nat) (Option.some Jvm.ClassFile.FieldType.boolean)) ∈ lw_all := lw_g (lw_at lw_m9 35 rfl) rfl
theorem q2078 : (Jvm.Cond.instanceMethod ({ cls := "FifthCardModel", name := "borne", desc := "(I)I" } : Jvm.MethodName)) ∈ lw_all := lw_g (lw_at lw_m9 37 rfl) rfl
theorem q2079 : (Jvm.Cond.selects "FifthCardModel" ({ cls := "FifthCardModel", name := "borne", desc := "(I)I" } : Jvm.MethodName) ({ cls := "FifthCardModel", name := "borne", desc := "(I)I" } : Jvm.MethodName)) ∈ lw_all := lw_g (lw_at lw_m9 38 rfl) rfl
theorem q2080 : (Jvm.Cond.code ({ cls := "FifthCardModel", name := "borne", desc := "(I)I" } : Jvm.MethodName) prog_23_method_93_code (2 : Nat) (Option.some Jvm.ClassFile.FieldType.int)) ∈ lw_all := lw_g (lw_at lw_m9 39 rfl) rfl
theorem q2081 : (Jvm.Cond.methodLink "FifthCardModel" (473 : Nat) ({ cls := "FifthCardModel", name := "isBorne", desc := "()Z" } : Jvm.MethodName)) ∈ lw_all := lw_g (lw_at lw_m9 40 rfl) rfl
theorem q2082 : (Jvm.Cond.privateMethod ({ cls := "FifthCardModel", name := "isBorne", desc := "()Z" } : Jvm.MethodName)) ∈ lw_tbl := lw_at lw_m9 41 rfl
theorem q2083 : (Jvm.Cond.instanceMethod ({ cls := "FifthCardModel", name := "isBorne", desc := "()Z" } : Jvm.MethodName)) ∈ lw_all := lw_g (lw_at lw_m9 42 rfl) rfl
theorem q2084 : (Jvm.Cond.code ({ cls := "FifthCardModel", name := "isBorne", desc := "()Z" } : Jvm.MethodName) prog_23_method_92_code (5 : Nat) (Option.some Jvm.ClassFile.FieldType.boolean)) ∈ lw_all := lw_g (lw_at lw_m9 43 rfl) rfl
theorem q2086 : (Jvm.Cond.instanceMethod ({ cls := "FifthCardModel", name := "wordsWork", desc := "(I)I" } : Jvm.MethodName)) ∈ lw_all := lw_g (lw_at lw_m9 45 rfl) rfl
theorem q2087 : (Jvm.Cond.selects "FifthCardModel" ({ cls := "FifthCardModel", name := "wordsWork", desc := "(I)I" } : Jvm.MethodName) ({ cls := "FifthCardModel", name := "wordsWork", desc := "(I)I" } : Jvm.MethodName)) ∈ lw_all := lw_g (lw_at lw_m9 46 rfl) rfl
theorem q2088 : (Jvm.Cond.code ({ cls := "FifthCardModel", name := "wordsWork", desc := "(I)I" } : Jvm.MethodName) prog_23_method_94_code (2 : Nat) (Option.some Jvm.ClassFile.FieldType.int)) ∈ lw_all := lw_g (lw_at lw_m9 47 rfl) rfl
theorem q2089 : (Jvm.Cond.methodLink "FifthCardModel" (476 : Nat) ({ cls := "FifthCardModel", name := "laysAllWords", desc := "(I)V" } : Jvm.MethodName)) ∈ lw_all := lw_g (lw_at lw_m9 48 rfl) rfl
theorem q2090 : (Jvm.Cond.privateMethod ({ cls := "FifthCardModel", name := "laysAllWords", desc := "(I)V" } : Jvm.MethodName)) ∈ lw_tbl := lw_at lw_m9 49 rfl
theorem q2091 : (Jvm.Cond.instanceMethod ({ cls := "FifthCardModel", name := "laysAllWords", desc := "(I)V" } : Jvm.MethodName)) ∈ lw_all := lw_g (lw_at lw_m9 50 rfl) rfl
theorem q2092 : (Jvm.Cond.code ({ cls := "FifthCardModel", name := "laysAllWords", desc := "(I)V" } : Jvm.MethodName) prog_23_method_74_code (3 : Nat) (Option.none : Option Jvm.ClassFile.FieldType)) ∈ lw_all := lw_g (lw_at lw_m9 51 rfl) rfl
theorem q2094 : (Jvm.Cond.instanceMethod ({ cls := "FifthCardModel", name := "shortest", desc := "()I" } : Jvm.MethodName)) ∈ lw_all := lw_g (lw_at lw_m9 53 rfl) rfl
theorem q2095 : (Jvm.Cond.selects "FifthCardModel" ({ cls := "FifthCardModel", name := "shortest", desc := "()I" } : Jvm.MethodName) ({ cls := "FifthCardModel", name := "shortest", desc := "()I" } : Jvm.MethodName)) ∈ lw_all := lw_g (lw_at lw_m9 54 rfl) rfl
theorem q2096 : (Jvm.Cond.code ({ cls := "FifthCardModel", name := "shortest", desc := "()I" } : Jvm.MethodName) prog_23_method_95_code (2 : Nat) (Option.some Jvm.ClassFile.FieldType.int)) ∈ lw_all := lw_g (lw_at lw_m9 55 rfl) rfl
theorem q2098 : (Jvm.Cond.instanceMethod ({ cls := "FifthCardModel", name := "pairs", desc := "()I" } : Jvm.MethodName)) ∈ lw_all := lw_g (lw_at lw_m9 57 rfl) rfl
theorem q2099 : (Jvm.Cond.selects "FifthCardModel" ({ cls := "FifthCardModel", name := "pairs", desc := "()I" } : Jvm.MethodName) ({ cls := "FifthCardModel", name := "pairs", desc := "()I" } : Jvm.MethodName)) ∈ lw_all := lw_g (lw_at lw_m9 58 rfl) rfl
theorem q2100 : (Jvm.Cond.code ({ cls := "FifthCardModel", name := "pairs", desc := "()I" } : Jvm.MethodName) prog_23_method_99_code (1 : Nat) (Option.some Jvm.ClassFile.FieldType.int)) ∈ lw_all := lw_g (lw_at lw_m9 59 rfl) rfl
theorem q2102 : (Jvm.Cond.instanceMethod ({ cls := "FifthCardModel", name := "table", desc := "(I)I" } : Jvm.MethodName)) ∈ lw_all := lw_g (lw_at lw_m9 61 rfl) rfl
theorem q2103 : (Jvm.Cond.selects "FifthCardModel" ({ cls := "FifthCardModel", name := "table", desc := "(I)I" } : Jvm.MethodName) ({ cls := "FifthCardModel", name := "table", desc := "(I)I" } : Jvm.MethodName)) ∈ lw_all := lw_g (lw_at lw_m9 62 rfl) rfl
theorem q2104 : (Jvm.Cond.code ({ cls := "FifthCardModel", name := "table", desc := "(I)I" } : Jvm.MethodName) prog_23_method_102_code (2 : Nat) (Option.some Jvm.ClassFile.FieldType.int)) ∈ lw_all := lw_g (lw_at lw_m9 63 rfl) rfl
theorem q2106 : (Jvm.Cond.instanceMethod ({ cls := "FifthCardModel", name := "count", desc := "(IZ)J" } : Jvm.MethodName)) ∈ lw_all := lw_g (lw_at lw_m9 65 rfl) rfl
theorem q2107 : (Jvm.Cond.selects "FifthCardModel" ({ cls := "FifthCardModel", name := "count", desc := "(IZ)J" } : Jvm.MethodName) ({ cls := "FifthCardModel", name := "count", desc := "(IZ)J" } : Jvm.MethodName)) ∈ lw_all := lw_g (lw_at lw_m9 66 rfl) rfl
theorem q2108 : (Jvm.Cond.code ({ cls := "FifthCardModel", name := "count", desc := "(IZ)J" } : Jvm.MethodName) prog_23_method_104_code (3 : Nat) (Option.some Jvm.ClassFile.FieldType.long)) ∈ lw_all := lw_g (lw_at lw_m9 67 rfl) rfl
theorem q2109 : (Jvm.Cond.methodLink "FifthCardModel" (494 : Nat) ({ cls := "FifthCardModel", name := "countOf", desc := "(IZ)J" } : Jvm.MethodName)) ∈ lw_all := lw_g (lw_at lw_m9 68 rfl) rfl
theorem q2110 : (Jvm.Cond.privateMethod ({ cls := "FifthCardModel", name := "countOf", desc := "(IZ)J" } : Jvm.MethodName)) ∈ lw_tbl := lw_at lw_m9 69 rfl
theorem q2111 : (Jvm.Cond.instanceMethod ({ cls := "FifthCardModel", name := "countOf", desc := "(IZ)J" } : Jvm.MethodName)) ∈ lw_all := lw_g (lw_at lw_m9 70 rfl) rfl
theorem q2112 : (Jvm.Cond.code ({ cls := "FifthCardModel", name := "countOf", desc := "(IZ)J" } : Jvm.MethodName) prog_23_method_103_code (3 : Nat) (Option.some Jvm.ClassFile.FieldType.long)) ∈ lw_all := lw_g (lw_at lw_m9 71 rfl) rfl
theorem q2114 : (Jvm.Cond.instanceMethod ({ cls := "FifthCardModel", name := "most", desc := "()I" } : Jvm.MethodName)) ∈ lw_all := lw_g (lw_at lw_m9 73 rfl) rfl
theorem q2115 : (Jvm.Cond.selects "FifthCardModel" ({ cls := "FifthCardModel", name := "most", desc := "()I" } : Jvm.MethodName) ({ cls := "FifthCardModel", name := "most", desc := "()I" } : Jvm.MethodName)) ∈ lw_all := lw_g (lw_at lw_m9 74 rfl) rfl
theorem q2116 : (Jvm.Cond.code ({ cls := "FifthCardModel", name := "most", desc := "()I" } : Jvm.MethodName) prog_23_method_105_code (2 : Nat) (Option.some Jvm.ClassFile.FieldType.int)) ∈ lw_all := lw_g (lw_at lw_m9 75 rfl) rfl
theorem q2118 : (Jvm.Cond.instanceMethod ({ cls := "FifthCardModel", name := "judge", desc := "(I)I" } : Jvm.MethodName)) ∈ lw_all := lw_g (lw_at lw_m9 77 rfl) rfl
theorem q2119 : (Jvm.Cond.selects "FifthCardModel" ({ cls := "FifthCardModel", name := "judge", desc := "(I)I" } : Jvm.MethodName) ({ cls := "FifthCardModel", name := "judge", desc := "(I)I" } : Jvm.MethodName)) ∈ lw_all := lw_g (lw_at lw_m9 78 rfl) rfl
theorem q2120 : (Jvm.Cond.code ({ cls := "FifthCardModel", name := "judge", desc := "(I)I" } : Jvm.MethodName) prog_23_method_107_code (2 : Nat) (Option.some Jvm.ClassFile.FieldType.int)) ∈ lw_all := lw_g (lw_at lw_m9 79 rfl) rfl
theorem q2121 : (Jvm.Cond.methodLink "FifthCardModel" (498 : Nat) ({ cls := "FifthCardModel", name := "isEvening", desc := "(I)Z" } : Jvm.MethodName)) ∈ lw_all := lw_g (lw_at lw_m9 80 rfl) rfl
theorem q2122 : (Jvm.Cond.privateMethod ({ cls := "FifthCardModel", name := "isEvening", desc := "(I)Z" } : Jvm.MethodName)) ∈ lw_tbl := lw_at lw_m9 81 rfl
theorem q2123 : (Jvm.Cond.instanceMethod ({ cls := "FifthCardModel", name := "isEvening", desc := "(I)Z" } : Jvm.MethodName)) ∈ lw_all := lw_g (lw_at lw_m9 82 rfl) rfl
theorem q2124 : (Jvm.Cond.code ({ cls := "FifthCardModel", name := "isEvening", desc := "(I)Z" } : Jvm.MethodName) prog_23_method_106_code (2 : Nat) (Option.some Jvm.ClassFile.FieldType.boolean)) ∈ lw_all := lw_g (lw_at lw_m9 83 rfl) rfl
theorem q2126 : (Jvm.Cond.instanceMethod ({ cls := "FifthCardModel", name := "evening", desc := "(IZ)I" } : Jvm.MethodName)) ∈ lw_all := lw_g (lw_at lw_m9 85 rfl) rfl
theorem q2127 : (Jvm.Cond.selects "FifthCardModel" ({ cls := "FifthCardModel", name := "evening", desc := "(IZ)I" } : Jvm.MethodName) ({ cls := "FifthCardModel", name := "evening", desc := "(IZ)I" } : Jvm.MethodName)) ∈ lw_all := lw_g (lw_at lw_m9 86 rfl) rfl
theorem q2128 : (Jvm.Cond.code ({ cls := "FifthCardModel", name := "evening", desc := "(IZ)I" } : Jvm.MethodName) prog_23_method_108_code (3 : Nat) (Option.some Jvm.ClassFile.FieldType.int)) ∈ lw_all := lw_g (lw_at lw_m9 87 rfl) rfl
theorem q2130 : (Jvm.Cond.instanceMethod ({ cls := "FifthCardModel", name := "agrees", desc := "(I)I" } : Jvm.MethodName)) ∈ lw_all := lw_g (lw_at lw_m9 89 rfl) rfl
theorem q2131 : (Jvm.Cond.selects "FifthCardModel" ({ cls := "FifthCardModel", name := "agrees", desc := "(I)I" } : Jvm.MethodName) ({ cls := "FifthCardModel", name := "agrees", desc := "(I)I" } : Jvm.MethodName)) ∈ lw_all := lw_g (lw_at lw_m9 90 rfl) rfl
theorem q2132 : (Jvm.Cond.code ({ cls := "FifthCardModel", name := "agrees", desc := "(I)I" } : Jvm.MethodName) prog_23_method_110_code (4 : Nat) (Option.some Jvm.ClassFile.FieldType.int)) ∈ lw_all := lw_g (lw_at lw_m9 91 rfl) rfl
theorem q2133 : (Jvm.Cond.methodLink "FifthCardModel" (501 : Nat) ({ cls := "FifthCardModel", name := "agreesWith", desc := "(II)Z" } : Jvm.MethodName)) ∈ lw_all := lw_g (lw_at lw_m9 92 rfl) rfl
theorem q2134 : (Jvm.Cond.privateMethod ({ cls := "FifthCardModel", name := "agreesWith", desc := "(II)Z" } : Jvm.MethodName)) ∈ lw_tbl := lw_at lw_m9 93 rfl
theorem q2135 : (Jvm.Cond.instanceMethod ({ cls := "FifthCardModel", name := "agreesWith", desc := "(II)Z" } : Jvm.MethodName)) ∈ lw_all := lw_g (lw_at lw_m9 94 rfl) rfl
theorem q2136 : (Jvm.Cond.code ({ cls := "FifthCardModel", name := "agreesWith", desc := "(II)Z" } : Jvm.MethodName) prog_23_method_109_code (3 : Nat) (Option.some Jvm.ClassFile.FieldType.boolean)) ∈ lw_all := lw_g (lw_at lw_m9 95 rfl) rfl
theorem q2138 : (Jvm.Cond.instanceMethod ({ cls := "FifthCardModel", name := "wrong", desc := "(I)I" } : Jvm.MethodName)) ∈ lw_all := lw_g (lw_at lw_m9 97 rfl) rfl
theorem q2139 : (Jvm.Cond.selects "FifthCardModel" ({ cls := "FifthCardModel", name := "wrong", desc := "(I)I" } : Jvm.MethodName) ({ cls := "FifthCardModel", name := "wrong", desc := "(I)I" } : Jvm.MethodName)) ∈ lw_all := lw_g (lw_at lw_m9 98 rfl) rfl
theorem q2140 : (Jvm.Cond.code ({ cls := "FifthCardModel", name := "wrong", desc := "(I)I" } : Jvm.MethodName) prog_23_method_112_code (2 : Nat) (Option.some Jvm.ClassFile.FieldType.int)) ∈ lw_all := lw_g (lw_at lw_m9 99 rfl) rfl
theorem q2141 : (Jvm.Cond.methodLink "FifthCardModel" (504 : Nat) ({ cls := "FifthCardModel", name := "firstWrong", desc := "(I)I" } : Jvm.MethodName)) ∈ lw_all := lw_g (lw_at lw_m9 100 rfl) rfl
theorem q2142 : (Jvm.Cond.privateMethod ({ cls := "FifthCardModel", name := "firstWrong", desc := "(I)I" } : Jvm.MethodName)) ∈ lw_tbl := lw_at lw_m9 101 rfl
theorem q2143 : (Jvm.Cond.instanceMethod ({ cls := "FifthCardModel", name := "firstWrong", desc := "(I)I" } : Jvm.MethodName)) ∈ lw_all := lw_g (lw_at lw_m9 102 rfl) rfl
theorem q2144 : (Jvm.Cond.code ({ cls := "FifthCardModel", name := "firstWrong", desc := "(I)I" } : Jvm.MethodName) prog_23_method_111_code (3 : Nat) (Option.some Jvm.ClassFile.FieldType.int)) ∈ lw_all := lw_g (lw_at lw_m9 103 rfl) rfl
theorem q2146 : (Jvm.Cond.instanceMethod ({ cls := "FifthCardModel", name := "found", desc := "()I" } : Jvm.MethodName)) ∈ lw_all := lw_g (lw_at lw_m9 105 rfl) rfl
theorem q2147 : (Jvm.Cond.selects "FifthCardModel" ({ cls := "FifthCardModel", name := "found", desc := "()I" } : Jvm.MethodName) ({ cls := "FifthCardModel", name := "found", desc := "()I" } : Jvm.MethodName)) ∈ lw_all := lw_g (lw_at lw_m9 106 rfl) rfl
theorem q2148 : (Jvm.Cond.code ({ cls := "FifthCardModel", name := "found", desc := "()I" } : Jvm.MethodName) prog_23_method_113_code (3 : Nat) (Option.some Jvm.ClassFile.FieldType.int)) ∈ lw_all := lw_g (lw_at lw_m9 107 rfl) rfl
theorem q2150 : (Jvm.Cond.instanceMethod ({ cls := "FifthCardModel", name := "apart", desc := "(II)I" } : Jvm.MethodName)) ∈ lw_all := lw_g (lw_at lw_m9 109 rfl) rfl
theorem q2151 : (Jvm.Cond.selects "FifthCardModel" ({ cls := "FifthCardModel", name := "apart", desc := "(II)I" } : Jvm.MethodName) ({ cls := "FifthCardModel", name := "apart", desc := "(II)I" } : Jvm.MethodName)) ∈ lw_all := lw_g (lw_at lw_m9 110 rfl) rfl
theorem q2152 : (Jvm.Cond.code ({ cls := "FifthCardModel", name := "apart", desc := "(II)I" } : Jvm.MethodName) prog_23_method_116_code (3 : Nat) (Option.some Jvm.ClassFile.FieldType.int)) ∈ lw_all := lw_g (lw_at lw_m9 111 rfl) rfl
theorem q2153 : (Jvm.Cond.methodLink "FifthCardModel" (507 : Nat) ({ cls := "FifthCardModel", name := "areRules", desc := "(II)Z" } : Jvm.MethodName)) ∈ lw_all := lw_g (lw_at lw_m9 112 rfl) rfl
theorem q2154 : (Jvm.Cond.privateMethod ({ cls := "FifthCardModel", name := "areRules", desc := "(II)Z" } : Jvm.MethodName)) ∈ lw_tbl := lw_at lw_m9 113 rfl
theorem q2155 : (Jvm.Cond.instanceMethod ({ cls := "FifthCardModel", name := "areRules", desc := "(II)Z" } : Jvm.MethodName)) ∈ lw_all := lw_g (lw_at lw_m9 114 rfl) rfl
theorem q2156 : (Jvm.Cond.code ({ cls := "FifthCardModel", name := "areRules", desc := "(II)Z" } : Jvm.MethodName) prog_23_method_115_code (3 : Nat) (Option.some Jvm.ClassFile.FieldType.boolean)) ∈ lw_all := lw_g (lw_at lw_m9 115 rfl) rfl
theorem q2157 : (Jvm.Cond.methodLink "FifthCardModel" (510 : Nat) ({ cls := "FifthCardModel", name := "apartNow", desc := "(II)I" } : Jvm.MethodName)) ∈ lw_all := lw_g (lw_at lw_m9 116 rfl) rfl
theorem q2158 : (Jvm.Cond.privateMethod ({ cls := "FifthCardModel", name := "apartNow", desc := "(II)I" } : Jvm.MethodName)) ∈ lw_tbl := lw_at lw_m9 117 rfl
theorem q2159 : (Jvm.Cond.instanceMethod ({ cls := "FifthCardModel", name := "apartNow", desc := "(II)I" } : Jvm.MethodName)) ∈ lw_all := lw_g (lw_at lw_m9 118 rfl) rfl
theorem q2160 : (Jvm.Cond.code ({ cls := "FifthCardModel", name := "apartNow", desc := "(II)I" } : Jvm.MethodName) prog_23_method_114_code (5 : Nat) (Option.some Jvm.ClassFile.FieldType.int)) ∈ lw_all := lw_g (lw_at lw_m9 119 rfl) rfl
theorem q2162 : (Jvm.Cond.instanceMethod ({ cls := "FifthCardModel", name := "mean", desc := "(IIZ)I" } : Jvm.MethodName)) ∈ lw_all := lw_g (lw_at lw_m9 121 rfl) rfl
theorem q2163 : (Jvm.Cond.selects "FifthCardModel" ({ cls := "FifthCardModel", name := "mean", desc := "(IIZ)I" } : Jvm.MethodName) ({ cls := "FifthCardModel", name := "mean", desc := "(IIZ)I" } : Jvm.MethodName)) ∈ lw_all := lw_g (lw_at lw_m9 122 rfl) rfl
theorem q2164 : (Jvm.Cond.code ({ cls := "FifthCardModel", name := "mean", desc := "(IIZ)I" } : Jvm.MethodName) prog_23_method_117_code (5 : Nat) (Option.some Jvm.ClassFile.FieldType.int)) ∈ lw_all := lw_g (lw_at lw_m9 123 rfl) rfl
theorem q2165 : (Jvm.Cond.methodLink "FifthCardModel" (513 : Nat) ({ cls := "FifthCardModel", name := "divisor", desc := "(II)I" } : Jvm.MethodName)) ∈ lw_all := lw_g (lw_at lw_m9 124 rfl) rfl
theorem q2166 : (Jvm.Cond.static ({ cls := "FifthCardModel", name := "divisor", desc := "(II)I" } : Jvm.MethodName)) ∈ lw_all := lw_g (lw_at lw_m9 125 rfl) rfl
theorem q2167 : (Jvm.Cond.code ({ cls := "FifthCardModel", name := "divisor", desc := "(II)I" } : Jvm.MethodName) prog_23_method_8_code (5 : Nat) (Option.some Jvm.ClassFile.FieldType.int)) ∈ lw_all := lw_g (lw_at lw_m9 126 rfl) rfl
theorem q2169 : (Jvm.Cond.instanceMethod ({ cls := "FifthCardModel", name := "hardest", desc := "()I" } : Jvm.MethodName)) ∈ lw_all := lw_g (lw_at lw_m9 128 rfl) rfl
theorem q2170 : (Jvm.Cond.selects "FifthCardModel" ({ cls := "FifthCardModel", name := "hardest", desc := "()I" } : Jvm.MethodName) ({ cls := "FifthCardModel", name := "hardest", desc := "()I" } : Jvm.MethodName)) ∈ lw_all := lw_g (lw_at lw_m9 129 rfl) rfl
theorem q2171 : (Jvm.Cond.code ({ cls := "FifthCardModel", name := "hardest", desc := "()I" } : Jvm.MethodName) prog_23_method_118_code (6 : Nat) (Option.some Jvm.ClassFile.FieldType.int)) ∈ lw_all := lw_g (lw_at lw_m9 130 rfl) rfl
theorem q2173 : (Jvm.Cond.instanceMethod ({ cls := "FifthCardModel", name := "shows", desc := "(II)I" } : Jvm.MethodName)) ∈ lw_all := lw_g (lw_at lw_m9 132 rfl) rfl
theorem q2174 : (Jvm.Cond.selects "FifthCardModel" ({ cls := "FifthCardModel", name := "shows", desc := "(II)I" } : Jvm.MethodName) ({ cls := "FifthCardModel", name := "shows", desc := "(II)I" } : Jvm.MethodName)) ∈ lw_all := lw_g (lw_at lw_m9 133 rfl) rfl
theorem q2175 : (Jvm.Cond.code ({ cls := "FifthCardModel", name := "shows", desc := "(II)I" } : Jvm.MethodName) prog_23_method_119_code (4 : Nat) (Option.some Jvm.ClassFile.FieldType.int)) ∈ lw_all := lw_g (lw_at lw_m9 134 rfl) rfl
theorem q2177 : (Jvm.Cond.instanceMethod ({ cls := "FifthCardModel", name := "seed", desc := "(I)Z" } : Jvm.MethodName)) ∈ lw_all := lw_g (lw_at lw_m9 136 rfl) rfl
theorem q2178 : (Jvm.Cond.selects "FifthCardModel" ({ cls := "FifthCardModel", name := "seed", desc := "(I)Z" } : Jvm.MethodName) ({ cls := "FifthCardModel", name := "seed", desc := "(I)Z" } : Jvm.MethodName)) ∈ lw_all := lw_g (lw_at lw_m9 137 rfl) rfl
theorem q2179 : (Jvm.Cond.code ({ cls := "FifthCardModel", name := "seed", desc := "(I)Z" } : Jvm.MethodName) prog_23_method_120_code (2 : Nat) (Option.some Jvm.ClassFile.FieldType.boolean)) ∈ lw_all := lw_g (lw_at lw_m9 138 rfl) rfl
theorem q2180 : (Jvm.Cond.methodLink "FifthCardModel" (516 : Nat) ({ cls := "FifthCardModel", name := "denied", desc := "(I)Z" } : Jvm.MethodName)) ∈ lw_all := lw_g (lw_at lw_m9 139 rfl) rfl
theorem q2181 : (Jvm.Cond.privateMethod ({ cls := "FifthCardModel", name := "denied", desc := "(I)Z" } : Jvm.MethodName)) ∈ lw_tbl := lw_at lw_m9 140 rfl
theorem q2182 : (Jvm.Cond.instanceMethod ({ cls := "FifthCardModel", name := "denied", desc := "(I)Z" } : Jvm.MethodName)) ∈ lw_all := lw_g (lw_at lw_m9 141 rfl) rfl
theorem q2183 : (Jvm.Cond.code ({ cls := "FifthCardModel", name := "denied", desc := "(I)Z" } : Jvm.MethodName) prog_23_method_4_code (2 : Nat) (Option.some Jvm.ClassFile.FieldType.boolean)) ∈ lw_all := lw_g (lw_at lw_m9 142 rfl) rfl
theorem q2184 : (Jvm.Cond.constant "FifthCardModel" (519 : Nat) (65536 : Int32)) ∈ lw_all := lw_g (lw_at lw_m9 143 rfl) rfl
theorem q2185 : (Jvm.Cond.methodLink "FifthCardModel" (520 : Nat) ({ cls := "FifthCardModel", name := "granted", desc := "()Z" } : Jvm.MethodName)) ∈ lw_all := lw_g (lw_at lw_m9 144 rfl) rfl
theorem q2186 : (Jvm.Cond.privateMethod ({ cls := "FifthCardModel", name := "granted", desc := "()Z" } : Jvm.MethodName)) ∈ lw_tbl := lw_at lw_m9 145 rfl
theorem q2187 : (Jvm.Cond.instanceMethod ({ cls := "FifthCardModel", name := "granted", desc := "()Z" } : Jvm.MethodName)) ∈ lw_all := lw_g (lw_at lw_m9 146 rfl) rfl
theorem q2188 : (Jvm.Cond.code ({ cls := "FifthCardModel", name := "granted", desc := "()Z" } : Jvm.MethodName) prog_23_method_6_code (1 : Nat) (Option.some Jvm.ClassFile.FieldType.boolean)) ∈ lw_all := lw_g (lw_at lw_m9 147 rfl) rfl
theorem q2190 : (Jvm.Cond.instanceMethod ({ cls := "FifthCardModel", name := "draw", desc := "()I" } : Jvm.MethodName)) ∈ lw_all := lw_g (lw_at lw_m9 149 rfl) rfl
theorem q2191 : (Jvm.Cond.selects "FifthCardModel" ({ cls := "FifthCardModel", name := "draw", desc := "()I" } : Jvm.MethodName) ({ cls := "FifthCardModel", name := "draw", desc := "()I" } : Jvm.MethodName)) ∈ lw_all := lw_g (lw_at lw_m9 150 rfl) rfl
theorem q2192 : (Jvm.Cond.code ({ cls := "FifthCardModel", name := "draw", desc := "()I" } : Jvm.MethodName) prog_23_method_121_code (1 : Nat) (Option.some Jvm.ClassFile.FieldType.int)) ∈ lw_all := lw_g (lw_at lw_m9 151 rfl) rfl
theorem q2193 : (Jvm.Cond.constantLong "FifthCardModel" (523 : Nat) (75 : Int64)) ∈ lw_all := lw_g (lw_at lw_m9 152 rfl) rfl
theorem q2194 : (Jvm.Cond.constantLong "FifthCardModel" (525 : Nat) (74 : Int64)) ∈ lw_all := lw_g (lw_at lw_m9 153 rfl) rfl
theorem q2195 : (Jvm.Cond.constantLong "FifthCardModel" (527 : Nat) (65537 : Int64)) ∈ lw_all := lw_g (lw_at lw_m9 154 rfl) rfl
theorem q2197 : (Jvm.Cond.instanceMethod ({ cls := "FifthCardModel", name := "strike", desc := "()Z" } : Jvm.MethodName)) ∈ lw_all := lw_g (lw_at lw_m9 156 rfl) rfl
theorem q2198 : (Jvm.Cond.selects "FifthCardModel" ({ cls := "FifthCardModel", name := "strike", desc := "()Z" } : Jvm.MethodName) ({ cls := "FifthCardModel", name := "strike", desc := "()Z" } : Jvm.MethodName)) ∈ lw_all := lw_g (lw_at lw_m9 157 rfl) rfl
theorem q2199 : (Jvm.Cond.code ({ cls := "FifthCardModel", name := "strike", desc := "()Z" } : Jvm.MethodName) prog_23_method_122_code (1 : Nat) (Option.some Jvm.ClassFile.FieldType.boolean)) ∈ lw_all := lw_g (lw_at lw_m9 158 rfl) rfl
theorem q2201 : (Jvm.Cond.instanceMethod ({ cls := "FifthCardModel", name := "image", desc := "()I" } : Jvm.MethodName)) ∈ lw_all := lw_g (lw_at lw_m9 160 rfl) rfl
theorem q2202 : (Jvm.Cond.selects "FifthCardModel" ({ cls := "FifthCardModel", name := "image", desc := "()I" } : Jvm.MethodName) ({ cls := "FifthCardModel", name := "image", desc := "()I" } : Jvm.MethodName)) ∈ lw_all := lw_g (lw_at lw_m9 161 rfl) rfl
theorem q2203 : (Jvm.Cond.code ({ cls := "FifthCardModel", name := "image", desc := "()I" } : Jvm.MethodName) prog_23_method_123_code (2 : Nat) (Option.some Jvm.ClassFile.FieldType.int)) ∈ lw_all := lw_g (lw_at lw_m9 162 rfl) rfl
theorem q2205 : (Jvm.Cond.instanceMethod ({ cls := "FifthCardModel", name := "back", desc := "(I)Z" } : Jvm.MethodName)) ∈ lw_all := lw_g (lw_at lw_m9 164 rfl) rfl
theorem q2206 : (Jvm.Cond.selects "FifthCardModel" ({ cls := "FifthCardModel", name := "back", desc := "(I)Z" } : Jvm.MethodName) ({ cls := "FifthCardModel", name := "back", desc := "(I)Z" } : Jvm.MethodName)) ∈ lw_all := lw_g (lw_at lw_m9 165 rfl) rfl
theorem q2207 : (Jvm.Cond.code ({ cls := "FifthCardModel", name := "back", desc := "(I)Z" } : Jvm.MethodName) prog_23_method_124_code (3 : Nat) (Option.some Jvm.ClassFile.FieldType.boolean)) ∈ lw_all := lw_g (lw_at lw_m9 166 rfl) rfl
theorem q2209 : (Jvm.Cond.instanceMethod ({ cls := "FifthCardModel", name := "led", desc := "(II)I" } : Jvm.MethodName)) ∈ lw_all := lw_g (lw_at lw_m9 168 rfl) rfl
theorem q2210 : (Jvm.Cond.selects "FifthCardModel" ({ cls := "FifthCardModel", name := "led", desc := "(II)I" } : Jvm.MethodName) ({ cls := "FifthCardModel", name := "led", desc := "(II)I" } : Jvm.MethodName)) ∈ lw_all := lw_g (lw_at lw_m9 169 rfl) rfl
theorem q2211 : (Jvm.Cond.code ({ cls := "FifthCardModel", name := "led", desc := "(II)I" } : Jvm.MethodName) prog_23_method_125_code (5 : Nat) (Option.some Jvm.ClassFile.FieldType.int)) ∈ lw_all := lw_g (lw_at lw_m9 170 rfl) rfl
theorem q2213 : (Jvm.Cond.instanceMethod ({ cls := "FifthCardModel", name := "size", desc := "(I)I" } : Jvm.MethodName)) ∈ lw_all := lw_g (lw_at lw_m9 172 rfl) rfl
theorem q2214 : (Jvm.Cond.selects "FifthCardModel" ({ cls := "FifthCardModel", name := "size", desc := "(I)I" } : Jvm.MethodName) ({ cls := "FifthCardModel", name := "size", desc := "(I)I" } : Jvm.MethodName)) ∈ lw_all := lw_g (lw_at lw_m9 173 rfl) rfl
theorem q2215 : (Jvm.Cond.code ({ cls := "FifthCardModel", name := "size", desc := "(I)I" } : Jvm.MethodName) prog_23_method_126_code (2 : Nat) (Option.some Jvm.ClassFile.FieldType.int)) ∈ lw_all := lw_g (lw_at lw_m9 174 rfl) rfl
theorem q2217 : (Jvm.Cond.instanceMethod ({ cls := "FifthCardModel", name := "words", desc := "(I)I" } : Jvm.MethodName)) ∈ lw_all := lw_g (lw_at lw_m9 176 rfl) rfl
theorem q2218 : (Jvm.Cond.selects "FifthCardModel" ({ cls := "FifthCardModel", name := "words", desc := "(I)I" } : Jvm.MethodName) ({ cls := "FifthCardModel", name := "words", desc := "(I)I" } : Jvm.MethodName)) ∈ lw_all := lw_g (lw_at lw_m9 177 rfl) rfl
theorem q2219 : (Jvm.Cond.code ({ cls := "FifthCardModel", name := "words", desc := "(I)I" } : Jvm.MethodName) prog_23_method_127_code (2 : Nat) (Option.some Jvm.ClassFile.FieldType.int)) ∈ lw_all := lw_g (lw_at lw_m9 178 rfl) rfl
theorem q2221 : (Jvm.Cond.instanceMethod ({ cls := "FifthCardModel", name := "trouble", desc := "()I" } : Jvm.MethodName)) ∈ lw_all := lw_g (lw_at lw_m9 180 rfl) rfl
theorem q2222 : (Jvm.Cond.selects "FifthCardModel" ({ cls := "FifthCardModel", name := "trouble", desc := "()I" } : Jvm.MethodName) ({ cls := "FifthCardModel", name := "trouble", desc := "()I" } : Jvm.MethodName)) ∈ lw_all := lw_g (lw_at lw_m9 181 rfl) rfl
theorem q2223 : (Jvm.Cond.code ({ cls := "FifthCardModel", name := "trouble", desc := "()I" } : Jvm.MethodName) prog_23_method_128_code (1 : Nat) (Option.some Jvm.ClassFile.FieldType.int)) ∈ lw_all := lw_g (lw_at lw_m9 182 rfl) rfl
theorem q2240 : (Jvm.Cond.castable "FifthCardModel" "java/lang/Object") ∈ lw_tbl := lw_at lw_m9 199 rfl
theorem in_X19 : ∀ w ∈ wsX190, w ∈ lw_all := lw_in wsX190 [1497, 1499, 1501, 1503, 1505, 1507, 1509, 1511, 1513, 1515, 1517, 1519, 1521, 1523, 1525, 1527, 1529, 1531, 1533, 1535, 1537, 1539, 1541, 1543, 1545, 1547, 1549, 1551, 1553, 1555, 1557, 1559, 1561, 1563, 1565, 1567, 1569, 1571, 1573, 1575, 1577, 1579, 1581, 1583, 1585, 1587] (by decide +kernel) (by decide +kernel)
