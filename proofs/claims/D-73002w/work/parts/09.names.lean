set_option maxRecDepth 100000
/-! WindingSquareModel -/
def RX5 : String := "WindingSquareModel"
def TX5 : u_T := fun k => match k with
  | 0 => ("WindingSquareModel", "now", "[I", true)
  | 1 => ("WindingSquareModel", "s", "[I", true)
  | 2 => ("WindingSquareModel", "image", "[I", true)
  | 3 => ("WindingSquareModel", "past", "[I", true)
  | 4 => ("WindingSquareModel", "pasts", "I", false)
  | 5 => ("WindingSquareModel", "imaged", "Z", false)
  | 6 => ("WindingSquareModel", "thinking", "Z", false)
  | 7 => ("WindingSquareModel", "taped", "I", false)
  | 8 => ("WindingSquareModel", "size", "I", false)
  | 9 => ("WindingSquareModel", "at", "I", false)
  | 10 => ("WindingSquareModel", "bad", "I", false)
  | 11 => ("WindingSquareModel", "badKind", "I", false)
  | 12 => ("WindingSquareModel", "opens", "I", false)
  | 13 => ("WindingSquareModel", "fault0", "I", false)
  | 14 => ("WindingSquareModel", "faultAt", "I", false)
  | 15 => ("WindingSquareModel", "tape", "[I", true)
  | 16 => ("WindingSquareModel", "t", "[I", true)
  | 17 => ("WindingSquareModel", "codes", "I", false)
  | 18 => ("WindingSquareModel", "waits", "[I", true)
  | 19 => ("WindingSquareModel", "waiting", "I", false)
  | 20 => ("WindingSquareModel", "facts", "[I", true)
  | 21 => ("WindingSquareModel", "stack", "[I", true)
  | 22 => ("WindingSquareModel", "stepsBy", "[I", true)
  | 23 => ("WindingSquareModel", "farBy", "[I", true)
  | 24 => ("WindingSquareModel", "rowsBy", "[I", true)
  | 25 => ("WindingSquareModel", "rowsThen", "[I", true)
  | 26 => ("WindingSquareModel", "beenX", "[I", true)
  | 27 => ("WindingSquareModel", "beenY", "[I", true)
  | 28 => ("WindingSquareModel", "been", "I", false)
  | 29 => ("WindingSquareModel", "wound", "I", false)
  | 30 => ("WindingSquareModel", "twice", "I", false)
  | 31 => ("WindingSquareModel", "sideways", "[I", true)
  | 32 => ("WindingSquareModel", "sidewaysThen", "[I", true)
  | 33 => ("WindingSquareModel", "duelBy", "[I", true)
  | 34 => ("WindingSquareModel", "stoneAt", "[I", true)
  | 35 => ("WindingSquareModel", "laid", "[I", true)
  | 36 => ("WindingSquareModel", "laidThen", "[I", true)
  | 37 => ("WindingSquareModel", "partBy", "[I", true)
  | 38 => ("WindingSquareModel", "flockOf", "[I", true)
  | _ => ("WindingSquareModel", "valueOf", "[I", true)
def tyX5 : Nat → FieldType := fun k => match k with
  | 0 => .array .int
  | 1 => .array .int
  | 2 => .array .int
  | 3 => .array .int
  | 4 => .int
  | 5 => .boolean
  | 6 => .boolean
  | 7 => .int
  | 8 => .int
  | 9 => .int
  | 10 => .int
  | 11 => .int
  | 12 => .int
  | 13 => .int
  | 14 => .int
  | 15 => .array .int
  | 16 => .array .int
  | 17 => .int
  | 18 => .array .int
  | 19 => .int
  | 20 => .array .int
  | 21 => .array .int
  | 22 => .array .int
  | 23 => .array .int
  | 24 => .array .int
  | 25 => .array .int
  | 26 => .array .int
  | 27 => .array .int
  | 28 => .int
  | 29 => .int
  | 30 => .int
  | 31 => .array .int
  | 32 => .array .int
  | 33 => .array .int
  | 34 => .array .int
  | 35 => .array .int
  | 36 => .array .int
  | 37 => .array .int
  | 38 => .array .int
  | _ => .array .int
abbrev wsX50 : List Cond := u_ws RX5 TX5 40
set_option maxRecDepth 100000 in
theorem nmX5 : ∀ a, a < 40 → ∀ b, b < 40 → a ≠ b → (TX5 a).2.1 ≠ (TX5 b).2.1 := by decide +kernel
set_option maxRecDepth 100000 in
theorem tyX5_ok : ∀ k, k < 40 → parseFieldDescriptor (TX5 k).2.2.1 = some (tyX5 k) := by decide +kernel
abbrev cX5_init : ByteArray := prog_17_method_2_code
def yX5_init : MethodName := ⟨RX5, "<init>", "()V"⟩
def dkwX5_init_9 : List UInt8 := [17, 14, 137, 188, 10, 181, 0, 83, 177]
abbrev dktX5_init_9 : List UInt8 := dkwX5_init_9 ++ []
def dkwX5_init_8 : List UInt8 := [181, 0, 74, 42, 17, 0, 144, 188, 10, 181, 0, 77, 42, 17, 0, 144, 188, 10, 181, 0, 80, 42]
abbrev dktX5_init_8 : List UInt8 := dkwX5_init_8 ++ dktX5_init_9
def dkwX5_init_7 : List UInt8 := [181, 0, 65, 42, 17, 64, 0, 188, 10, 181, 0, 68, 42, 7, 188, 10, 181, 0, 71, 42, 7, 188, 10]
abbrev dktX5_init_7 : List UInt8 := dkwX5_init_7 ++ dktX5_init_8
def dkwX5_init_6 : List UInt8 := [42, 16, 31, 188, 10, 181, 0, 59, 42, 16, 31, 188, 10, 181, 0, 62, 42, 17, 57, 49, 188, 10]
abbrev dktX5_init_6 : List UInt8 := dkwX5_init_6 ++ dktX5_init_7
def dkwX5_init_5 : List UInt8 := [17, 47, 64, 188, 10, 181, 0, 50, 42, 16, 25, 188, 10, 181, 0, 53, 42, 16, 25, 188, 10, 181, 0, 56]
abbrev dktX5_init_5 : List UInt8 := dkwX5_init_5 ++ dktX5_init_6
def dkwX5_init_4 : List UInt8 := [188, 10, 181, 0, 41, 42, 17, 2, 64, 188, 10, 181, 0, 44, 42, 17, 47, 64, 188, 10, 181, 0, 47, 42]
abbrev dktX5_init_4 : List UInt8 := dkwX5_init_4 ++ dktX5_init_5
def dkwX5_init_3 : List UInt8 := [181, 0, 32, 42, 16, 10, 188, 10, 181, 0, 35, 42, 17, 1, 164, 188, 10, 181, 0, 38, 42, 17, 15, 192]
abbrev dktX5_init_3 : List UInt8 := dkwX5_init_3 ++ dktX5_init_4
def dkwX5_init_2 : List UInt8 := [17, 1, 144, 188, 10, 181, 0, 26, 42, 17, 9, 121, 188, 10, 181, 0, 29, 42, 17, 1, 164, 188, 10]
abbrev dktX5_init_2 : List UInt8 := dkwX5_init_2 ++ dktX5_init_3
def dkwX5_init_1 : List UInt8 := [17, 9, 121, 188, 10, 181, 0, 16, 42, 17, 22, 8, 188, 10, 181, 0, 19, 42, 2, 181, 0, 22, 42]
abbrev dktX5_init_1 : List UInt8 := dkwX5_init_1 ++ dktX5_init_2
def dkwX5_init_0 : List UInt8 := [42, 183, 0, 3, 42, 17, 9, 121, 188, 10, 181, 0, 9, 42, 17, 9, 121, 188, 10, 181, 0, 13, 42]
abbrev dktX5_init_0 : List UInt8 := dkwX5_init_0 ++ dktX5_init_1
theorem dksX5_init_0 : cX5_init.data.toList.drop 0 = dktX5_init_0 := by decide +kernel
theorem dksX5_init_1 : cX5_init.data.toList.drop 23 = dktX5_init_1 := dk_seg dksX5_init_0 23 rfl rfl
theorem dksX5_init_2 : cX5_init.data.toList.drop 46 = dktX5_init_2 := dk_seg dksX5_init_1 23 rfl rfl
theorem dksX5_init_3 : cX5_init.data.toList.drop 69 = dktX5_init_3 := dk_seg dksX5_init_2 23 rfl rfl
theorem dksX5_init_4 : cX5_init.data.toList.drop 93 = dktX5_init_4 := dk_seg dksX5_init_3 24 rfl rfl
theorem dksX5_init_5 : cX5_init.data.toList.drop 117 = dktX5_init_5 := dk_seg dksX5_init_4 24 rfl rfl
theorem dksX5_init_6 : cX5_init.data.toList.drop 141 = dktX5_init_6 := dk_seg dksX5_init_5 24 rfl rfl
theorem dksX5_init_7 : cX5_init.data.toList.drop 163 = dktX5_init_7 := dk_seg dksX5_init_6 22 rfl rfl
theorem dksX5_init_8 : cX5_init.data.toList.drop 186 = dktX5_init_8 := dk_seg dksX5_init_7 23 rfl rfl
theorem dksX5_init_9 : cX5_init.data.toList.drop 208 = dktX5_init_9 := dk_seg dksX5_init_8 22 rfl rfl
theorem dX5_init_0 : decode cX5_init 0 = .ok (.aload_n 0, 1) := dk_42 (dk_at dksX5_init_0 0 rfl rfl)
theorem dX5_init_1 : decode cX5_init 1 = .ok (.invokespecial 3, 3) := dk_183 0 3 (dk_at dksX5_init_0 1 rfl rfl)
theorem dX5_init_4 : decode cX5_init 4 = .ok (.aload_n 0, 1) := dk_42 (dk_at dksX5_init_0 4 rfl rfl)
theorem dX5_init_5 : decode cX5_init 5 = .ok (.sipush 2425, 3) := dk_17 9 121 (dk_at dksX5_init_0 5 rfl rfl)
theorem dX5_init_8 : decode cX5_init 8 = .ok (.newarray .int, 2) := dk_188_10 (dk_at dksX5_init_0 8 rfl rfl)
theorem dX5_init_10 : decode cX5_init 10 = .ok (.putfield 9, 3) := dk_181 0 9 (dk_at dksX5_init_0 10 rfl rfl)
theorem dX5_init_13 : decode cX5_init 13 = .ok (.aload_n 0, 1) := dk_42 (dk_at dksX5_init_0 13 rfl rfl)
theorem dX5_init_14 : decode cX5_init 14 = .ok (.sipush 2425, 3) := dk_17 9 121 (dk_at dksX5_init_0 14 rfl rfl)
theorem dX5_init_17 : decode cX5_init 17 = .ok (.newarray .int, 2) := dk_188_10 (dk_at dksX5_init_0 17 rfl rfl)
theorem dX5_init_19 : decode cX5_init 19 = .ok (.putfield 13, 3) := dk_181 0 13 (dk_at dksX5_init_0 19 rfl rfl)
theorem dX5_init_22 : decode cX5_init 22 = .ok (.aload_n 0, 1) := dk_42 (dk_at dksX5_init_0 22 rfl rfl)
theorem dX5_init_23 : decode cX5_init 23 = .ok (.sipush 2425, 3) := dk_17 9 121 (dk_at dksX5_init_1 0 rfl rfl)
theorem dX5_init_26 : decode cX5_init 26 = .ok (.newarray .int, 2) := dk_188_10 (dk_at dksX5_init_1 3 rfl rfl)
theorem dX5_init_28 : decode cX5_init 28 = .ok (.putfield 16, 3) := dk_181 0 16 (dk_at dksX5_init_1 5 rfl rfl)
theorem dX5_init_31 : decode cX5_init 31 = .ok (.aload_n 0, 1) := dk_42 (dk_at dksX5_init_1 8 rfl rfl)
theorem dX5_init_32 : decode cX5_init 32 = .ok (.sipush 5640, 3) := dk_17 22 8 (dk_at dksX5_init_1 9 rfl rfl)
theorem dX5_init_35 : decode cX5_init 35 = .ok (.newarray .int, 2) := dk_188_10 (dk_at dksX5_init_1 12 rfl rfl)
theorem dX5_init_37 : decode cX5_init 37 = .ok (.putfield 19, 3) := dk_181 0 19 (dk_at dksX5_init_1 14 rfl rfl)
theorem dX5_init_40 : decode cX5_init 40 = .ok (.aload_n 0, 1) := dk_42 (dk_at dksX5_init_1 17 rfl rfl)
theorem dX5_init_41 : decode cX5_init 41 = .ok (.iconst (-1), 1) := dk_2 (dk_at dksX5_init_1 18 rfl rfl)
theorem dX5_init_42 : decode cX5_init 42 = .ok (.putfield 22, 3) := dk_181 0 22 (dk_at dksX5_init_1 19 rfl rfl)
theorem dX5_init_45 : decode cX5_init 45 = .ok (.aload_n 0, 1) := dk_42 (dk_at dksX5_init_1 22 rfl rfl)
theorem dX5_init_46 : decode cX5_init 46 = .ok (.sipush 400, 3) := dk_17 1 144 (dk_at dksX5_init_2 0 rfl rfl)
theorem dX5_init_49 : decode cX5_init 49 = .ok (.newarray .int, 2) := dk_188_10 (dk_at dksX5_init_2 3 rfl rfl)
theorem dX5_init_51 : decode cX5_init 51 = .ok (.putfield 26, 3) := dk_181 0 26 (dk_at dksX5_init_2 5 rfl rfl)
theorem dX5_init_54 : decode cX5_init 54 = .ok (.aload_n 0, 1) := dk_42 (dk_at dksX5_init_2 8 rfl rfl)
theorem dX5_init_55 : decode cX5_init 55 = .ok (.sipush 2425, 3) := dk_17 9 121 (dk_at dksX5_init_2 9 rfl rfl)
theorem dX5_init_58 : decode cX5_init 58 = .ok (.newarray .int, 2) := dk_188_10 (dk_at dksX5_init_2 12 rfl rfl)
theorem dX5_init_60 : decode cX5_init 60 = .ok (.putfield 29, 3) := dk_181 0 29 (dk_at dksX5_init_2 14 rfl rfl)
theorem dX5_init_63 : decode cX5_init 63 = .ok (.aload_n 0, 1) := dk_42 (dk_at dksX5_init_2 17 rfl rfl)
theorem dX5_init_64 : decode cX5_init 64 = .ok (.sipush 420, 3) := dk_17 1 164 (dk_at dksX5_init_2 18 rfl rfl)
theorem dX5_init_67 : decode cX5_init 67 = .ok (.newarray .int, 2) := dk_188_10 (dk_at dksX5_init_2 21 rfl rfl)
theorem dX5_init_69 : decode cX5_init 69 = .ok (.putfield 32, 3) := dk_181 0 32 (dk_at dksX5_init_3 0 rfl rfl)
theorem dX5_init_72 : decode cX5_init 72 = .ok (.aload_n 0, 1) := dk_42 (dk_at dksX5_init_3 3 rfl rfl)
theorem dX5_init_73 : decode cX5_init 73 = .ok (.bipush 10, 2) := dk_16 10 (dk_at dksX5_init_3 4 rfl rfl)
theorem dX5_init_75 : decode cX5_init 75 = .ok (.newarray .int, 2) := dk_188_10 (dk_at dksX5_init_3 6 rfl rfl)
theorem dX5_init_77 : decode cX5_init 77 = .ok (.putfield 35, 3) := dk_181 0 35 (dk_at dksX5_init_3 8 rfl rfl)
theorem dX5_init_80 : decode cX5_init 80 = .ok (.aload_n 0, 1) := dk_42 (dk_at dksX5_init_3 11 rfl rfl)
theorem dX5_init_81 : decode cX5_init 81 = .ok (.sipush 420, 3) := dk_17 1 164 (dk_at dksX5_init_3 12 rfl rfl)
theorem dX5_init_84 : decode cX5_init 84 = .ok (.newarray .int, 2) := dk_188_10 (dk_at dksX5_init_3 15 rfl rfl)
theorem dX5_init_86 : decode cX5_init 86 = .ok (.putfield 38, 3) := dk_181 0 38 (dk_at dksX5_init_3 17 rfl rfl)
theorem dX5_init_89 : decode cX5_init 89 = .ok (.aload_n 0, 1) := dk_42 (dk_at dksX5_init_3 20 rfl rfl)
theorem dX5_init_90 : decode cX5_init 90 = .ok (.sipush 4032, 3) := dk_17 15 192 (dk_at dksX5_init_3 21 rfl rfl)
theorem dX5_init_93 : decode cX5_init 93 = .ok (.newarray .int, 2) := dk_188_10 (dk_at dksX5_init_4 0 rfl rfl)
theorem dX5_init_95 : decode cX5_init 95 = .ok (.putfield 41, 3) := dk_181 0 41 (dk_at dksX5_init_4 2 rfl rfl)
theorem dX5_init_98 : decode cX5_init 98 = .ok (.aload_n 0, 1) := dk_42 (dk_at dksX5_init_4 5 rfl rfl)
theorem dX5_init_99 : decode cX5_init 99 = .ok (.sipush 576, 3) := dk_17 2 64 (dk_at dksX5_init_4 6 rfl rfl)
theorem dX5_init_102 : decode cX5_init 102 = .ok (.newarray .int, 2) := dk_188_10 (dk_at dksX5_init_4 9 rfl rfl)
theorem dX5_init_104 : decode cX5_init 104 = .ok (.putfield 44, 3) := dk_181 0 44 (dk_at dksX5_init_4 11 rfl rfl)
theorem dX5_init_107 : decode cX5_init 107 = .ok (.aload_n 0, 1) := dk_42 (dk_at dksX5_init_4 14 rfl rfl)
theorem dX5_init_108 : decode cX5_init 108 = .ok (.sipush 12096, 3) := dk_17 47 64 (dk_at dksX5_init_4 15 rfl rfl)
theorem dX5_init_111 : decode cX5_init 111 = .ok (.newarray .int, 2) := dk_188_10 (dk_at dksX5_init_4 18 rfl rfl)
theorem dX5_init_113 : decode cX5_init 113 = .ok (.putfield 47, 3) := dk_181 0 47 (dk_at dksX5_init_4 20 rfl rfl)
theorem dX5_init_116 : decode cX5_init 116 = .ok (.aload_n 0, 1) := dk_42 (dk_at dksX5_init_4 23 rfl rfl)
theorem dX5_init_117 : decode cX5_init 117 = .ok (.sipush 12096, 3) := dk_17 47 64 (dk_at dksX5_init_5 0 rfl rfl)
theorem dX5_init_120 : decode cX5_init 120 = .ok (.newarray .int, 2) := dk_188_10 (dk_at dksX5_init_5 3 rfl rfl)
theorem dX5_init_122 : decode cX5_init 122 = .ok (.putfield 50, 3) := dk_181 0 50 (dk_at dksX5_init_5 5 rfl rfl)
theorem dX5_init_125 : decode cX5_init 125 = .ok (.aload_n 0, 1) := dk_42 (dk_at dksX5_init_5 8 rfl rfl)
theorem dX5_init_126 : decode cX5_init 126 = .ok (.bipush 25, 2) := dk_16 25 (dk_at dksX5_init_5 9 rfl rfl)
theorem dX5_init_128 : decode cX5_init 128 = .ok (.newarray .int, 2) := dk_188_10 (dk_at dksX5_init_5 11 rfl rfl)
theorem dX5_init_130 : decode cX5_init 130 = .ok (.putfield 53, 3) := dk_181 0 53 (dk_at dksX5_init_5 13 rfl rfl)
theorem dX5_init_133 : decode cX5_init 133 = .ok (.aload_n 0, 1) := dk_42 (dk_at dksX5_init_5 16 rfl rfl)
theorem dX5_init_134 : decode cX5_init 134 = .ok (.bipush 25, 2) := dk_16 25 (dk_at dksX5_init_5 17 rfl rfl)
theorem dX5_init_136 : decode cX5_init 136 = .ok (.newarray .int, 2) := dk_188_10 (dk_at dksX5_init_5 19 rfl rfl)
theorem dX5_init_138 : decode cX5_init 138 = .ok (.putfield 56, 3) := dk_181 0 56 (dk_at dksX5_init_5 21 rfl rfl)
theorem dX5_init_141 : decode cX5_init 141 = .ok (.aload_n 0, 1) := dk_42 (dk_at dksX5_init_6 0 rfl rfl)
theorem dX5_init_142 : decode cX5_init 142 = .ok (.bipush 31, 2) := dk_16 31 (dk_at dksX5_init_6 1 rfl rfl)
theorem dX5_init_144 : decode cX5_init 144 = .ok (.newarray .int, 2) := dk_188_10 (dk_at dksX5_init_6 3 rfl rfl)
theorem dX5_init_146 : decode cX5_init 146 = .ok (.putfield 59, 3) := dk_181 0 59 (dk_at dksX5_init_6 5 rfl rfl)
theorem dX5_init_149 : decode cX5_init 149 = .ok (.aload_n 0, 1) := dk_42 (dk_at dksX5_init_6 8 rfl rfl)
theorem dX5_init_150 : decode cX5_init 150 = .ok (.bipush 31, 2) := dk_16 31 (dk_at dksX5_init_6 9 rfl rfl)
theorem dX5_init_152 : decode cX5_init 152 = .ok (.newarray .int, 2) := dk_188_10 (dk_at dksX5_init_6 11 rfl rfl)
theorem dX5_init_154 : decode cX5_init 154 = .ok (.putfield 62, 3) := dk_181 0 62 (dk_at dksX5_init_6 13 rfl rfl)
theorem dX5_init_157 : decode cX5_init 157 = .ok (.aload_n 0, 1) := dk_42 (dk_at dksX5_init_6 16 rfl rfl)
theorem dX5_init_158 : decode cX5_init 158 = .ok (.sipush 14641, 3) := dk_17 57 49 (dk_at dksX5_init_6 17 rfl rfl)
theorem dX5_init_161 : decode cX5_init 161 = .ok (.newarray .int, 2) := dk_188_10 (dk_at dksX5_init_6 20 rfl rfl)
theorem dX5_init_163 : decode cX5_init 163 = .ok (.putfield 65, 3) := dk_181 0 65 (dk_at dksX5_init_7 0 rfl rfl)
theorem dX5_init_166 : decode cX5_init 166 = .ok (.aload_n 0, 1) := dk_42 (dk_at dksX5_init_7 3 rfl rfl)
theorem dX5_init_167 : decode cX5_init 167 = .ok (.sipush 16384, 3) := dk_17 64 0 (dk_at dksX5_init_7 4 rfl rfl)
theorem dX5_init_170 : decode cX5_init 170 = .ok (.newarray .int, 2) := dk_188_10 (dk_at dksX5_init_7 7 rfl rfl)
theorem dX5_init_172 : decode cX5_init 172 = .ok (.putfield 68, 3) := dk_181 0 68 (dk_at dksX5_init_7 9 rfl rfl)
theorem dX5_init_175 : decode cX5_init 175 = .ok (.aload_n 0, 1) := dk_42 (dk_at dksX5_init_7 12 rfl rfl)
theorem dX5_init_176 : decode cX5_init 176 = .ok (.iconst 4, 1) := dk_7 (dk_at dksX5_init_7 13 rfl rfl)
theorem dX5_init_177 : decode cX5_init 177 = .ok (.newarray .int, 2) := dk_188_10 (dk_at dksX5_init_7 14 rfl rfl)
theorem dX5_init_179 : decode cX5_init 179 = .ok (.putfield 71, 3) := dk_181 0 71 (dk_at dksX5_init_7 16 rfl rfl)
theorem dX5_init_182 : decode cX5_init 182 = .ok (.aload_n 0, 1) := dk_42 (dk_at dksX5_init_7 19 rfl rfl)
theorem dX5_init_183 : decode cX5_init 183 = .ok (.iconst 4, 1) := dk_7 (dk_at dksX5_init_7 20 rfl rfl)
theorem dX5_init_184 : decode cX5_init 184 = .ok (.newarray .int, 2) := dk_188_10 (dk_at dksX5_init_7 21 rfl rfl)
theorem dX5_init_186 : decode cX5_init 186 = .ok (.putfield 74, 3) := dk_181 0 74 (dk_at dksX5_init_8 0 rfl rfl)
theorem dX5_init_189 : decode cX5_init 189 = .ok (.aload_n 0, 1) := dk_42 (dk_at dksX5_init_8 3 rfl rfl)
theorem dX5_init_190 : decode cX5_init 190 = .ok (.sipush 144, 3) := dk_17 0 144 (dk_at dksX5_init_8 4 rfl rfl)
theorem dX5_init_193 : decode cX5_init 193 = .ok (.newarray .int, 2) := dk_188_10 (dk_at dksX5_init_8 7 rfl rfl)
theorem dX5_init_195 : decode cX5_init 195 = .ok (.putfield 77, 3) := dk_181 0 77 (dk_at dksX5_init_8 9 rfl rfl)
theorem dX5_init_198 : decode cX5_init 198 = .ok (.aload_n 0, 1) := dk_42 (dk_at dksX5_init_8 12 rfl rfl)
theorem dX5_init_199 : decode cX5_init 199 = .ok (.sipush 144, 3) := dk_17 0 144 (dk_at dksX5_init_8 13 rfl rfl)
theorem dX5_init_202 : decode cX5_init 202 = .ok (.newarray .int, 2) := dk_188_10 (dk_at dksX5_init_8 16 rfl rfl)
theorem dX5_init_204 : decode cX5_init 204 = .ok (.putfield 80, 3) := dk_181 0 80 (dk_at dksX5_init_8 18 rfl rfl)
theorem dX5_init_207 : decode cX5_init 207 = .ok (.aload_n 0, 1) := dk_42 (dk_at dksX5_init_8 21 rfl rfl)
theorem dX5_init_208 : decode cX5_init 208 = .ok (.sipush 3721, 3) := dk_17 14 137 (dk_at dksX5_init_9 0 rfl rfl)
theorem dX5_init_211 : decode cX5_init 211 = .ok (.newarray .int, 2) := dk_188_10 (dk_at dksX5_init_9 3 rfl rfl)
theorem dX5_init_213 : decode cX5_init 213 = .ok (.putfield 83, 3) := dk_181 0 83 (dk_at dksX5_init_9 5 rfl rfl)
theorem dX5_init_216 : decode cX5_init 216 = .ok (.return_, 1) := dk_177 (dk_at dksX5_init_9 8 rfl rfl)
abbrev cX5_feed : ByteArray := prog_17_method_21_code
def yX5_feed : MethodName := ⟨RX5, "feed", "(IIIII)I"⟩
def dkwX5_feed_5 : List UInt8 := [180, 0, 123, 172]
abbrev dktX5_feed_5 : List UInt8 := dkwX5_feed_5 ++ []
def dkwX5_feed_4 : List UInt8 := [122, 17, 0, 255, 126, 79, 42, 89, 180, 0, 123, 4, 96, 181, 0, 123, 132, 6, 1, 167, 255, 162, 42]
abbrev dktX5_feed_4 : List UInt8 := dkwX5_feed_4 ++ dktX5_feed_5
def dkwX5_feed_3 : List UInt8 := [21, 5, 54, 7, 42, 180, 0, 26, 42, 180, 0, 123, 21, 7, 16, 24, 16, 8, 21, 6, 7, 112, 104, 100]
abbrev dktX5_feed_3 : List UInt8 := dkwX5_feed_3 ++ dktX5_feed_4
def dkwX5_feed_2 : List UInt8 := [21, 6, 16, 12, 162, 0, 7, 29, 167, 0, 17, 21, 6, 16, 16, 162, 0, 8, 21, 4, 167, 0, 5]
abbrev dktX5_feed_2 : List UInt8 := dkwX5_feed_2 ++ dktX5_feed_3
def dkwX5_feed_1 : List UInt8 := [162, 0, 93, 21, 6, 7, 162, 0, 7, 27, 167, 0, 39, 21, 6, 16, 8, 162, 0, 7, 28, 167, 0, 28]
abbrev dktX5_feed_1 : List UInt8 := dkwX5_feed_1 ++ dktX5_feed_2
def dkwX5_feed_0 : List UInt8 := [42, 180, 0, 123, 16, 20, 96, 17, 1, 144, 164, 0, 5, 2, 172, 3, 54, 6, 21, 6, 16, 20]
abbrev dktX5_feed_0 : List UInt8 := dkwX5_feed_0 ++ dktX5_feed_1
theorem dksX5_feed_0 : cX5_feed.data.toList.drop 0 = dktX5_feed_0 := by decide +kernel
theorem dksX5_feed_1 : cX5_feed.data.toList.drop 22 = dktX5_feed_1 := dk_seg dksX5_feed_0 22 rfl rfl
theorem dksX5_feed_2 : cX5_feed.data.toList.drop 46 = dktX5_feed_2 := dk_seg dksX5_feed_1 24 rfl rfl
theorem dksX5_feed_3 : cX5_feed.data.toList.drop 69 = dktX5_feed_3 := dk_seg dksX5_feed_2 23 rfl rfl
theorem dksX5_feed_4 : cX5_feed.data.toList.drop 93 = dktX5_feed_4 := dk_seg dksX5_feed_3 24 rfl rfl
theorem dksX5_feed_5 : cX5_feed.data.toList.drop 116 = dktX5_feed_5 := dk_seg dksX5_feed_4 23 rfl rfl
theorem dX5_feed_0 : decode cX5_feed 0 = .ok (.aload_n 0, 1) := dk_42 (dk_at dksX5_feed_0 0 rfl rfl)
theorem dX5_feed_1 : decode cX5_feed 1 = .ok (.getfield 123, 3) := dk_180 0 123 (dk_at dksX5_feed_0 1 rfl rfl)
theorem dX5_feed_4 : decode cX5_feed 4 = .ok (.bipush 20, 2) := dk_16 20 (dk_at dksX5_feed_0 4 rfl rfl)
theorem dX5_feed_6 : decode cX5_feed 6 = .ok (.iadd, 1) := dk_96 (dk_at dksX5_feed_0 6 rfl rfl)
theorem dX5_feed_7 : decode cX5_feed 7 = .ok (.sipush 400, 3) := dk_17 1 144 (dk_at dksX5_feed_0 7 rfl rfl)
theorem dX5_feed_10 : decode cX5_feed 10 = .ok (.if_icmp .le 5, 3) := dk_164 0 5 (dk_at dksX5_feed_0 10 rfl rfl)
theorem dX5_feed_13 : decode cX5_feed 13 = .ok (.iconst (-1), 1) := dk_2 (dk_at dksX5_feed_0 13 rfl rfl)
theorem dX5_feed_14 : decode cX5_feed 14 = .ok (.ireturn, 1) := dk_172 (dk_at dksX5_feed_0 14 rfl rfl)
theorem dX5_feed_15 : decode cX5_feed 15 = .ok (.iconst 0, 1) := dk_3 (dk_at dksX5_feed_0 15 rfl rfl)
theorem dX5_feed_16 : decode cX5_feed 16 = .ok (.istore 6, 2) := dk_54 6 (dk_at dksX5_feed_0 16 rfl rfl)
theorem dX5_feed_18 : decode cX5_feed 18 = .ok (.iload 6, 2) := dk_21 6 (dk_at dksX5_feed_0 18 rfl rfl)
theorem dX5_feed_20 : decode cX5_feed 20 = .ok (.bipush 20, 2) := dk_16 20 (dk_at dksX5_feed_0 20 rfl rfl)
theorem dX5_feed_22 : decode cX5_feed 22 = .ok (.if_icmp .ge 93, 3) := dk_162 0 93 (dk_at dksX5_feed_1 0 rfl rfl)
theorem dX5_feed_25 : decode cX5_feed 25 = .ok (.iload 6, 2) := dk_21 6 (dk_at dksX5_feed_1 3 rfl rfl)
theorem dX5_feed_27 : decode cX5_feed 27 = .ok (.iconst 4, 1) := dk_7 (dk_at dksX5_feed_1 5 rfl rfl)
theorem dX5_feed_28 : decode cX5_feed 28 = .ok (.if_icmp .ge 7, 3) := dk_162 0 7 (dk_at dksX5_feed_1 6 rfl rfl)
theorem dX5_feed_31 : decode cX5_feed 31 = .ok (.iload_n 1, 1) := dk_27 (dk_at dksX5_feed_1 9 rfl rfl)
theorem dX5_feed_32 : decode cX5_feed 32 = .ok (.goto 39, 3) := dk_167 0 39 (dk_at dksX5_feed_1 10 rfl rfl)
theorem dX5_feed_35 : decode cX5_feed 35 = .ok (.iload 6, 2) := dk_21 6 (dk_at dksX5_feed_1 13 rfl rfl)
theorem dX5_feed_37 : decode cX5_feed 37 = .ok (.bipush 8, 2) := dk_16 8 (dk_at dksX5_feed_1 15 rfl rfl)
theorem dX5_feed_39 : decode cX5_feed 39 = .ok (.if_icmp .ge 7, 3) := dk_162 0 7 (dk_at dksX5_feed_1 17 rfl rfl)
theorem dX5_feed_42 : decode cX5_feed 42 = .ok (.iload_n 2, 1) := dk_28 (dk_at dksX5_feed_1 20 rfl rfl)
theorem dX5_feed_43 : decode cX5_feed 43 = .ok (.goto 28, 3) := dk_167 0 28 (dk_at dksX5_feed_1 21 rfl rfl)
theorem dX5_feed_46 : decode cX5_feed 46 = .ok (.iload 6, 2) := dk_21 6 (dk_at dksX5_feed_2 0 rfl rfl)
theorem dX5_feed_48 : decode cX5_feed 48 = .ok (.bipush 12, 2) := dk_16 12 (dk_at dksX5_feed_2 2 rfl rfl)
theorem dX5_feed_50 : decode cX5_feed 50 = .ok (.if_icmp .ge 7, 3) := dk_162 0 7 (dk_at dksX5_feed_2 4 rfl rfl)
theorem dX5_feed_53 : decode cX5_feed 53 = .ok (.iload_n 3, 1) := dk_29 (dk_at dksX5_feed_2 7 rfl rfl)
theorem dX5_feed_54 : decode cX5_feed 54 = .ok (.goto 17, 3) := dk_167 0 17 (dk_at dksX5_feed_2 8 rfl rfl)
theorem dX5_feed_57 : decode cX5_feed 57 = .ok (.iload 6, 2) := dk_21 6 (dk_at dksX5_feed_2 11 rfl rfl)
theorem dX5_feed_59 : decode cX5_feed 59 = .ok (.bipush 16, 2) := dk_16 16 (dk_at dksX5_feed_2 13 rfl rfl)
theorem dX5_feed_61 : decode cX5_feed 61 = .ok (.if_icmp .ge 8, 3) := dk_162 0 8 (dk_at dksX5_feed_2 15 rfl rfl)
theorem dX5_feed_64 : decode cX5_feed 64 = .ok (.iload 4, 2) := dk_21 4 (dk_at dksX5_feed_2 18 rfl rfl)
theorem dX5_feed_66 : decode cX5_feed 66 = .ok (.goto 5, 3) := dk_167 0 5 (dk_at dksX5_feed_2 20 rfl rfl)
theorem dX5_feed_69 : decode cX5_feed 69 = .ok (.iload 5, 2) := dk_21 5 (dk_at dksX5_feed_3 0 rfl rfl)
theorem dX5_feed_71 : decode cX5_feed 71 = .ok (.istore 7, 2) := dk_54 7 (dk_at dksX5_feed_3 2 rfl rfl)
theorem dX5_feed_73 : decode cX5_feed 73 = .ok (.aload_n 0, 1) := dk_42 (dk_at dksX5_feed_3 4 rfl rfl)
theorem dX5_feed_74 : decode cX5_feed 74 = .ok (.getfield 26, 3) := dk_180 0 26 (dk_at dksX5_feed_3 5 rfl rfl)
theorem dX5_feed_77 : decode cX5_feed 77 = .ok (.aload_n 0, 1) := dk_42 (dk_at dksX5_feed_3 8 rfl rfl)
theorem dX5_feed_78 : decode cX5_feed 78 = .ok (.getfield 123, 3) := dk_180 0 123 (dk_at dksX5_feed_3 9 rfl rfl)
theorem dX5_feed_81 : decode cX5_feed 81 = .ok (.iload 7, 2) := dk_21 7 (dk_at dksX5_feed_3 12 rfl rfl)
theorem dX5_feed_83 : decode cX5_feed 83 = .ok (.bipush 24, 2) := dk_16 24 (dk_at dksX5_feed_3 14 rfl rfl)
theorem dX5_feed_85 : decode cX5_feed 85 = .ok (.bipush 8, 2) := dk_16 8 (dk_at dksX5_feed_3 16 rfl rfl)
theorem dX5_feed_87 : decode cX5_feed 87 = .ok (.iload 6, 2) := dk_21 6 (dk_at dksX5_feed_3 18 rfl rfl)
theorem dX5_feed_89 : decode cX5_feed 89 = .ok (.iconst 4, 1) := dk_7 (dk_at dksX5_feed_3 20 rfl rfl)
theorem dX5_feed_90 : decode cX5_feed 90 = .ok (.irem, 1) := dk_112 (dk_at dksX5_feed_3 21 rfl rfl)
theorem dX5_feed_91 : decode cX5_feed 91 = .ok (.imul, 1) := dk_104 (dk_at dksX5_feed_3 22 rfl rfl)
theorem dX5_feed_92 : decode cX5_feed 92 = .ok (.isub, 1) := dk_100 (dk_at dksX5_feed_3 23 rfl rfl)
theorem dX5_feed_93 : decode cX5_feed 93 = .ok (.ishr, 1) := dk_122 (dk_at dksX5_feed_4 0 rfl rfl)
theorem dX5_feed_94 : decode cX5_feed 94 = .ok (.sipush 255, 3) := dk_17 0 255 (dk_at dksX5_feed_4 1 rfl rfl)
theorem dX5_feed_97 : decode cX5_feed 97 = .ok (.iand, 1) := dk_126 (dk_at dksX5_feed_4 4 rfl rfl)
theorem dX5_feed_98 : decode cX5_feed 98 = .ok (.iastore, 1) := dk_79 (dk_at dksX5_feed_4 5 rfl rfl)
theorem dX5_feed_99 : decode cX5_feed 99 = .ok (.aload_n 0, 1) := dk_42 (dk_at dksX5_feed_4 6 rfl rfl)
theorem dX5_feed_100 : decode cX5_feed 100 = .ok (.dup, 1) := dk_89 (dk_at dksX5_feed_4 7 rfl rfl)
theorem dX5_feed_101 : decode cX5_feed 101 = .ok (.getfield 123, 3) := dk_180 0 123 (dk_at dksX5_feed_4 8 rfl rfl)
theorem dX5_feed_104 : decode cX5_feed 104 = .ok (.iconst 1, 1) := dk_4 (dk_at dksX5_feed_4 11 rfl rfl)
theorem dX5_feed_105 : decode cX5_feed 105 = .ok (.iadd, 1) := dk_96 (dk_at dksX5_feed_4 12 rfl rfl)
theorem dX5_feed_106 : decode cX5_feed 106 = .ok (.putfield 123, 3) := dk_181 0 123 (dk_at dksX5_feed_4 13 rfl rfl)
theorem dX5_feed_109 : decode cX5_feed 109 = .ok (.iinc 6 1, 3) := dk_132 6 1 (dk_at dksX5_feed_4 16 rfl rfl)
theorem dX5_feed_112 : decode cX5_feed 112 = .ok (.goto (-94), 3) := dk_167 255 162 (dk_at dksX5_feed_4 19 rfl rfl)
theorem dX5_feed_115 : decode cX5_feed 115 = .ok (.aload_n 0, 1) := dk_42 (dk_at dksX5_feed_4 22 rfl rfl)
theorem dX5_feed_116 : decode cX5_feed 116 = .ok (.getfield 123, 3) := dk_180 0 123 (dk_at dksX5_feed_5 0 rfl rfl)
theorem dX5_feed_119 : decode cX5_feed 119 = .ok (.ireturn, 1) := dk_172 (dk_at dksX5_feed_5 3 rfl rfl)
abbrev cX5_end : ByteArray := prog_17_method_22_code
def yX5_end : MethodName := ⟨RX5, "end", "(I)Z"⟩
def dkwX5_end_0 : List UInt8 := [27, 3, 42, 180, 0, 123, 184, 0, 100, 154, 0, 5, 3, 172, 42, 27, 181, 0, 123, 4, 172]
abbrev dktX5_end_0 : List UInt8 := dkwX5_end_0 ++ []
theorem dksX5_end_0 : cX5_end.data.toList.drop 0 = dktX5_end_0 := by decide +kernel
theorem dX5_end_0 : decode cX5_end 0 = .ok (.iload_n 1, 1) := dk_27 (dk_at dksX5_end_0 0 rfl rfl)
theorem dX5_end_1 : decode cX5_end 1 = .ok (.iconst 0, 1) := dk_3 (dk_at dksX5_end_0 1 rfl rfl)
theorem dX5_end_2 : decode cX5_end 2 = .ok (.aload_n 0, 1) := dk_42 (dk_at dksX5_end_0 2 rfl rfl)
theorem dX5_end_3 : decode cX5_end 3 = .ok (.getfield 123, 3) := dk_180 0 123 (dk_at dksX5_end_0 3 rfl rfl)
theorem dX5_end_6 : decode cX5_end 6 = .ok (.invokestatic 100, 3) := dk_184 0 100 (dk_at dksX5_end_0 6 rfl rfl)
theorem dX5_end_9 : decode cX5_end 9 = .ok (.ifCond .ne 5, 3) := dk_154 0 5 (dk_at dksX5_end_0 9 rfl rfl)
theorem dX5_end_12 : decode cX5_end 12 = .ok (.iconst 0, 1) := dk_3 (dk_at dksX5_end_0 12 rfl rfl)
theorem dX5_end_13 : decode cX5_end 13 = .ok (.ireturn, 1) := dk_172 (dk_at dksX5_end_0 13 rfl rfl)
theorem dX5_end_14 : decode cX5_end 14 = .ok (.aload_n 0, 1) := dk_42 (dk_at dksX5_end_0 14 rfl rfl)
theorem dX5_end_15 : decode cX5_end 15 = .ok (.iload_n 1, 1) := dk_27 (dk_at dksX5_end_0 15 rfl rfl)
theorem dX5_end_16 : decode cX5_end 16 = .ok (.putfield 123, 3) := dk_181 0 123 (dk_at dksX5_end_0 16 rfl rfl)
theorem dX5_end_19 : decode cX5_end 19 = .ok (.iconst 1, 1) := dk_4 (dk_at dksX5_end_0 19 rfl rfl)
theorem dX5_end_20 : decode cX5_end 20 = .ok (.ireturn, 1) := dk_172 (dk_at dksX5_end_0 20 rfl rfl)
abbrev cX5_within : ByteArray := prog_17_method_1_code
def yX5_within : MethodName := ⟨RX5, "within", "(III)Z"⟩
def dkwX5_within_0 : List UInt8 := [26, 27, 161, 0, 12, 26, 28, 163, 0, 7, 4, 167, 0, 4, 3, 172]
abbrev dktX5_within_0 : List UInt8 := dkwX5_within_0 ++ []
theorem dksX5_within_0 : cX5_within.data.toList.drop 0 = dktX5_within_0 := by decide +kernel
theorem dX5_within_0 : decode cX5_within 0 = .ok (.iload_n 0, 1) := dk_26 (dk_at dksX5_within_0 0 rfl rfl)
theorem dX5_within_1 : decode cX5_within 1 = .ok (.iload_n 1, 1) := dk_27 (dk_at dksX5_within_0 1 rfl rfl)
theorem dX5_within_2 : decode cX5_within 2 = .ok (.if_icmp .lt 12, 3) := dk_161 0 12 (dk_at dksX5_within_0 2 rfl rfl)
theorem dX5_within_5 : decode cX5_within 5 = .ok (.iload_n 0, 1) := dk_26 (dk_at dksX5_within_0 5 rfl rfl)
theorem dX5_within_6 : decode cX5_within 6 = .ok (.iload_n 2, 1) := dk_28 (dk_at dksX5_within_0 6 rfl rfl)
theorem dX5_within_7 : decode cX5_within 7 = .ok (.if_icmp .gt 7, 3) := dk_163 0 7 (dk_at dksX5_within_0 7 rfl rfl)
theorem dX5_within_10 : decode cX5_within 10 = .ok (.iconst 1, 1) := dk_4 (dk_at dksX5_within_0 10 rfl rfl)
theorem dX5_within_11 : decode cX5_within 11 = .ok (.goto 4, 3) := dk_167 0 4 (dk_at dksX5_within_0 11 rfl rfl)
theorem dX5_within_14 : decode cX5_within 14 = .ok (.iconst 0, 1) := dk_3 (dk_at dksX5_within_0 14 rfl rfl)
theorem dX5_within_15 : decode cX5_within 15 = .ok (.ireturn, 1) := dk_172 (dk_at dksX5_within_0 15 rfl rfl)
abbrev cX5_text : ByteArray := prog_17_method_36_code
def yX5_text : MethodName := ⟨RX5, "text", "(I)I"⟩
def dkwX5_text_13 : List UInt8 := [167, 255, 225, 27, 158, 0, 8, 42, 3, 181, 0, 94, 28, 172]
abbrev dktX5_text_13 : List UInt8 := dkwX5_text_13 ++ []
def dkwX5_text_12 : List UInt8 := [160, 0, 26, 42, 180, 0, 9, 17, 0, 144, 16, 12, 29, 104, 96, 16, 8, 96, 3, 79, 132, 3, 1]
abbrev dktX5_text_12 : List UInt8 := dkwX5_text_12 ++ dktX5_text_13
def dkwX5_text_11 : List UInt8 := [184, 0, 86, 27, 4, 160, 0, 7, 42, 182, 0, 191, 3, 62, 29, 16, 16, 162, 0, 31, 27, 5]
abbrev dktX5_text_11 : List UInt8 := dkwX5_text_11 ++ dktX5_text_12
def dkwX5_text_10 : List UInt8 := [42, 180, 0, 29, 17, 3, 173, 27, 96, 28, 79, 42, 180, 0, 29, 42, 180, 0, 9, 17, 9, 121]
abbrev dktX5_text_10 : List UInt8 := dkwX5_text_10 ++ dktX5_text_11
def dkwX5_text_9 : List UInt8 := [182, 0, 149, 154, 0, 21, 42, 42, 180, 0, 129, 181, 0, 169, 42, 42, 180, 0, 126, 181, 0, 22, 2, 172]
abbrev dktX5_text_9 : List UInt8 := dkwX5_text_9 ++ dktX5_text_10
def dkwX5_text_8 : List UInt8 := [182, 0, 182, 167, 0, 8, 42, 28, 182, 0, 185, 42, 16, 59, 182, 0, 188, 132, 2, 1, 167, 255, 179, 42]
abbrev dktX5_text_8 : List UInt8 := dkwX5_text_8 ++ dktX5_text_9
def dkwX5_text_7 : List UInt8 := [167, 0, 34, 27, 4, 160, 0, 11, 42, 28, 182, 0, 179, 167, 0, 21, 27, 5, 160, 0, 11, 42, 28]
abbrev dktX5_text_7 : List UInt8 := dkwX5_text_7 ++ dktX5_text_8
def dkwX5_text_6 : List UInt8 := [155, 0, 69, 42, 180, 0, 132, 42, 180, 0, 135, 162, 0, 58, 27, 154, 0, 11, 42, 28, 182, 0, 175]
abbrev dktX5_text_6 : List UInt8 := dkwX5_text_6 ++ dktX5_text_7
def dkwX5_text_5 : List UInt8 := [42, 180, 0, 29, 29, 3, 79, 132, 3, 1, 167, 255, 239, 42, 182, 0, 149, 153, 0, 76, 42, 182, 0, 138]
abbrev dktX5_text_5 : List UInt8 := dkwX5_text_5 ++ dktX5_text_6
def dkwX5_text_4 : List UInt8 := [3, 79, 132, 3, 1, 167, 255, 239, 27, 5, 160, 0, 27, 17, 7, 133, 62, 29, 17, 9, 21, 162, 0, 16]
abbrev dktX5_text_4 : List UInt8 := dkwX5_text_4 ++ dktX5_text_5
def dkwX5_text_3 : List UInt8 := [42, 3, 181, 0, 172, 27, 4, 160, 0, 25, 3, 62, 29, 17, 0, 144, 162, 0, 16, 42, 180, 0, 29, 29]
abbrev dktX5_text_3 : List UInt8 := dkwX5_text_3 ++ dktX5_text_4
def dkwX5_text_2 : List UInt8 := [184, 0, 100, 154, 0, 5, 2, 172, 42, 180, 0, 9, 42, 180, 0, 29, 17, 9, 121, 184, 0, 86, 3, 61]
abbrev dktX5_text_2 : List UInt8 := dkwX5_text_2 ++ dktX5_text_3
def dkwX5_text_1 : List UInt8 := [3, 181, 0, 129, 42, 3, 181, 0, 166, 42, 3, 181, 0, 169, 42, 2, 181, 0, 22, 27, 3, 6]
abbrev dktX5_text_1 : List UInt8 := dkwX5_text_1 ++ dktX5_text_2
def dkwX5_text_0 : List UInt8 := [42, 42, 180, 0, 123, 181, 0, 135, 42, 3, 181, 0, 123, 42, 3, 181, 0, 132, 42, 2, 181, 0, 126, 42]
abbrev dktX5_text_0 : List UInt8 := dkwX5_text_0 ++ dktX5_text_1
theorem dksX5_text_0 : cX5_text.data.toList.drop 0 = dktX5_text_0 := by decide +kernel
theorem dksX5_text_1 : cX5_text.data.toList.drop 24 = dktX5_text_1 := dk_seg dksX5_text_0 24 rfl rfl
theorem dksX5_text_2 : cX5_text.data.toList.drop 46 = dktX5_text_2 := dk_seg dksX5_text_1 22 rfl rfl
theorem dksX5_text_3 : cX5_text.data.toList.drop 70 = dktX5_text_3 := dk_seg dksX5_text_2 24 rfl rfl
theorem dksX5_text_4 : cX5_text.data.toList.drop 94 = dktX5_text_4 := dk_seg dksX5_text_3 24 rfl rfl
theorem dksX5_text_5 : cX5_text.data.toList.drop 118 = dktX5_text_5 := dk_seg dksX5_text_4 24 rfl rfl
theorem dksX5_text_6 : cX5_text.data.toList.drop 142 = dktX5_text_6 := dk_seg dksX5_text_5 24 rfl rfl
theorem dksX5_text_7 : cX5_text.data.toList.drop 165 = dktX5_text_7 := dk_seg dksX5_text_6 23 rfl rfl
theorem dksX5_text_8 : cX5_text.data.toList.drop 188 = dktX5_text_8 := dk_seg dksX5_text_7 23 rfl rfl
theorem dksX5_text_9 : cX5_text.data.toList.drop 212 = dktX5_text_9 := dk_seg dksX5_text_8 24 rfl rfl
theorem dksX5_text_10 : cX5_text.data.toList.drop 236 = dktX5_text_10 := dk_seg dksX5_text_9 24 rfl rfl
theorem dksX5_text_11 : cX5_text.data.toList.drop 258 = dktX5_text_11 := dk_seg dksX5_text_10 22 rfl rfl
theorem dksX5_text_12 : cX5_text.data.toList.drop 280 = dktX5_text_12 := dk_seg dksX5_text_11 22 rfl rfl
theorem dksX5_text_13 : cX5_text.data.toList.drop 303 = dktX5_text_13 := dk_seg dksX5_text_12 23 rfl rfl
theorem dX5_text_0 : decode cX5_text 0 = .ok (.aload_n 0, 1) := dk_42 (dk_at dksX5_text_0 0 rfl rfl)
theorem dX5_text_1 : decode cX5_text 1 = .ok (.aload_n 0, 1) := dk_42 (dk_at dksX5_text_0 1 rfl rfl)
theorem dX5_text_2 : decode cX5_text 2 = .ok (.getfield 123, 3) := dk_180 0 123 (dk_at dksX5_text_0 2 rfl rfl)
theorem dX5_text_5 : decode cX5_text 5 = .ok (.putfield 135, 3) := dk_181 0 135 (dk_at dksX5_text_0 5 rfl rfl)
theorem dX5_text_8 : decode cX5_text 8 = .ok (.aload_n 0, 1) := dk_42 (dk_at dksX5_text_0 8 rfl rfl)
theorem dX5_text_9 : decode cX5_text 9 = .ok (.iconst 0, 1) := dk_3 (dk_at dksX5_text_0 9 rfl rfl)
theorem dX5_text_10 : decode cX5_text 10 = .ok (.putfield 123, 3) := dk_181 0 123 (dk_at dksX5_text_0 10 rfl rfl)
theorem dX5_text_13 : decode cX5_text 13 = .ok (.aload_n 0, 1) := dk_42 (dk_at dksX5_text_0 13 rfl rfl)
theorem dX5_text_14 : decode cX5_text 14 = .ok (.iconst 0, 1) := dk_3 (dk_at dksX5_text_0 14 rfl rfl)
theorem dX5_text_15 : decode cX5_text 15 = .ok (.putfield 132, 3) := dk_181 0 132 (dk_at dksX5_text_0 15 rfl rfl)
theorem dX5_text_18 : decode cX5_text 18 = .ok (.aload_n 0, 1) := dk_42 (dk_at dksX5_text_0 18 rfl rfl)
theorem dX5_text_19 : decode cX5_text 19 = .ok (.iconst (-1), 1) := dk_2 (dk_at dksX5_text_0 19 rfl rfl)
theorem dX5_text_20 : decode cX5_text 20 = .ok (.putfield 126, 3) := dk_181 0 126 (dk_at dksX5_text_0 20 rfl rfl)
theorem dX5_text_23 : decode cX5_text 23 = .ok (.aload_n 0, 1) := dk_42 (dk_at dksX5_text_0 23 rfl rfl)
theorem dX5_text_24 : decode cX5_text 24 = .ok (.iconst 0, 1) := dk_3 (dk_at dksX5_text_1 0 rfl rfl)
theorem dX5_text_25 : decode cX5_text 25 = .ok (.putfield 129, 3) := dk_181 0 129 (dk_at dksX5_text_1 1 rfl rfl)
theorem dX5_text_28 : decode cX5_text 28 = .ok (.aload_n 0, 1) := dk_42 (dk_at dksX5_text_1 4 rfl rfl)
theorem dX5_text_29 : decode cX5_text 29 = .ok (.iconst 0, 1) := dk_3 (dk_at dksX5_text_1 5 rfl rfl)
theorem dX5_text_30 : decode cX5_text 30 = .ok (.putfield 166, 3) := dk_181 0 166 (dk_at dksX5_text_1 6 rfl rfl)
theorem dX5_text_33 : decode cX5_text 33 = .ok (.aload_n 0, 1) := dk_42 (dk_at dksX5_text_1 9 rfl rfl)
theorem dX5_text_34 : decode cX5_text 34 = .ok (.iconst 0, 1) := dk_3 (dk_at dksX5_text_1 10 rfl rfl)
theorem dX5_text_35 : decode cX5_text 35 = .ok (.putfield 169, 3) := dk_181 0 169 (dk_at dksX5_text_1 11 rfl rfl)
theorem dX5_text_38 : decode cX5_text 38 = .ok (.aload_n 0, 1) := dk_42 (dk_at dksX5_text_1 14 rfl rfl)
theorem dX5_text_39 : decode cX5_text 39 = .ok (.iconst (-1), 1) := dk_2 (dk_at dksX5_text_1 15 rfl rfl)
theorem dX5_text_40 : decode cX5_text 40 = .ok (.putfield 22, 3) := dk_181 0 22 (dk_at dksX5_text_1 16 rfl rfl)
theorem dX5_text_43 : decode cX5_text 43 = .ok (.iload_n 1, 1) := dk_27 (dk_at dksX5_text_1 19 rfl rfl)
theorem dX5_text_44 : decode cX5_text 44 = .ok (.iconst 0, 1) := dk_3 (dk_at dksX5_text_1 20 rfl rfl)
theorem dX5_text_45 : decode cX5_text 45 = .ok (.iconst 3, 1) := dk_6 (dk_at dksX5_text_1 21 rfl rfl)
theorem dX5_text_46 : decode cX5_text 46 = .ok (.invokestatic 100, 3) := dk_184 0 100 (dk_at dksX5_text_2 0 rfl rfl)
theorem dX5_text_49 : decode cX5_text 49 = .ok (.ifCond .ne 5, 3) := dk_154 0 5 (dk_at dksX5_text_2 3 rfl rfl)
theorem dX5_text_52 : decode cX5_text 52 = .ok (.iconst (-1), 1) := dk_2 (dk_at dksX5_text_2 6 rfl rfl)
theorem dX5_text_53 : decode cX5_text 53 = .ok (.ireturn, 1) := dk_172 (dk_at dksX5_text_2 7 rfl rfl)
theorem dX5_text_54 : decode cX5_text 54 = .ok (.aload_n 0, 1) := dk_42 (dk_at dksX5_text_2 8 rfl rfl)
theorem dX5_text_55 : decode cX5_text 55 = .ok (.getfield 9, 3) := dk_180 0 9 (dk_at dksX5_text_2 9 rfl rfl)
theorem dX5_text_58 : decode cX5_text 58 = .ok (.aload_n 0, 1) := dk_42 (dk_at dksX5_text_2 12 rfl rfl)
theorem dX5_text_59 : decode cX5_text 59 = .ok (.getfield 29, 3) := dk_180 0 29 (dk_at dksX5_text_2 13 rfl rfl)
theorem dX5_text_62 : decode cX5_text 62 = .ok (.sipush 2425, 3) := dk_17 9 121 (dk_at dksX5_text_2 16 rfl rfl)
theorem dX5_text_65 : decode cX5_text 65 = .ok (.invokestatic 86, 3) := dk_184 0 86 (dk_at dksX5_text_2 19 rfl rfl)
theorem dX5_text_68 : decode cX5_text 68 = .ok (.iconst 0, 1) := dk_3 (dk_at dksX5_text_2 22 rfl rfl)
theorem dX5_text_69 : decode cX5_text 69 = .ok (.istore_n 2, 1) := dk_61 (dk_at dksX5_text_2 23 rfl rfl)
theorem dX5_text_70 : decode cX5_text 70 = .ok (.aload_n 0, 1) := dk_42 (dk_at dksX5_text_3 0 rfl rfl)
theorem dX5_text_71 : decode cX5_text 71 = .ok (.iconst 0, 1) := dk_3 (dk_at dksX5_text_3 1 rfl rfl)
theorem dX5_text_72 : decode cX5_text 72 = .ok (.putfield 172, 3) := dk_181 0 172 (dk_at dksX5_text_3 2 rfl rfl)
theorem dX5_text_75 : decode cX5_text 75 = .ok (.iload_n 1, 1) := dk_27 (dk_at dksX5_text_3 5 rfl rfl)
theorem dX5_text_76 : decode cX5_text 76 = .ok (.iconst 1, 1) := dk_4 (dk_at dksX5_text_3 6 rfl rfl)
theorem dX5_text_77 : decode cX5_text 77 = .ok (.if_icmp .ne 25, 3) := dk_160 0 25 (dk_at dksX5_text_3 7 rfl rfl)
theorem dX5_text_80 : decode cX5_text 80 = .ok (.iconst 0, 1) := dk_3 (dk_at dksX5_text_3 10 rfl rfl)
theorem dX5_text_81 : decode cX5_text 81 = .ok (.istore_n 3, 1) := dk_62 (dk_at dksX5_text_3 11 rfl rfl)
theorem dX5_text_82 : decode cX5_text 82 = .ok (.iload_n 3, 1) := dk_29 (dk_at dksX5_text_3 12 rfl rfl)
theorem dX5_text_83 : decode cX5_text 83 = .ok (.sipush 144, 3) := dk_17 0 144 (dk_at dksX5_text_3 13 rfl rfl)
theorem dX5_text_86 : decode cX5_text 86 = .ok (.if_icmp .ge 16, 3) := dk_162 0 16 (dk_at dksX5_text_3 16 rfl rfl)
theorem dX5_text_89 : decode cX5_text 89 = .ok (.aload_n 0, 1) := dk_42 (dk_at dksX5_text_3 19 rfl rfl)
theorem dX5_text_90 : decode cX5_text 90 = .ok (.getfield 29, 3) := dk_180 0 29 (dk_at dksX5_text_3 20 rfl rfl)
theorem dX5_text_93 : decode cX5_text 93 = .ok (.iload_n 3, 1) := dk_29 (dk_at dksX5_text_3 23 rfl rfl)
theorem dX5_text_94 : decode cX5_text 94 = .ok (.iconst 0, 1) := dk_3 (dk_at dksX5_text_4 0 rfl rfl)
theorem dX5_text_95 : decode cX5_text 95 = .ok (.iastore, 1) := dk_79 (dk_at dksX5_text_4 1 rfl rfl)
theorem dX5_text_96 : decode cX5_text 96 = .ok (.iinc 3 1, 3) := dk_132 3 1 (dk_at dksX5_text_4 2 rfl rfl)
theorem dX5_text_99 : decode cX5_text 99 = .ok (.goto (-17), 3) := dk_167 255 239 (dk_at dksX5_text_4 5 rfl rfl)
theorem dX5_text_102 : decode cX5_text 102 = .ok (.iload_n 1, 1) := dk_27 (dk_at dksX5_text_4 8 rfl rfl)
theorem dX5_text_103 : decode cX5_text 103 = .ok (.iconst 2, 1) := dk_5 (dk_at dksX5_text_4 9 rfl rfl)
theorem dX5_text_104 : decode cX5_text 104 = .ok (.if_icmp .ne 27, 3) := dk_160 0 27 (dk_at dksX5_text_4 10 rfl rfl)
theorem dX5_text_107 : decode cX5_text 107 = .ok (.sipush 1925, 3) := dk_17 7 133 (dk_at dksX5_text_4 13 rfl rfl)
theorem dX5_text_110 : decode cX5_text 110 = .ok (.istore_n 3, 1) := dk_62 (dk_at dksX5_text_4 16 rfl rfl)
theorem dX5_text_111 : decode cX5_text 111 = .ok (.iload_n 3, 1) := dk_29 (dk_at dksX5_text_4 17 rfl rfl)
theorem dX5_text_112 : decode cX5_text 112 = .ok (.sipush 2325, 3) := dk_17 9 21 (dk_at dksX5_text_4 18 rfl rfl)
theorem dX5_text_115 : decode cX5_text 115 = .ok (.if_icmp .ge 16, 3) := dk_162 0 16 (dk_at dksX5_text_4 21 rfl rfl)
theorem dX5_text_118 : decode cX5_text 118 = .ok (.aload_n 0, 1) := dk_42 (dk_at dksX5_text_5 0 rfl rfl)
theorem dX5_text_119 : decode cX5_text 119 = .ok (.getfield 29, 3) := dk_180 0 29 (dk_at dksX5_text_5 1 rfl rfl)
theorem dX5_text_122 : decode cX5_text 122 = .ok (.iload_n 3, 1) := dk_29 (dk_at dksX5_text_5 4 rfl rfl)
theorem dX5_text_123 : decode cX5_text 123 = .ok (.iconst 0, 1) := dk_3 (dk_at dksX5_text_5 5 rfl rfl)
theorem dX5_text_124 : decode cX5_text 124 = .ok (.iastore, 1) := dk_79 (dk_at dksX5_text_5 6 rfl rfl)
theorem dX5_text_125 : decode cX5_text 125 = .ok (.iinc 3 1, 3) := dk_132 3 1 (dk_at dksX5_text_5 7 rfl rfl)
theorem dX5_text_128 : decode cX5_text 128 = .ok (.goto (-17), 3) := dk_167 255 239 (dk_at dksX5_text_5 10 rfl rfl)
theorem dX5_text_131 : decode cX5_text 131 = .ok (.aload_n 0, 1) := dk_42 (dk_at dksX5_text_5 13 rfl rfl)
theorem dX5_text_132 : decode cX5_text 132 = .ok (.invokevirtual 149, 3) := dk_182 0 149 (dk_at dksX5_text_5 14 rfl rfl)
theorem dX5_text_135 : decode cX5_text 135 = .ok (.ifCond .eq 76, 3) := dk_153 0 76 (dk_at dksX5_text_5 17 rfl rfl)
theorem dX5_text_138 : decode cX5_text 138 = .ok (.aload_n 0, 1) := dk_42 (dk_at dksX5_text_5 20 rfl rfl)
theorem dX5_text_139 : decode cX5_text 139 = .ok (.invokevirtual 138, 3) := dk_182 0 138 (dk_at dksX5_text_5 21 rfl rfl)
theorem dX5_text_142 : decode cX5_text 142 = .ok (.ifCond .lt 69, 3) := dk_155 0 69 (dk_at dksX5_text_6 0 rfl rfl)
theorem dX5_text_145 : decode cX5_text 145 = .ok (.aload_n 0, 1) := dk_42 (dk_at dksX5_text_6 3 rfl rfl)
theorem dX5_text_146 : decode cX5_text 146 = .ok (.getfield 132, 3) := dk_180 0 132 (dk_at dksX5_text_6 4 rfl rfl)
theorem dX5_text_149 : decode cX5_text 149 = .ok (.aload_n 0, 1) := dk_42 (dk_at dksX5_text_6 7 rfl rfl)
theorem dX5_text_150 : decode cX5_text 150 = .ok (.getfield 135, 3) := dk_180 0 135 (dk_at dksX5_text_6 8 rfl rfl)
theorem dX5_text_153 : decode cX5_text 153 = .ok (.if_icmp .ge 58, 3) := dk_162 0 58 (dk_at dksX5_text_6 11 rfl rfl)
theorem dX5_text_156 : decode cX5_text 156 = .ok (.iload_n 1, 1) := dk_27 (dk_at dksX5_text_6 14 rfl rfl)
theorem dX5_text_157 : decode cX5_text 157 = .ok (.ifCond .ne 11, 3) := dk_154 0 11 (dk_at dksX5_text_6 15 rfl rfl)
theorem dX5_text_160 : decode cX5_text 160 = .ok (.aload_n 0, 1) := dk_42 (dk_at dksX5_text_6 18 rfl rfl)
theorem dX5_text_161 : decode cX5_text 161 = .ok (.iload_n 2, 1) := dk_28 (dk_at dksX5_text_6 19 rfl rfl)
theorem dX5_text_162 : decode cX5_text 162 = .ok (.invokevirtual 175, 3) := dk_182 0 175 (dk_at dksX5_text_6 20 rfl rfl)
theorem dX5_text_165 : decode cX5_text 165 = .ok (.goto 34, 3) := dk_167 0 34 (dk_at dksX5_text_7 0 rfl rfl)
theorem dX5_text_168 : decode cX5_text 168 = .ok (.iload_n 1, 1) := dk_27 (dk_at dksX5_text_7 3 rfl rfl)
theorem dX5_text_169 : decode cX5_text 169 = .ok (.iconst 1, 1) := dk_4 (dk_at dksX5_text_7 4 rfl rfl)
theorem dX5_text_170 : decode cX5_text 170 = .ok (.if_icmp .ne 11, 3) := dk_160 0 11 (dk_at dksX5_text_7 5 rfl rfl)
theorem dX5_text_173 : decode cX5_text 173 = .ok (.aload_n 0, 1) := dk_42 (dk_at dksX5_text_7 8 rfl rfl)
theorem dX5_text_174 : decode cX5_text 174 = .ok (.iload_n 2, 1) := dk_28 (dk_at dksX5_text_7 9 rfl rfl)
theorem dX5_text_175 : decode cX5_text 175 = .ok (.invokevirtual 179, 3) := dk_182 0 179 (dk_at dksX5_text_7 10 rfl rfl)
theorem dX5_text_178 : decode cX5_text 178 = .ok (.goto 21, 3) := dk_167 0 21 (dk_at dksX5_text_7 13 rfl rfl)
theorem dX5_text_181 : decode cX5_text 181 = .ok (.iload_n 1, 1) := dk_27 (dk_at dksX5_text_7 16 rfl rfl)
theorem dX5_text_182 : decode cX5_text 182 = .ok (.iconst 2, 1) := dk_5 (dk_at dksX5_text_7 17 rfl rfl)
theorem dX5_text_183 : decode cX5_text 183 = .ok (.if_icmp .ne 11, 3) := dk_160 0 11 (dk_at dksX5_text_7 18 rfl rfl)
theorem dX5_text_186 : decode cX5_text 186 = .ok (.aload_n 0, 1) := dk_42 (dk_at dksX5_text_7 21 rfl rfl)
theorem dX5_text_187 : decode cX5_text 187 = .ok (.iload_n 2, 1) := dk_28 (dk_at dksX5_text_7 22 rfl rfl)
theorem dX5_text_188 : decode cX5_text 188 = .ok (.invokevirtual 182, 3) := dk_182 0 182 (dk_at dksX5_text_8 0 rfl rfl)
theorem dX5_text_191 : decode cX5_text 191 = .ok (.goto 8, 3) := dk_167 0 8 (dk_at dksX5_text_8 3 rfl rfl)
theorem dX5_text_194 : decode cX5_text 194 = .ok (.aload_n 0, 1) := dk_42 (dk_at dksX5_text_8 6 rfl rfl)
theorem dX5_text_195 : decode cX5_text 195 = .ok (.iload_n 2, 1) := dk_28 (dk_at dksX5_text_8 7 rfl rfl)
theorem dX5_text_196 : decode cX5_text 196 = .ok (.invokevirtual 185, 3) := dk_182 0 185 (dk_at dksX5_text_8 8 rfl rfl)
theorem dX5_text_199 : decode cX5_text 199 = .ok (.aload_n 0, 1) := dk_42 (dk_at dksX5_text_8 11 rfl rfl)
theorem dX5_text_200 : decode cX5_text 200 = .ok (.bipush 59, 2) := dk_16 59 (dk_at dksX5_text_8 12 rfl rfl)
theorem dX5_text_202 : decode cX5_text 202 = .ok (.invokevirtual 188, 3) := dk_182 0 188 (dk_at dksX5_text_8 14 rfl rfl)
theorem dX5_text_205 : decode cX5_text 205 = .ok (.iinc 2 1, 3) := dk_132 2 1 (dk_at dksX5_text_8 17 rfl rfl)
theorem dX5_text_208 : decode cX5_text 208 = .ok (.goto (-77), 3) := dk_167 255 179 (dk_at dksX5_text_8 20 rfl rfl)
theorem dX5_text_211 : decode cX5_text 211 = .ok (.aload_n 0, 1) := dk_42 (dk_at dksX5_text_8 23 rfl rfl)
theorem dX5_text_212 : decode cX5_text 212 = .ok (.invokevirtual 149, 3) := dk_182 0 149 (dk_at dksX5_text_9 0 rfl rfl)
theorem dX5_text_215 : decode cX5_text 215 = .ok (.ifCond .ne 21, 3) := dk_154 0 21 (dk_at dksX5_text_9 3 rfl rfl)
theorem dX5_text_218 : decode cX5_text 218 = .ok (.aload_n 0, 1) := dk_42 (dk_at dksX5_text_9 6 rfl rfl)
theorem dX5_text_219 : decode cX5_text 219 = .ok (.aload_n 0, 1) := dk_42 (dk_at dksX5_text_9 7 rfl rfl)
theorem dX5_text_220 : decode cX5_text 220 = .ok (.getfield 129, 3) := dk_180 0 129 (dk_at dksX5_text_9 8 rfl rfl)
theorem dX5_text_223 : decode cX5_text 223 = .ok (.putfield 169, 3) := dk_181 0 169 (dk_at dksX5_text_9 11 rfl rfl)
theorem dX5_text_226 : decode cX5_text 226 = .ok (.aload_n 0, 1) := dk_42 (dk_at dksX5_text_9 14 rfl rfl)
theorem dX5_text_227 : decode cX5_text 227 = .ok (.aload_n 0, 1) := dk_42 (dk_at dksX5_text_9 15 rfl rfl)
theorem dX5_text_228 : decode cX5_text 228 = .ok (.getfield 126, 3) := dk_180 0 126 (dk_at dksX5_text_9 16 rfl rfl)
theorem dX5_text_231 : decode cX5_text 231 = .ok (.putfield 22, 3) := dk_181 0 22 (dk_at dksX5_text_9 19 rfl rfl)
theorem dX5_text_234 : decode cX5_text 234 = .ok (.iconst (-1), 1) := dk_2 (dk_at dksX5_text_9 22 rfl rfl)
theorem dX5_text_235 : decode cX5_text 235 = .ok (.ireturn, 1) := dk_172 (dk_at dksX5_text_9 23 rfl rfl)
theorem dX5_text_236 : decode cX5_text 236 = .ok (.aload_n 0, 1) := dk_42 (dk_at dksX5_text_10 0 rfl rfl)
theorem dX5_text_237 : decode cX5_text 237 = .ok (.getfield 29, 3) := dk_180 0 29 (dk_at dksX5_text_10 1 rfl rfl)
theorem dX5_text_240 : decode cX5_text 240 = .ok (.sipush 941, 3) := dk_17 3 173 (dk_at dksX5_text_10 4 rfl rfl)
theorem dX5_text_243 : decode cX5_text 243 = .ok (.iload_n 1, 1) := dk_27 (dk_at dksX5_text_10 7 rfl rfl)
theorem dX5_text_244 : decode cX5_text 244 = .ok (.iadd, 1) := dk_96 (dk_at dksX5_text_10 8 rfl rfl)
theorem dX5_text_245 : decode cX5_text 245 = .ok (.iload_n 2, 1) := dk_28 (dk_at dksX5_text_10 9 rfl rfl)
theorem dX5_text_246 : decode cX5_text 246 = .ok (.iastore, 1) := dk_79 (dk_at dksX5_text_10 10 rfl rfl)
theorem dX5_text_247 : decode cX5_text 247 = .ok (.aload_n 0, 1) := dk_42 (dk_at dksX5_text_10 11 rfl rfl)
theorem dX5_text_248 : decode cX5_text 248 = .ok (.getfield 29, 3) := dk_180 0 29 (dk_at dksX5_text_10 12 rfl rfl)
theorem dX5_text_251 : decode cX5_text 251 = .ok (.aload_n 0, 1) := dk_42 (dk_at dksX5_text_10 15 rfl rfl)
theorem dX5_text_252 : decode cX5_text 252 = .ok (.getfield 9, 3) := dk_180 0 9 (dk_at dksX5_text_10 16 rfl rfl)
theorem dX5_text_255 : decode cX5_text 255 = .ok (.sipush 2425, 3) := dk_17 9 121 (dk_at dksX5_text_10 19 rfl rfl)
theorem dX5_text_258 : decode cX5_text 258 = .ok (.invokestatic 86, 3) := dk_184 0 86 (dk_at dksX5_text_11 0 rfl rfl)
theorem dX5_text_261 : decode cX5_text 261 = .ok (.iload_n 1, 1) := dk_27 (dk_at dksX5_text_11 3 rfl rfl)
theorem dX5_text_262 : decode cX5_text 262 = .ok (.iconst 1, 1) := dk_4 (dk_at dksX5_text_11 4 rfl rfl)
theorem dX5_text_263 : decode cX5_text 263 = .ok (.if_icmp .ne 7, 3) := dk_160 0 7 (dk_at dksX5_text_11 5 rfl rfl)
theorem dX5_text_266 : decode cX5_text 266 = .ok (.aload_n 0, 1) := dk_42 (dk_at dksX5_text_11 8 rfl rfl)
theorem dX5_text_267 : decode cX5_text 267 = .ok (.invokevirtual 191, 3) := dk_182 0 191 (dk_at dksX5_text_11 9 rfl rfl)
theorem dX5_text_270 : decode cX5_text 270 = .ok (.iconst 0, 1) := dk_3 (dk_at dksX5_text_11 12 rfl rfl)
theorem dX5_text_271 : decode cX5_text 271 = .ok (.istore_n 3, 1) := dk_62 (dk_at dksX5_text_11 13 rfl rfl)
theorem dX5_text_272 : decode cX5_text 272 = .ok (.iload_n 3, 1) := dk_29 (dk_at dksX5_text_11 14 rfl rfl)
theorem dX5_text_273 : decode cX5_text 273 = .ok (.bipush 16, 2) := dk_16 16 (dk_at dksX5_text_11 15 rfl rfl)
theorem dX5_text_275 : decode cX5_text 275 = .ok (.if_icmp .ge 31, 3) := dk_162 0 31 (dk_at dksX5_text_11 17 rfl rfl)
theorem dX5_text_278 : decode cX5_text 278 = .ok (.iload_n 1, 1) := dk_27 (dk_at dksX5_text_11 20 rfl rfl)
theorem dX5_text_279 : decode cX5_text 279 = .ok (.iconst 2, 1) := dk_5 (dk_at dksX5_text_11 21 rfl rfl)
theorem dX5_text_280 : decode cX5_text 280 = .ok (.if_icmp .ne 26, 3) := dk_160 0 26 (dk_at dksX5_text_12 0 rfl rfl)
theorem dX5_text_283 : decode cX5_text 283 = .ok (.aload_n 0, 1) := dk_42 (dk_at dksX5_text_12 3 rfl rfl)
theorem dX5_text_284 : decode cX5_text 284 = .ok (.getfield 9, 3) := dk_180 0 9 (dk_at dksX5_text_12 4 rfl rfl)
theorem dX5_text_287 : decode cX5_text 287 = .ok (.sipush 144, 3) := dk_17 0 144 (dk_at dksX5_text_12 7 rfl rfl)
theorem dX5_text_290 : decode cX5_text 290 = .ok (.bipush 12, 2) := dk_16 12 (dk_at dksX5_text_12 10 rfl rfl)
theorem dX5_text_292 : decode cX5_text 292 = .ok (.iload_n 3, 1) := dk_29 (dk_at dksX5_text_12 12 rfl rfl)
theorem dX5_text_293 : decode cX5_text 293 = .ok (.imul, 1) := dk_104 (dk_at dksX5_text_12 13 rfl rfl)
theorem dX5_text_294 : decode cX5_text 294 = .ok (.iadd, 1) := dk_96 (dk_at dksX5_text_12 14 rfl rfl)
theorem dX5_text_295 : decode cX5_text 295 = .ok (.bipush 8, 2) := dk_16 8 (dk_at dksX5_text_12 15 rfl rfl)
theorem dX5_text_297 : decode cX5_text 297 = .ok (.iadd, 1) := dk_96 (dk_at dksX5_text_12 17 rfl rfl)
theorem dX5_text_298 : decode cX5_text 298 = .ok (.iconst 0, 1) := dk_3 (dk_at dksX5_text_12 18 rfl rfl)
theorem dX5_text_299 : decode cX5_text 299 = .ok (.iastore, 1) := dk_79 (dk_at dksX5_text_12 19 rfl rfl)
theorem dX5_text_300 : decode cX5_text 300 = .ok (.iinc 3 1, 3) := dk_132 3 1 (dk_at dksX5_text_12 20 rfl rfl)
theorem dX5_text_303 : decode cX5_text 303 = .ok (.goto (-31), 3) := dk_167 255 225 (dk_at dksX5_text_13 0 rfl rfl)
theorem dX5_text_306 : decode cX5_text 306 = .ok (.iload_n 1, 1) := dk_27 (dk_at dksX5_text_13 3 rfl rfl)
theorem dX5_text_307 : decode cX5_text 307 = .ok (.ifCond .le 8, 3) := dk_158 0 8 (dk_at dksX5_text_13 4 rfl rfl)
theorem dX5_text_310 : decode cX5_text 310 = .ok (.aload_n 0, 1) := dk_42 (dk_at dksX5_text_13 7 rfl rfl)
theorem dX5_text_311 : decode cX5_text 311 = .ok (.iconst 0, 1) := dk_3 (dk_at dksX5_text_13 8 rfl rfl)
theorem dX5_text_312 : decode cX5_text 312 = .ok (.putfield 94, 3) := dk_181 0 94 (dk_at dksX5_text_13 9 rfl rfl)
theorem dX5_text_315 : decode cX5_text 315 = .ok (.iload_n 2, 1) := dk_28 (dk_at dksX5_text_13 12 rfl rfl)
theorem dX5_text_316 : decode cX5_text 316 = .ok (.ireturn, 1) := dk_172 (dk_at dksX5_text_13 13 rfl rfl)
abbrev cX5_copies : ByteArray := prog_17_method_3_code
def yX5_copies : MethodName := ⟨RX5, "copies", "([I[II)V"⟩
def dkwX5_copies_0 : List UInt8 := [3, 62, 29, 28, 162, 0, 15, 43, 29, 42, 29, 46, 79, 132, 3, 1, 167, 255, 242, 177]
abbrev dktX5_copies_0 : List UInt8 := dkwX5_copies_0 ++ []
theorem dksX5_copies_0 : cX5_copies.data.toList.drop 0 = dktX5_copies_0 := by decide +kernel
theorem dX5_copies_0 : decode cX5_copies 0 = .ok (.iconst 0, 1) := dk_3 (dk_at dksX5_copies_0 0 rfl rfl)
theorem dX5_copies_1 : decode cX5_copies 1 = .ok (.istore_n 3, 1) := dk_62 (dk_at dksX5_copies_0 1 rfl rfl)
theorem dX5_copies_2 : decode cX5_copies 2 = .ok (.iload_n 3, 1) := dk_29 (dk_at dksX5_copies_0 2 rfl rfl)
theorem dX5_copies_3 : decode cX5_copies 3 = .ok (.iload_n 2, 1) := dk_28 (dk_at dksX5_copies_0 3 rfl rfl)
theorem dX5_copies_4 : decode cX5_copies 4 = .ok (.if_icmp .ge 15, 3) := dk_162 0 15 (dk_at dksX5_copies_0 4 rfl rfl)
theorem dX5_copies_7 : decode cX5_copies 7 = .ok (.aload_n 1, 1) := dk_43 (dk_at dksX5_copies_0 7 rfl rfl)
theorem dX5_copies_8 : decode cX5_copies 8 = .ok (.iload_n 3, 1) := dk_29 (dk_at dksX5_copies_0 8 rfl rfl)
theorem dX5_copies_9 : decode cX5_copies 9 = .ok (.aload_n 0, 1) := dk_42 (dk_at dksX5_copies_0 9 rfl rfl)
theorem dX5_copies_10 : decode cX5_copies 10 = .ok (.iload_n 3, 1) := dk_29 (dk_at dksX5_copies_0 10 rfl rfl)
theorem dX5_copies_11 : decode cX5_copies 11 = .ok (.iaload, 1) := dk_46 (dk_at dksX5_copies_0 11 rfl rfl)
theorem dX5_copies_12 : decode cX5_copies 12 = .ok (.iastore, 1) := dk_79 (dk_at dksX5_copies_0 12 rfl rfl)
theorem dX5_copies_13 : decode cX5_copies 13 = .ok (.iinc 3 1, 3) := dk_132 3 1 (dk_at dksX5_copies_0 13 rfl rfl)
theorem dX5_copies_16 : decode cX5_copies 16 = .ok (.goto (-14), 3) := dk_167 255 242 (dk_at dksX5_copies_0 16 rfl rfl)
theorem dX5_copies_19 : decode cX5_copies 19 = .ok (.return_, 1) := dk_177 (dk_at dksX5_copies_0 19 rfl rfl)
abbrev cX5_fine : ByteArray := prog_17_method_23_code
def yX5_fine : MethodName := ⟨RX5, "fine", "()Z"⟩
def dkwX5_fine_0 : List UInt8 := [42, 180, 0, 126, 2, 160, 0, 7, 4, 167, 0, 4, 3, 172]
abbrev dktX5_fine_0 : List UInt8 := dkwX5_fine_0 ++ []
theorem dksX5_fine_0 : cX5_fine.data.toList.drop 0 = dktX5_fine_0 := by decide +kernel
theorem dX5_fine_0 : decode cX5_fine 0 = .ok (.aload_n 0, 1) := dk_42 (dk_at dksX5_fine_0 0 rfl rfl)
theorem dX5_fine_1 : decode cX5_fine 1 = .ok (.getfield 126, 3) := dk_180 0 126 (dk_at dksX5_fine_0 1 rfl rfl)
theorem dX5_fine_4 : decode cX5_fine 4 = .ok (.iconst (-1), 1) := dk_2 (dk_at dksX5_fine_0 4 rfl rfl)
theorem dX5_fine_5 : decode cX5_fine 5 = .ok (.if_icmp .ne 7, 3) := dk_160 0 7 (dk_at dksX5_fine_0 5 rfl rfl)
theorem dX5_fine_8 : decode cX5_fine 8 = .ok (.iconst 1, 1) := dk_4 (dk_at dksX5_fine_0 8 rfl rfl)
theorem dX5_fine_9 : decode cX5_fine 9 = .ok (.goto 4, 3) := dk_167 0 4 (dk_at dksX5_fine_0 9 rfl rfl)
theorem dX5_fine_12 : decode cX5_fine 12 = .ok (.iconst 0, 1) := dk_3 (dk_at dksX5_fine_0 12 rfl rfl)
theorem dX5_fine_13 : decode cX5_fine 13 = .ok (.ireturn, 1) := dk_172 (dk_at dksX5_fine_0 13 rfl rfl)
abbrev cX5_here : ByteArray := prog_17_method_25_code
def yX5_here : MethodName := ⟨RX5, "here", "()I"⟩
def dkwX5_here_3 : List UInt8 := [180, 0, 132, 46, 167, 0, 4, 3, 172]
abbrev dktX5_here_3 : List UInt8 := dkwX5_here_3 ++ []
def dkwX5_here_2 : List UInt8 := [181, 0, 132, 167, 255, 207, 42, 180, 0, 132, 42, 180, 0, 135, 162, 0, 15, 42, 180, 0, 26, 42]
abbrev dktX5_here_2 : List UInt8 := dkwX5_here_2 ++ dktX5_here_3
def dkwX5_here_1 : List UInt8 := [159, 0, 17, 42, 180, 0, 26, 42, 180, 0, 132, 46, 16, 10, 160, 0, 16, 42, 89, 180, 0, 132, 4, 96]
abbrev dktX5_here_1 : List UInt8 := dkwX5_here_1 ++ dktX5_here_2
def dkwX5_here_0 : List UInt8 := [42, 180, 0, 132, 42, 180, 0, 135, 162, 0, 44, 42, 180, 0, 26, 42, 180, 0, 132, 46, 16, 32]
abbrev dktX5_here_0 : List UInt8 := dkwX5_here_0 ++ dktX5_here_1
theorem dksX5_here_0 : cX5_here.data.toList.drop 0 = dktX5_here_0 := by decide +kernel
theorem dksX5_here_1 : cX5_here.data.toList.drop 22 = dktX5_here_1 := dk_seg dksX5_here_0 22 rfl rfl
theorem dksX5_here_2 : cX5_here.data.toList.drop 46 = dktX5_here_2 := dk_seg dksX5_here_1 24 rfl rfl
theorem dksX5_here_3 : cX5_here.data.toList.drop 68 = dktX5_here_3 := dk_seg dksX5_here_2 22 rfl rfl
theorem dX5_here_0 : decode cX5_here 0 = .ok (.aload_n 0, 1) := dk_42 (dk_at dksX5_here_0 0 rfl rfl)
theorem dX5_here_1 : decode cX5_here 1 = .ok (.getfield 132, 3) := dk_180 0 132 (dk_at dksX5_here_0 1 rfl rfl)
theorem dX5_here_4 : decode cX5_here 4 = .ok (.aload_n 0, 1) := dk_42 (dk_at dksX5_here_0 4 rfl rfl)
theorem dX5_here_5 : decode cX5_here 5 = .ok (.getfield 135, 3) := dk_180 0 135 (dk_at dksX5_here_0 5 rfl rfl)
theorem dX5_here_8 : decode cX5_here 8 = .ok (.if_icmp .ge 44, 3) := dk_162 0 44 (dk_at dksX5_here_0 8 rfl rfl)
theorem dX5_here_11 : decode cX5_here 11 = .ok (.aload_n 0, 1) := dk_42 (dk_at dksX5_here_0 11 rfl rfl)
theorem dX5_here_12 : decode cX5_here 12 = .ok (.getfield 26, 3) := dk_180 0 26 (dk_at dksX5_here_0 12 rfl rfl)
theorem dX5_here_15 : decode cX5_here 15 = .ok (.aload_n 0, 1) := dk_42 (dk_at dksX5_here_0 15 rfl rfl)
theorem dX5_here_16 : decode cX5_here 16 = .ok (.getfield 132, 3) := dk_180 0 132 (dk_at dksX5_here_0 16 rfl rfl)
theorem dX5_here_19 : decode cX5_here 19 = .ok (.iaload, 1) := dk_46 (dk_at dksX5_here_0 19 rfl rfl)
theorem dX5_here_20 : decode cX5_here 20 = .ok (.bipush 32, 2) := dk_16 32 (dk_at dksX5_here_0 20 rfl rfl)
theorem dX5_here_22 : decode cX5_here 22 = .ok (.if_icmp .eq 17, 3) := dk_159 0 17 (dk_at dksX5_here_1 0 rfl rfl)
theorem dX5_here_25 : decode cX5_here 25 = .ok (.aload_n 0, 1) := dk_42 (dk_at dksX5_here_1 3 rfl rfl)
theorem dX5_here_26 : decode cX5_here 26 = .ok (.getfield 26, 3) := dk_180 0 26 (dk_at dksX5_here_1 4 rfl rfl)
theorem dX5_here_29 : decode cX5_here 29 = .ok (.aload_n 0, 1) := dk_42 (dk_at dksX5_here_1 7 rfl rfl)
theorem dX5_here_30 : decode cX5_here 30 = .ok (.getfield 132, 3) := dk_180 0 132 (dk_at dksX5_here_1 8 rfl rfl)
theorem dX5_here_33 : decode cX5_here 33 = .ok (.iaload, 1) := dk_46 (dk_at dksX5_here_1 11 rfl rfl)
theorem dX5_here_34 : decode cX5_here 34 = .ok (.bipush 10, 2) := dk_16 10 (dk_at dksX5_here_1 12 rfl rfl)
theorem dX5_here_36 : decode cX5_here 36 = .ok (.if_icmp .ne 16, 3) := dk_160 0 16 (dk_at dksX5_here_1 14 rfl rfl)
theorem dX5_here_39 : decode cX5_here 39 = .ok (.aload_n 0, 1) := dk_42 (dk_at dksX5_here_1 17 rfl rfl)
theorem dX5_here_40 : decode cX5_here 40 = .ok (.dup, 1) := dk_89 (dk_at dksX5_here_1 18 rfl rfl)
theorem dX5_here_41 : decode cX5_here 41 = .ok (.getfield 132, 3) := dk_180 0 132 (dk_at dksX5_here_1 19 rfl rfl)
theorem dX5_here_44 : decode cX5_here 44 = .ok (.iconst 1, 1) := dk_4 (dk_at dksX5_here_1 22 rfl rfl)
theorem dX5_here_45 : decode cX5_here 45 = .ok (.iadd, 1) := dk_96 (dk_at dksX5_here_1 23 rfl rfl)
theorem dX5_here_46 : decode cX5_here 46 = .ok (.putfield 132, 3) := dk_181 0 132 (dk_at dksX5_here_2 0 rfl rfl)
theorem dX5_here_49 : decode cX5_here 49 = .ok (.goto (-49), 3) := dk_167 255 207 (dk_at dksX5_here_2 3 rfl rfl)
theorem dX5_here_52 : decode cX5_here 52 = .ok (.aload_n 0, 1) := dk_42 (dk_at dksX5_here_2 6 rfl rfl)
theorem dX5_here_53 : decode cX5_here 53 = .ok (.getfield 132, 3) := dk_180 0 132 (dk_at dksX5_here_2 7 rfl rfl)
theorem dX5_here_56 : decode cX5_here 56 = .ok (.aload_n 0, 1) := dk_42 (dk_at dksX5_here_2 10 rfl rfl)
theorem dX5_here_57 : decode cX5_here 57 = .ok (.getfield 135, 3) := dk_180 0 135 (dk_at dksX5_here_2 11 rfl rfl)
theorem dX5_here_60 : decode cX5_here 60 = .ok (.if_icmp .ge 15, 3) := dk_162 0 15 (dk_at dksX5_here_2 14 rfl rfl)
theorem dX5_here_63 : decode cX5_here 63 = .ok (.aload_n 0, 1) := dk_42 (dk_at dksX5_here_2 17 rfl rfl)
theorem dX5_here_64 : decode cX5_here 64 = .ok (.getfield 26, 3) := dk_180 0 26 (dk_at dksX5_here_2 18 rfl rfl)
theorem dX5_here_67 : decode cX5_here 67 = .ok (.aload_n 0, 1) := dk_42 (dk_at dksX5_here_2 21 rfl rfl)
theorem dX5_here_68 : decode cX5_here 68 = .ok (.getfield 132, 3) := dk_180 0 132 (dk_at dksX5_here_3 0 rfl rfl)
theorem dX5_here_71 : decode cX5_here 71 = .ok (.iaload, 1) := dk_46 (dk_at dksX5_here_3 3 rfl rfl)
theorem dX5_here_72 : decode cX5_here 72 = .ok (.goto 4, 3) := dk_167 0 4 (dk_at dksX5_here_3 4 rfl rfl)
theorem dX5_here_75 : decode cX5_here 75 = .ok (.iconst 0, 1) := dk_3 (dk_at dksX5_here_3 7 rfl rfl)
theorem dX5_here_76 : decode cX5_here 76 = .ok (.ireturn, 1) := dk_172 (dk_at dksX5_here_3 8 rfl rfl)
abbrev cX5_readRule : ByteArray := prog_17_method_44_code
def yX5_readRule : MethodName := ⟨RX5, "readRule", "(I)V"⟩
def dkwX5_readRule_9 : List UInt8 := [180, 0, 29, 21, 7, 7, 96, 21, 6, 79, 177]
abbrev dktX5_readRule_9 : List UInt8 := dkwX5_readRule_9 ++ []
def dkwX5_readRule_8 : List UInt8 := [79, 42, 180, 0, 29, 21, 7, 5, 96, 21, 5, 79, 42, 180, 0, 29, 21, 7, 6, 96, 21, 5, 79, 42]
abbrev dktX5_readRule_8 : List UInt8 := dkwX5_readRule_8 ++ dktX5_readRule_9
def dkwX5_readRule_7 : List UInt8 := [8, 27, 104, 96, 54, 7, 42, 180, 0, 29, 21, 7, 29, 79, 42, 180, 0, 29, 21, 7, 4, 96, 21, 4]
abbrev dktX5_readRule_7 : List UInt8 := dkwX5_readRule_7 ++ dktX5_readRule_8
def dkwX5_readRule_6 : List UInt8 := [182, 0, 163, 42, 182, 0, 211, 42, 180, 0, 172, 54, 6, 42, 182, 0, 149, 154, 0, 4, 177, 17, 3, 177]
abbrev dktX5_readRule_6 : List UInt8 := dkwX5_readRule_6 ++ dktX5_readRule_7
def dkwX5_readRule_5 : List UInt8 := [153, 0, 37, 42, 182, 0, 160, 16, 119, 16, 104, 16, 101, 16, 110, 3, 3, 184, 0, 194, 160, 0, 17, 42]
abbrev dktX5_readRule_5 : List UInt8 := dkwX5_readRule_5 ++ dktX5_readRule_6
def dkwX5_readRule_4 : List UInt8 := [42, 180, 0, 172, 54, 4, 42, 182, 0, 208, 42, 180, 0, 172, 54, 5, 2, 54, 6, 42, 182, 0, 149]
abbrev dktX5_readRule_4 : List UInt8 := dkwX5_readRule_4 ++ dktX5_readRule_5
def dkwX5_readRule_3 : List UInt8 := [29, 2, 159, 0, 7, 4, 167, 0, 4, 3, 27, 16, 16, 160, 0, 7, 4, 167, 0, 4, 3, 182, 0, 198]
abbrev dktX5_readRule_3 : List UInt8 := dkwX5_readRule_3 ++ dktX5_readRule_4
def dkwX5_readRule_2 : List UInt8 := [28, 16, 112, 16, 97, 16, 121, 16, 115, 3, 3, 184, 0, 194, 160, 0, 7, 5, 167, 0, 4, 2, 62, 42]
abbrev dktX5_readRule_2 : List UInt8 := dkwX5_readRule_2 ++ dktX5_readRule_3
def dkwX5_readRule_1 : List UInt8 := [167, 0, 46, 28, 16, 115, 16, 101, 16, 101, 16, 115, 3, 3, 184, 0, 194, 160, 0, 7, 4, 167, 0, 25]
abbrev dktX5_readRule_1 : List UInt8 := dkwX5_readRule_1 ++ dktX5_readRule_2
def dkwX5_readRule_0 : List UInt8 := [42, 182, 0, 160, 61, 28, 16, 115, 16, 108, 16, 105, 16, 112, 16, 115, 3, 184, 0, 194, 160, 0, 7, 3]
abbrev dktX5_readRule_0 : List UInt8 := dkwX5_readRule_0 ++ dktX5_readRule_1
theorem dksX5_readRule_0 : cX5_readRule.data.toList.drop 0 = dktX5_readRule_0 := by decide +kernel
theorem dksX5_readRule_1 : cX5_readRule.data.toList.drop 24 = dktX5_readRule_1 := dk_seg dksX5_readRule_0 24 rfl rfl
theorem dksX5_readRule_2 : cX5_readRule.data.toList.drop 48 = dktX5_readRule_2 := dk_seg dksX5_readRule_1 24 rfl rfl
theorem dksX5_readRule_3 : cX5_readRule.data.toList.drop 72 = dktX5_readRule_3 := dk_seg dksX5_readRule_2 24 rfl rfl
theorem dksX5_readRule_4 : cX5_readRule.data.toList.drop 96 = dktX5_readRule_4 := dk_seg dksX5_readRule_3 24 rfl rfl
theorem dksX5_readRule_5 : cX5_readRule.data.toList.drop 119 = dktX5_readRule_5 := dk_seg dksX5_readRule_4 23 rfl rfl
theorem dksX5_readRule_6 : cX5_readRule.data.toList.drop 143 = dktX5_readRule_6 := dk_seg dksX5_readRule_5 24 rfl rfl
theorem dksX5_readRule_7 : cX5_readRule.data.toList.drop 167 = dktX5_readRule_7 := dk_seg dksX5_readRule_6 24 rfl rfl
theorem dksX5_readRule_8 : cX5_readRule.data.toList.drop 191 = dktX5_readRule_8 := dk_seg dksX5_readRule_7 24 rfl rfl
theorem dksX5_readRule_9 : cX5_readRule.data.toList.drop 215 = dktX5_readRule_9 := dk_seg dksX5_readRule_8 24 rfl rfl
theorem dX5_readRule_0 : decode cX5_readRule 0 = .ok (.aload_n 0, 1) := dk_42 (dk_at dksX5_readRule_0 0 rfl rfl)
theorem dX5_readRule_1 : decode cX5_readRule 1 = .ok (.invokevirtual 160, 3) := dk_182 0 160 (dk_at dksX5_readRule_0 1 rfl rfl)
theorem dX5_readRule_4 : decode cX5_readRule 4 = .ok (.istore_n 2, 1) := dk_61 (dk_at dksX5_readRule_0 4 rfl rfl)
theorem dX5_readRule_5 : decode cX5_readRule 5 = .ok (.iload_n 2, 1) := dk_28 (dk_at dksX5_readRule_0 5 rfl rfl)
theorem dX5_readRule_6 : decode cX5_readRule 6 = .ok (.bipush 115, 2) := dk_16 115 (dk_at dksX5_readRule_0 6 rfl rfl)
theorem dX5_readRule_8 : decode cX5_readRule 8 = .ok (.bipush 108, 2) := dk_16 108 (dk_at dksX5_readRule_0 8 rfl rfl)
theorem dX5_readRule_10 : decode cX5_readRule 10 = .ok (.bipush 105, 2) := dk_16 105 (dk_at dksX5_readRule_0 10 rfl rfl)
theorem dX5_readRule_12 : decode cX5_readRule 12 = .ok (.bipush 112, 2) := dk_16 112 (dk_at dksX5_readRule_0 12 rfl rfl)
theorem dX5_readRule_14 : decode cX5_readRule 14 = .ok (.bipush 115, 2) := dk_16 115 (dk_at dksX5_readRule_0 14 rfl rfl)
theorem dX5_readRule_16 : decode cX5_readRule 16 = .ok (.iconst 0, 1) := dk_3 (dk_at dksX5_readRule_0 16 rfl rfl)
theorem dX5_readRule_17 : decode cX5_readRule 17 = .ok (.invokestatic 194, 3) := dk_184 0 194 (dk_at dksX5_readRule_0 17 rfl rfl)
theorem dX5_readRule_20 : decode cX5_readRule 20 = .ok (.if_icmp .ne 7, 3) := dk_160 0 7 (dk_at dksX5_readRule_0 20 rfl rfl)
theorem dX5_readRule_23 : decode cX5_readRule 23 = .ok (.iconst 0, 1) := dk_3 (dk_at dksX5_readRule_0 23 rfl rfl)
theorem dX5_readRule_24 : decode cX5_readRule 24 = .ok (.goto 46, 3) := dk_167 0 46 (dk_at dksX5_readRule_1 0 rfl rfl)
theorem dX5_readRule_27 : decode cX5_readRule 27 = .ok (.iload_n 2, 1) := dk_28 (dk_at dksX5_readRule_1 3 rfl rfl)
theorem dX5_readRule_28 : decode cX5_readRule 28 = .ok (.bipush 115, 2) := dk_16 115 (dk_at dksX5_readRule_1 4 rfl rfl)
theorem dX5_readRule_30 : decode cX5_readRule 30 = .ok (.bipush 101, 2) := dk_16 101 (dk_at dksX5_readRule_1 6 rfl rfl)
theorem dX5_readRule_32 : decode cX5_readRule 32 = .ok (.bipush 101, 2) := dk_16 101 (dk_at dksX5_readRule_1 8 rfl rfl)
theorem dX5_readRule_34 : decode cX5_readRule 34 = .ok (.bipush 115, 2) := dk_16 115 (dk_at dksX5_readRule_1 10 rfl rfl)
theorem dX5_readRule_36 : decode cX5_readRule 36 = .ok (.iconst 0, 1) := dk_3 (dk_at dksX5_readRule_1 12 rfl rfl)
theorem dX5_readRule_37 : decode cX5_readRule 37 = .ok (.iconst 0, 1) := dk_3 (dk_at dksX5_readRule_1 13 rfl rfl)
theorem dX5_readRule_38 : decode cX5_readRule 38 = .ok (.invokestatic 194, 3) := dk_184 0 194 (dk_at dksX5_readRule_1 14 rfl rfl)
theorem dX5_readRule_41 : decode cX5_readRule 41 = .ok (.if_icmp .ne 7, 3) := dk_160 0 7 (dk_at dksX5_readRule_1 17 rfl rfl)
theorem dX5_readRule_44 : decode cX5_readRule 44 = .ok (.iconst 1, 1) := dk_4 (dk_at dksX5_readRule_1 20 rfl rfl)
theorem dX5_readRule_45 : decode cX5_readRule 45 = .ok (.goto 25, 3) := dk_167 0 25 (dk_at dksX5_readRule_1 21 rfl rfl)
theorem dX5_readRule_48 : decode cX5_readRule 48 = .ok (.iload_n 2, 1) := dk_28 (dk_at dksX5_readRule_2 0 rfl rfl)
theorem dX5_readRule_49 : decode cX5_readRule 49 = .ok (.bipush 112, 2) := dk_16 112 (dk_at dksX5_readRule_2 1 rfl rfl)
theorem dX5_readRule_51 : decode cX5_readRule 51 = .ok (.bipush 97, 2) := dk_16 97 (dk_at dksX5_readRule_2 3 rfl rfl)
theorem dX5_readRule_53 : decode cX5_readRule 53 = .ok (.bipush 121, 2) := dk_16 121 (dk_at dksX5_readRule_2 5 rfl rfl)
theorem dX5_readRule_55 : decode cX5_readRule 55 = .ok (.bipush 115, 2) := dk_16 115 (dk_at dksX5_readRule_2 7 rfl rfl)
theorem dX5_readRule_57 : decode cX5_readRule 57 = .ok (.iconst 0, 1) := dk_3 (dk_at dksX5_readRule_2 9 rfl rfl)
theorem dX5_readRule_58 : decode cX5_readRule 58 = .ok (.iconst 0, 1) := dk_3 (dk_at dksX5_readRule_2 10 rfl rfl)
theorem dX5_readRule_59 : decode cX5_readRule 59 = .ok (.invokestatic 194, 3) := dk_184 0 194 (dk_at dksX5_readRule_2 11 rfl rfl)
theorem dX5_readRule_62 : decode cX5_readRule 62 = .ok (.if_icmp .ne 7, 3) := dk_160 0 7 (dk_at dksX5_readRule_2 14 rfl rfl)
theorem dX5_readRule_65 : decode cX5_readRule 65 = .ok (.iconst 2, 1) := dk_5 (dk_at dksX5_readRule_2 17 rfl rfl)
theorem dX5_readRule_66 : decode cX5_readRule 66 = .ok (.goto 4, 3) := dk_167 0 4 (dk_at dksX5_readRule_2 18 rfl rfl)
theorem dX5_readRule_69 : decode cX5_readRule 69 = .ok (.iconst (-1), 1) := dk_2 (dk_at dksX5_readRule_2 21 rfl rfl)
theorem dX5_readRule_70 : decode cX5_readRule 70 = .ok (.istore_n 3, 1) := dk_62 (dk_at dksX5_readRule_2 22 rfl rfl)
theorem dX5_readRule_71 : decode cX5_readRule 71 = .ok (.aload_n 0, 1) := dk_42 (dk_at dksX5_readRule_2 23 rfl rfl)
theorem dX5_readRule_72 : decode cX5_readRule 72 = .ok (.iload_n 3, 1) := dk_29 (dk_at dksX5_readRule_3 0 rfl rfl)
theorem dX5_readRule_73 : decode cX5_readRule 73 = .ok (.iconst (-1), 1) := dk_2 (dk_at dksX5_readRule_3 1 rfl rfl)
theorem dX5_readRule_74 : decode cX5_readRule 74 = .ok (.if_icmp .eq 7, 3) := dk_159 0 7 (dk_at dksX5_readRule_3 2 rfl rfl)
theorem dX5_readRule_77 : decode cX5_readRule 77 = .ok (.iconst 1, 1) := dk_4 (dk_at dksX5_readRule_3 5 rfl rfl)
theorem dX5_readRule_78 : decode cX5_readRule 78 = .ok (.goto 4, 3) := dk_167 0 4 (dk_at dksX5_readRule_3 6 rfl rfl)
theorem dX5_readRule_81 : decode cX5_readRule 81 = .ok (.iconst 0, 1) := dk_3 (dk_at dksX5_readRule_3 9 rfl rfl)
theorem dX5_readRule_82 : decode cX5_readRule 82 = .ok (.iload_n 1, 1) := dk_27 (dk_at dksX5_readRule_3 10 rfl rfl)
theorem dX5_readRule_83 : decode cX5_readRule 83 = .ok (.bipush 16, 2) := dk_16 16 (dk_at dksX5_readRule_3 11 rfl rfl)
theorem dX5_readRule_85 : decode cX5_readRule 85 = .ok (.if_icmp .ne 7, 3) := dk_160 0 7 (dk_at dksX5_readRule_3 13 rfl rfl)
theorem dX5_readRule_88 : decode cX5_readRule 88 = .ok (.iconst 1, 1) := dk_4 (dk_at dksX5_readRule_3 16 rfl rfl)
theorem dX5_readRule_89 : decode cX5_readRule 89 = .ok (.goto 4, 3) := dk_167 0 4 (dk_at dksX5_readRule_3 17 rfl rfl)
theorem dX5_readRule_92 : decode cX5_readRule 92 = .ok (.iconst 0, 1) := dk_3 (dk_at dksX5_readRule_3 20 rfl rfl)
theorem dX5_readRule_93 : decode cX5_readRule 93 = .ok (.invokevirtual 198, 3) := dk_182 0 198 (dk_at dksX5_readRule_3 21 rfl rfl)
theorem dX5_readRule_96 : decode cX5_readRule 96 = .ok (.aload_n 0, 1) := dk_42 (dk_at dksX5_readRule_4 0 rfl rfl)
theorem dX5_readRule_97 : decode cX5_readRule 97 = .ok (.getfield 172, 3) := dk_180 0 172 (dk_at dksX5_readRule_4 1 rfl rfl)
theorem dX5_readRule_100 : decode cX5_readRule 100 = .ok (.istore 4, 2) := dk_54 4 (dk_at dksX5_readRule_4 4 rfl rfl)
theorem dX5_readRule_102 : decode cX5_readRule 102 = .ok (.aload_n 0, 1) := dk_42 (dk_at dksX5_readRule_4 6 rfl rfl)
theorem dX5_readRule_103 : decode cX5_readRule 103 = .ok (.invokevirtual 208, 3) := dk_182 0 208 (dk_at dksX5_readRule_4 7 rfl rfl)
theorem dX5_readRule_106 : decode cX5_readRule 106 = .ok (.aload_n 0, 1) := dk_42 (dk_at dksX5_readRule_4 10 rfl rfl)
theorem dX5_readRule_107 : decode cX5_readRule 107 = .ok (.getfield 172, 3) := dk_180 0 172 (dk_at dksX5_readRule_4 11 rfl rfl)
theorem dX5_readRule_110 : decode cX5_readRule 110 = .ok (.istore 5, 2) := dk_54 5 (dk_at dksX5_readRule_4 14 rfl rfl)
theorem dX5_readRule_112 : decode cX5_readRule 112 = .ok (.iconst (-1), 1) := dk_2 (dk_at dksX5_readRule_4 16 rfl rfl)
theorem dX5_readRule_113 : decode cX5_readRule 113 = .ok (.istore 6, 2) := dk_54 6 (dk_at dksX5_readRule_4 17 rfl rfl)
theorem dX5_readRule_115 : decode cX5_readRule 115 = .ok (.aload_n 0, 1) := dk_42 (dk_at dksX5_readRule_4 19 rfl rfl)
theorem dX5_readRule_116 : decode cX5_readRule 116 = .ok (.invokevirtual 149, 3) := dk_182 0 149 (dk_at dksX5_readRule_4 20 rfl rfl)
theorem dX5_readRule_119 : decode cX5_readRule 119 = .ok (.ifCond .eq 37, 3) := dk_153 0 37 (dk_at dksX5_readRule_5 0 rfl rfl)
theorem dX5_readRule_122 : decode cX5_readRule 122 = .ok (.aload_n 0, 1) := dk_42 (dk_at dksX5_readRule_5 3 rfl rfl)
theorem dX5_readRule_123 : decode cX5_readRule 123 = .ok (.invokevirtual 160, 3) := dk_182 0 160 (dk_at dksX5_readRule_5 4 rfl rfl)
theorem dX5_readRule_126 : decode cX5_readRule 126 = .ok (.bipush 119, 2) := dk_16 119 (dk_at dksX5_readRule_5 7 rfl rfl)
theorem dX5_readRule_128 : decode cX5_readRule 128 = .ok (.bipush 104, 2) := dk_16 104 (dk_at dksX5_readRule_5 9 rfl rfl)
theorem dX5_readRule_130 : decode cX5_readRule 130 = .ok (.bipush 101, 2) := dk_16 101 (dk_at dksX5_readRule_5 11 rfl rfl)
theorem dX5_readRule_132 : decode cX5_readRule 132 = .ok (.bipush 110, 2) := dk_16 110 (dk_at dksX5_readRule_5 13 rfl rfl)
theorem dX5_readRule_134 : decode cX5_readRule 134 = .ok (.iconst 0, 1) := dk_3 (dk_at dksX5_readRule_5 15 rfl rfl)
theorem dX5_readRule_135 : decode cX5_readRule 135 = .ok (.iconst 0, 1) := dk_3 (dk_at dksX5_readRule_5 16 rfl rfl)
theorem dX5_readRule_136 : decode cX5_readRule 136 = .ok (.invokestatic 194, 3) := dk_184 0 194 (dk_at dksX5_readRule_5 17 rfl rfl)
theorem dX5_readRule_139 : decode cX5_readRule 139 = .ok (.if_icmp .ne 17, 3) := dk_160 0 17 (dk_at dksX5_readRule_5 20 rfl rfl)
theorem dX5_readRule_142 : decode cX5_readRule 142 = .ok (.aload_n 0, 1) := dk_42 (dk_at dksX5_readRule_5 23 rfl rfl)
theorem dX5_readRule_143 : decode cX5_readRule 143 = .ok (.invokevirtual 163, 3) := dk_182 0 163 (dk_at dksX5_readRule_6 0 rfl rfl)
theorem dX5_readRule_146 : decode cX5_readRule 146 = .ok (.aload_n 0, 1) := dk_42 (dk_at dksX5_readRule_6 3 rfl rfl)
theorem dX5_readRule_147 : decode cX5_readRule 147 = .ok (.invokevirtual 211, 3) := dk_182 0 211 (dk_at dksX5_readRule_6 4 rfl rfl)
theorem dX5_readRule_150 : decode cX5_readRule 150 = .ok (.aload_n 0, 1) := dk_42 (dk_at dksX5_readRule_6 7 rfl rfl)
theorem dX5_readRule_151 : decode cX5_readRule 151 = .ok (.getfield 172, 3) := dk_180 0 172 (dk_at dksX5_readRule_6 8 rfl rfl)
theorem dX5_readRule_154 : decode cX5_readRule 154 = .ok (.istore 6, 2) := dk_54 6 (dk_at dksX5_readRule_6 11 rfl rfl)
theorem dX5_readRule_156 : decode cX5_readRule 156 = .ok (.aload_n 0, 1) := dk_42 (dk_at dksX5_readRule_6 13 rfl rfl)
theorem dX5_readRule_157 : decode cX5_readRule 157 = .ok (.invokevirtual 149, 3) := dk_182 0 149 (dk_at dksX5_readRule_6 14 rfl rfl)
theorem dX5_readRule_160 : decode cX5_readRule 160 = .ok (.ifCond .ne 4, 3) := dk_154 0 4 (dk_at dksX5_readRule_6 17 rfl rfl)
theorem dX5_readRule_163 : decode cX5_readRule 163 = .ok (.return_, 1) := dk_177 (dk_at dksX5_readRule_6 20 rfl rfl)
theorem dX5_readRule_164 : decode cX5_readRule 164 = .ok (.sipush 945, 3) := dk_17 3 177 (dk_at dksX5_readRule_6 21 rfl rfl)
theorem dX5_readRule_167 : decode cX5_readRule 167 = .ok (.iconst 5, 1) := dk_8 (dk_at dksX5_readRule_7 0 rfl rfl)
theorem dX5_readRule_168 : decode cX5_readRule 168 = .ok (.iload_n 1, 1) := dk_27 (dk_at dksX5_readRule_7 1 rfl rfl)
theorem dX5_readRule_169 : decode cX5_readRule 169 = .ok (.imul, 1) := dk_104 (dk_at dksX5_readRule_7 2 rfl rfl)
theorem dX5_readRule_170 : decode cX5_readRule 170 = .ok (.iadd, 1) := dk_96 (dk_at dksX5_readRule_7 3 rfl rfl)
theorem dX5_readRule_171 : decode cX5_readRule 171 = .ok (.istore 7, 2) := dk_54 7 (dk_at dksX5_readRule_7 4 rfl rfl)
theorem dX5_readRule_173 : decode cX5_readRule 173 = .ok (.aload_n 0, 1) := dk_42 (dk_at dksX5_readRule_7 6 rfl rfl)
theorem dX5_readRule_174 : decode cX5_readRule 174 = .ok (.getfield 29, 3) := dk_180 0 29 (dk_at dksX5_readRule_7 7 rfl rfl)
theorem dX5_readRule_177 : decode cX5_readRule 177 = .ok (.iload 7, 2) := dk_21 7 (dk_at dksX5_readRule_7 10 rfl rfl)
theorem dX5_readRule_179 : decode cX5_readRule 179 = .ok (.iload_n 3, 1) := dk_29 (dk_at dksX5_readRule_7 12 rfl rfl)
theorem dX5_readRule_180 : decode cX5_readRule 180 = .ok (.iastore, 1) := dk_79 (dk_at dksX5_readRule_7 13 rfl rfl)
theorem dX5_readRule_181 : decode cX5_readRule 181 = .ok (.aload_n 0, 1) := dk_42 (dk_at dksX5_readRule_7 14 rfl rfl)
theorem dX5_readRule_182 : decode cX5_readRule 182 = .ok (.getfield 29, 3) := dk_180 0 29 (dk_at dksX5_readRule_7 15 rfl rfl)
theorem dX5_readRule_185 : decode cX5_readRule 185 = .ok (.iload 7, 2) := dk_21 7 (dk_at dksX5_readRule_7 18 rfl rfl)
theorem dX5_readRule_187 : decode cX5_readRule 187 = .ok (.iconst 1, 1) := dk_4 (dk_at dksX5_readRule_7 20 rfl rfl)
theorem dX5_readRule_188 : decode cX5_readRule 188 = .ok (.iadd, 1) := dk_96 (dk_at dksX5_readRule_7 21 rfl rfl)
theorem dX5_readRule_189 : decode cX5_readRule 189 = .ok (.iload 4, 2) := dk_21 4 (dk_at dksX5_readRule_7 22 rfl rfl)
theorem dX5_readRule_191 : decode cX5_readRule 191 = .ok (.iastore, 1) := dk_79 (dk_at dksX5_readRule_8 0 rfl rfl)
theorem dX5_readRule_192 : decode cX5_readRule 192 = .ok (.aload_n 0, 1) := dk_42 (dk_at dksX5_readRule_8 1 rfl rfl)
theorem dX5_readRule_193 : decode cX5_readRule 193 = .ok (.getfield 29, 3) := dk_180 0 29 (dk_at dksX5_readRule_8 2 rfl rfl)
theorem dX5_readRule_196 : decode cX5_readRule 196 = .ok (.iload 7, 2) := dk_21 7 (dk_at dksX5_readRule_8 5 rfl rfl)
theorem dX5_readRule_198 : decode cX5_readRule 198 = .ok (.iconst 2, 1) := dk_5 (dk_at dksX5_readRule_8 7 rfl rfl)
theorem dX5_readRule_199 : decode cX5_readRule 199 = .ok (.iadd, 1) := dk_96 (dk_at dksX5_readRule_8 8 rfl rfl)
theorem dX5_readRule_200 : decode cX5_readRule 200 = .ok (.iload 5, 2) := dk_21 5 (dk_at dksX5_readRule_8 9 rfl rfl)
theorem dX5_readRule_202 : decode cX5_readRule 202 = .ok (.iastore, 1) := dk_79 (dk_at dksX5_readRule_8 11 rfl rfl)
theorem dX5_readRule_203 : decode cX5_readRule 203 = .ok (.aload_n 0, 1) := dk_42 (dk_at dksX5_readRule_8 12 rfl rfl)
theorem dX5_readRule_204 : decode cX5_readRule 204 = .ok (.getfield 29, 3) := dk_180 0 29 (dk_at dksX5_readRule_8 13 rfl rfl)
theorem dX5_readRule_207 : decode cX5_readRule 207 = .ok (.iload 7, 2) := dk_21 7 (dk_at dksX5_readRule_8 16 rfl rfl)
theorem dX5_readRule_209 : decode cX5_readRule 209 = .ok (.iconst 3, 1) := dk_6 (dk_at dksX5_readRule_8 18 rfl rfl)
theorem dX5_readRule_210 : decode cX5_readRule 210 = .ok (.iadd, 1) := dk_96 (dk_at dksX5_readRule_8 19 rfl rfl)
theorem dX5_readRule_211 : decode cX5_readRule 211 = .ok (.iload 5, 2) := dk_21 5 (dk_at dksX5_readRule_8 20 rfl rfl)
theorem dX5_readRule_213 : decode cX5_readRule 213 = .ok (.iastore, 1) := dk_79 (dk_at dksX5_readRule_8 22 rfl rfl)
theorem dX5_readRule_214 : decode cX5_readRule 214 = .ok (.aload_n 0, 1) := dk_42 (dk_at dksX5_readRule_8 23 rfl rfl)
theorem dX5_readRule_215 : decode cX5_readRule 215 = .ok (.getfield 29, 3) := dk_180 0 29 (dk_at dksX5_readRule_9 0 rfl rfl)
theorem dX5_readRule_218 : decode cX5_readRule 218 = .ok (.iload 7, 2) := dk_21 7 (dk_at dksX5_readRule_9 3 rfl rfl)
theorem dX5_readRule_220 : decode cX5_readRule 220 = .ok (.iconst 4, 1) := dk_7 (dk_at dksX5_readRule_9 5 rfl rfl)
theorem dX5_readRule_221 : decode cX5_readRule 221 = .ok (.iadd, 1) := dk_96 (dk_at dksX5_readRule_9 6 rfl rfl)
theorem dX5_readRule_222 : decode cX5_readRule 222 = .ok (.iload 6, 2) := dk_21 6 (dk_at dksX5_readRule_9 7 rfl rfl)
theorem dX5_readRule_224 : decode cX5_readRule 224 = .ok (.iastore, 1) := dk_79 (dk_at dksX5_readRule_9 9 rfl rfl)
theorem dX5_readRule_225 : decode cX5_readRule 225 = .ok (.return_, 1) := dk_177 (dk_at dksX5_readRule_9 10 rfl rfl)
abbrev cX5_word : ByteArray := prog_17_method_29_code
def yX5_word : MethodName := ⟨RX5, "word", "()I"⟩
def dkwX5_word_4 : List UInt8 := [167, 255, 180, 28, 153, 0, 7, 27, 167, 0, 4, 3, 172]
abbrev dktX5_word_4 : List UInt8 := dkwX5_word_4 ++ []
def dkwX5_word_3 : List UInt8 := [27, 42, 180, 0, 26, 21, 4, 46, 184, 0, 146, 167, 0, 4, 3, 60, 132, 3, 1, 132, 4, 1]
abbrev dktX5_word_3 : List UInt8 := dkwX5_word_3 ++ dktX5_word_4
def dkwX5_word_2 : List UInt8 := [21, 4, 46, 16, 97, 161, 0, 13, 29, 16, 6, 162, 0, 7, 4, 167, 0, 4, 3, 61, 28, 153, 0, 17]
abbrev dktX5_word_2 : List UInt8 := dkwX5_word_2 ++ dktX5_word_3
def dkwX5_word_1 : List UInt8 := [162, 0, 73, 42, 180, 0, 26, 21, 4, 46, 184, 0, 142, 153, 0, 60, 28, 153, 0, 25, 42, 180, 0, 26]
abbrev dktX5_word_1 : List UInt8 := dkwX5_word_1 ++ dktX5_word_2
def dkwX5_word_0 : List UInt8 := [42, 182, 0, 138, 87, 3, 60, 4, 61, 3, 62, 42, 180, 0, 132, 54, 4, 21, 4, 42, 180, 0, 135]
abbrev dktX5_word_0 : List UInt8 := dkwX5_word_0 ++ dktX5_word_1
theorem dksX5_word_0 : cX5_word.data.toList.drop 0 = dktX5_word_0 := by decide +kernel
theorem dksX5_word_1 : cX5_word.data.toList.drop 23 = dktX5_word_1 := dk_seg dksX5_word_0 23 rfl rfl
theorem dksX5_word_2 : cX5_word.data.toList.drop 47 = dktX5_word_2 := dk_seg dksX5_word_1 24 rfl rfl
theorem dksX5_word_3 : cX5_word.data.toList.drop 71 = dktX5_word_3 := dk_seg dksX5_word_2 24 rfl rfl
theorem dksX5_word_4 : cX5_word.data.toList.drop 93 = dktX5_word_4 := dk_seg dksX5_word_3 22 rfl rfl
theorem dX5_word_0 : decode cX5_word 0 = .ok (.aload_n 0, 1) := dk_42 (dk_at dksX5_word_0 0 rfl rfl)
theorem dX5_word_1 : decode cX5_word 1 = .ok (.invokevirtual 138, 3) := dk_182 0 138 (dk_at dksX5_word_0 1 rfl rfl)
theorem dX5_word_4 : decode cX5_word 4 = .ok (.pop, 1) := dk_87 (dk_at dksX5_word_0 4 rfl rfl)
theorem dX5_word_5 : decode cX5_word 5 = .ok (.iconst 0, 1) := dk_3 (dk_at dksX5_word_0 5 rfl rfl)
theorem dX5_word_6 : decode cX5_word 6 = .ok (.istore_n 1, 1) := dk_60 (dk_at dksX5_word_0 6 rfl rfl)
theorem dX5_word_7 : decode cX5_word 7 = .ok (.iconst 1, 1) := dk_4 (dk_at dksX5_word_0 7 rfl rfl)
theorem dX5_word_8 : decode cX5_word 8 = .ok (.istore_n 2, 1) := dk_61 (dk_at dksX5_word_0 8 rfl rfl)
theorem dX5_word_9 : decode cX5_word 9 = .ok (.iconst 0, 1) := dk_3 (dk_at dksX5_word_0 9 rfl rfl)
theorem dX5_word_10 : decode cX5_word 10 = .ok (.istore_n 3, 1) := dk_62 (dk_at dksX5_word_0 10 rfl rfl)
theorem dX5_word_11 : decode cX5_word 11 = .ok (.aload_n 0, 1) := dk_42 (dk_at dksX5_word_0 11 rfl rfl)
theorem dX5_word_12 : decode cX5_word 12 = .ok (.getfield 132, 3) := dk_180 0 132 (dk_at dksX5_word_0 12 rfl rfl)
theorem dX5_word_15 : decode cX5_word 15 = .ok (.istore 4, 2) := dk_54 4 (dk_at dksX5_word_0 15 rfl rfl)
theorem dX5_word_17 : decode cX5_word 17 = .ok (.iload 4, 2) := dk_21 4 (dk_at dksX5_word_0 17 rfl rfl)
theorem dX5_word_19 : decode cX5_word 19 = .ok (.aload_n 0, 1) := dk_42 (dk_at dksX5_word_0 19 rfl rfl)
theorem dX5_word_20 : decode cX5_word 20 = .ok (.getfield 135, 3) := dk_180 0 135 (dk_at dksX5_word_0 20 rfl rfl)
theorem dX5_word_23 : decode cX5_word 23 = .ok (.if_icmp .ge 73, 3) := dk_162 0 73 (dk_at dksX5_word_1 0 rfl rfl)
theorem dX5_word_26 : decode cX5_word 26 = .ok (.aload_n 0, 1) := dk_42 (dk_at dksX5_word_1 3 rfl rfl)
theorem dX5_word_27 : decode cX5_word 27 = .ok (.getfield 26, 3) := dk_180 0 26 (dk_at dksX5_word_1 4 rfl rfl)
theorem dX5_word_30 : decode cX5_word 30 = .ok (.iload 4, 2) := dk_21 4 (dk_at dksX5_word_1 7 rfl rfl)
theorem dX5_word_32 : decode cX5_word 32 = .ok (.iaload, 1) := dk_46 (dk_at dksX5_word_1 9 rfl rfl)
theorem dX5_word_33 : decode cX5_word 33 = .ok (.invokestatic 142, 3) := dk_184 0 142 (dk_at dksX5_word_1 10 rfl rfl)
theorem dX5_word_36 : decode cX5_word 36 = .ok (.ifCond .eq 60, 3) := dk_153 0 60 (dk_at dksX5_word_1 13 rfl rfl)
theorem dX5_word_39 : decode cX5_word 39 = .ok (.iload_n 2, 1) := dk_28 (dk_at dksX5_word_1 16 rfl rfl)
theorem dX5_word_40 : decode cX5_word 40 = .ok (.ifCond .eq 25, 3) := dk_153 0 25 (dk_at dksX5_word_1 17 rfl rfl)
theorem dX5_word_43 : decode cX5_word 43 = .ok (.aload_n 0, 1) := dk_42 (dk_at dksX5_word_1 20 rfl rfl)
theorem dX5_word_44 : decode cX5_word 44 = .ok (.getfield 26, 3) := dk_180 0 26 (dk_at dksX5_word_1 21 rfl rfl)
theorem dX5_word_47 : decode cX5_word 47 = .ok (.iload 4, 2) := dk_21 4 (dk_at dksX5_word_2 0 rfl rfl)
theorem dX5_word_49 : decode cX5_word 49 = .ok (.iaload, 1) := dk_46 (dk_at dksX5_word_2 2 rfl rfl)
theorem dX5_word_50 : decode cX5_word 50 = .ok (.bipush 97, 2) := dk_16 97 (dk_at dksX5_word_2 3 rfl rfl)
theorem dX5_word_52 : decode cX5_word 52 = .ok (.if_icmp .lt 13, 3) := dk_161 0 13 (dk_at dksX5_word_2 5 rfl rfl)
theorem dX5_word_55 : decode cX5_word 55 = .ok (.iload_n 3, 1) := dk_29 (dk_at dksX5_word_2 8 rfl rfl)
theorem dX5_word_56 : decode cX5_word 56 = .ok (.bipush 6, 2) := dk_16 6 (dk_at dksX5_word_2 9 rfl rfl)
theorem dX5_word_58 : decode cX5_word 58 = .ok (.if_icmp .ge 7, 3) := dk_162 0 7 (dk_at dksX5_word_2 11 rfl rfl)
theorem dX5_word_61 : decode cX5_word 61 = .ok (.iconst 1, 1) := dk_4 (dk_at dksX5_word_2 14 rfl rfl)
theorem dX5_word_62 : decode cX5_word 62 = .ok (.goto 4, 3) := dk_167 0 4 (dk_at dksX5_word_2 15 rfl rfl)
theorem dX5_word_65 : decode cX5_word 65 = .ok (.iconst 0, 1) := dk_3 (dk_at dksX5_word_2 18 rfl rfl)
theorem dX5_word_66 : decode cX5_word 66 = .ok (.istore_n 2, 1) := dk_61 (dk_at dksX5_word_2 19 rfl rfl)
theorem dX5_word_67 : decode cX5_word 67 = .ok (.iload_n 2, 1) := dk_28 (dk_at dksX5_word_2 20 rfl rfl)
theorem dX5_word_68 : decode cX5_word 68 = .ok (.ifCond .eq 17, 3) := dk_153 0 17 (dk_at dksX5_word_2 21 rfl rfl)
theorem dX5_word_71 : decode cX5_word 71 = .ok (.iload_n 1, 1) := dk_27 (dk_at dksX5_word_3 0 rfl rfl)
theorem dX5_word_72 : decode cX5_word 72 = .ok (.aload_n 0, 1) := dk_42 (dk_at dksX5_word_3 1 rfl rfl)
theorem dX5_word_73 : decode cX5_word 73 = .ok (.getfield 26, 3) := dk_180 0 26 (dk_at dksX5_word_3 2 rfl rfl)
theorem dX5_word_76 : decode cX5_word 76 = .ok (.iload 4, 2) := dk_21 4 (dk_at dksX5_word_3 5 rfl rfl)
theorem dX5_word_78 : decode cX5_word 78 = .ok (.iaload, 1) := dk_46 (dk_at dksX5_word_3 7 rfl rfl)
theorem dX5_word_79 : decode cX5_word 79 = .ok (.invokestatic 146, 3) := dk_184 0 146 (dk_at dksX5_word_3 8 rfl rfl)
theorem dX5_word_82 : decode cX5_word 82 = .ok (.goto 4, 3) := dk_167 0 4 (dk_at dksX5_word_3 11 rfl rfl)
theorem dX5_word_85 : decode cX5_word 85 = .ok (.iconst 0, 1) := dk_3 (dk_at dksX5_word_3 14 rfl rfl)
theorem dX5_word_86 : decode cX5_word 86 = .ok (.istore_n 1, 1) := dk_60 (dk_at dksX5_word_3 15 rfl rfl)
theorem dX5_word_87 : decode cX5_word 87 = .ok (.iinc 3 1, 3) := dk_132 3 1 (dk_at dksX5_word_3 16 rfl rfl)
theorem dX5_word_90 : decode cX5_word 90 = .ok (.iinc 4 1, 3) := dk_132 4 1 (dk_at dksX5_word_3 19 rfl rfl)
theorem dX5_word_93 : decode cX5_word 93 = .ok (.goto (-76), 3) := dk_167 255 180 (dk_at dksX5_word_4 0 rfl rfl)
theorem dX5_word_96 : decode cX5_word 96 = .ok (.iload_n 2, 1) := dk_28 (dk_at dksX5_word_4 3 rfl rfl)
theorem dX5_word_97 : decode cX5_word 97 = .ok (.ifCond .eq 7, 3) := dk_153 0 7 (dk_at dksX5_word_4 4 rfl rfl)
theorem dX5_word_100 : decode cX5_word 100 = .ok (.iload_n 1, 1) := dk_27 (dk_at dksX5_word_4 7 rfl rfl)
theorem dX5_word_101 : decode cX5_word 101 = .ok (.goto 4, 3) := dk_167 0 4 (dk_at dksX5_word_4 8 rfl rfl)
theorem dX5_word_104 : decode cX5_word 104 = .ok (.iconst 0, 1) := dk_3 (dk_at dksX5_word_4 11 rfl rfl)
theorem dX5_word_105 : decode cX5_word 105 = .ok (.ireturn, 1) := dk_172 (dk_at dksX5_word_4 12 rfl rfl)
abbrev cX5_isLetter : ByteArray := prog_17_method_26_code
def yX5_isLetter : MethodName := ⟨RX5, "isLetter", "(I)Z"⟩
def dkwX5_isLetter_1 : List UInt8 := [4, 167, 0, 4, 3, 172]
abbrev dktX5_isLetter_1 : List UInt8 := dkwX5_isLetter_1 ++ []
def dkwX5_isLetter_0 : List UInt8 := [26, 16, 97, 161, 0, 9, 26, 16, 122, 164, 0, 15, 26, 16, 65, 161, 0, 13, 26, 16, 90, 163, 0, 7]
abbrev dktX5_isLetter_0 : List UInt8 := dkwX5_isLetter_0 ++ dktX5_isLetter_1
theorem dksX5_isLetter_0 : cX5_isLetter.data.toList.drop 0 = dktX5_isLetter_0 := by decide +kernel
theorem dksX5_isLetter_1 : cX5_isLetter.data.toList.drop 24 = dktX5_isLetter_1 := dk_seg dksX5_isLetter_0 24 rfl rfl
theorem dX5_isLetter_0 : decode cX5_isLetter 0 = .ok (.iload_n 0, 1) := dk_26 (dk_at dksX5_isLetter_0 0 rfl rfl)
theorem dX5_isLetter_1 : decode cX5_isLetter 1 = .ok (.bipush 97, 2) := dk_16 97 (dk_at dksX5_isLetter_0 1 rfl rfl)
theorem dX5_isLetter_3 : decode cX5_isLetter 3 = .ok (.if_icmp .lt 9, 3) := dk_161 0 9 (dk_at dksX5_isLetter_0 3 rfl rfl)
theorem dX5_isLetter_6 : decode cX5_isLetter 6 = .ok (.iload_n 0, 1) := dk_26 (dk_at dksX5_isLetter_0 6 rfl rfl)
theorem dX5_isLetter_7 : decode cX5_isLetter 7 = .ok (.bipush 122, 2) := dk_16 122 (dk_at dksX5_isLetter_0 7 rfl rfl)
theorem dX5_isLetter_9 : decode cX5_isLetter 9 = .ok (.if_icmp .le 15, 3) := dk_164 0 15 (dk_at dksX5_isLetter_0 9 rfl rfl)
theorem dX5_isLetter_12 : decode cX5_isLetter 12 = .ok (.iload_n 0, 1) := dk_26 (dk_at dksX5_isLetter_0 12 rfl rfl)
theorem dX5_isLetter_13 : decode cX5_isLetter 13 = .ok (.bipush 65, 2) := dk_16 65 (dk_at dksX5_isLetter_0 13 rfl rfl)
theorem dX5_isLetter_15 : decode cX5_isLetter 15 = .ok (.if_icmp .lt 13, 3) := dk_161 0 13 (dk_at dksX5_isLetter_0 15 rfl rfl)
theorem dX5_isLetter_18 : decode cX5_isLetter 18 = .ok (.iload_n 0, 1) := dk_26 (dk_at dksX5_isLetter_0 18 rfl rfl)
theorem dX5_isLetter_19 : decode cX5_isLetter 19 = .ok (.bipush 90, 2) := dk_16 90 (dk_at dksX5_isLetter_0 19 rfl rfl)
theorem dX5_isLetter_21 : decode cX5_isLetter 21 = .ok (.if_icmp .gt 7, 3) := dk_163 0 7 (dk_at dksX5_isLetter_0 21 rfl rfl)
theorem dX5_isLetter_24 : decode cX5_isLetter 24 = .ok (.iconst 1, 1) := dk_4 (dk_at dksX5_isLetter_1 0 rfl rfl)
theorem dX5_isLetter_25 : decode cX5_isLetter 25 = .ok (.goto 4, 3) := dk_167 0 4 (dk_at dksX5_isLetter_1 1 rfl rfl)
theorem dX5_isLetter_28 : decode cX5_isLetter 28 = .ok (.iconst 0, 1) := dk_3 (dk_at dksX5_isLetter_1 4 rfl rfl)
theorem dX5_isLetter_29 : decode cX5_isLetter 29 = .ok (.ireturn, 1) := dk_172 (dk_at dksX5_isLetter_1 5 rfl rfl)
abbrev cX5_packed : ByteArray := prog_17_method_28_code
def yX5_packed : MethodName := ⟨RX5, "packed", "(II)I"⟩
def dkwX5_packed_0 : List UInt8 := [26, 8, 120, 27, 16, 96, 100, 128, 172]
abbrev dktX5_packed_0 : List UInt8 := dkwX5_packed_0 ++ []
theorem dksX5_packed_0 : cX5_packed.data.toList.drop 0 = dktX5_packed_0 := by decide +kernel
theorem dX5_packed_0 : decode cX5_packed 0 = .ok (.iload_n 0, 1) := dk_26 (dk_at dksX5_packed_0 0 rfl rfl)
theorem dX5_packed_1 : decode cX5_packed 1 = .ok (.iconst 5, 1) := dk_8 (dk_at dksX5_packed_0 1 rfl rfl)
theorem dX5_packed_2 : decode cX5_packed 2 = .ok (.ishl, 1) := dk_120 (dk_at dksX5_packed_0 2 rfl rfl)
theorem dX5_packed_3 : decode cX5_packed 3 = .ok (.iload_n 1, 1) := dk_27 (dk_at dksX5_packed_0 3 rfl rfl)
theorem dX5_packed_4 : decode cX5_packed 4 = .ok (.bipush 96, 2) := dk_16 96 (dk_at dksX5_packed_0 4 rfl rfl)
theorem dX5_packed_6 : decode cX5_packed 6 = .ok (.isub, 1) := dk_100 (dk_at dksX5_packed_0 6 rfl rfl)
theorem dX5_packed_7 : decode cX5_packed 7 = .ok (.ior, 1) := dk_128 (dk_at dksX5_packed_0 7 rfl rfl)
theorem dX5_packed_8 : decode cX5_packed 8 = .ok (.ireturn, 1) := dk_172 (dk_at dksX5_packed_0 8 rfl rfl)
abbrev cX5_spelt : ByteArray := prog_17_method_30_code
def yX5_spelt : MethodName := ⟨RX5, "spelt", "(IIIIII)I"⟩
def dkwX5_spelt_4 : List UInt8 := [172]
abbrev dktX5_spelt_4 : List UInt8 := dkwX5_spelt_4 ++ []
def dkwX5_spelt_3 : List UInt8 := [21, 4, 184, 0, 146, 54, 6, 21, 5, 154, 0, 8, 21, 6, 167, 0, 10, 21, 6, 21, 5, 184, 0, 146]
abbrev dktX5_spelt_3 : List UInt8 := dkwX5_spelt_3 ++ dktX5_spelt_4
def dkwX5_spelt_2 : List UInt8 := [167, 0, 9, 21, 6, 29, 184, 0, 146, 54, 6, 21, 4, 154, 0, 8, 21, 6, 167, 0, 10, 21, 6]
abbrev dktX5_spelt_2 : List UInt8 := dkwX5_spelt_2 ++ dktX5_spelt_3
def dkwX5_spelt_1 : List UInt8 := [28, 154, 0, 8, 21, 6, 167, 0, 9, 21, 6, 28, 184, 0, 146, 54, 6, 29, 154, 0, 8, 21, 6]
abbrev dktX5_spelt_1 : List UInt8 := dkwX5_spelt_1 ++ dktX5_spelt_2
def dkwX5_spelt_0 : List UInt8 := [3, 26, 184, 0, 146, 54, 6, 27, 154, 0, 8, 21, 6, 167, 0, 9, 21, 6, 27, 184, 0, 146, 54, 6]
abbrev dktX5_spelt_0 : List UInt8 := dkwX5_spelt_0 ++ dktX5_spelt_1
theorem dksX5_spelt_0 : cX5_spelt.data.toList.drop 0 = dktX5_spelt_0 := by decide +kernel
theorem dksX5_spelt_1 : cX5_spelt.data.toList.drop 24 = dktX5_spelt_1 := dk_seg dksX5_spelt_0 24 rfl rfl
theorem dksX5_spelt_2 : cX5_spelt.data.toList.drop 47 = dktX5_spelt_2 := dk_seg dksX5_spelt_1 23 rfl rfl
theorem dksX5_spelt_3 : cX5_spelt.data.toList.drop 70 = dktX5_spelt_3 := dk_seg dksX5_spelt_2 23 rfl rfl
theorem dksX5_spelt_4 : cX5_spelt.data.toList.drop 94 = dktX5_spelt_4 := dk_seg dksX5_spelt_3 24 rfl rfl
theorem dX5_spelt_0 : decode cX5_spelt 0 = .ok (.iconst 0, 1) := dk_3 (dk_at dksX5_spelt_0 0 rfl rfl)
theorem dX5_spelt_1 : decode cX5_spelt 1 = .ok (.iload_n 0, 1) := dk_26 (dk_at dksX5_spelt_0 1 rfl rfl)
theorem dX5_spelt_2 : decode cX5_spelt 2 = .ok (.invokestatic 146, 3) := dk_184 0 146 (dk_at dksX5_spelt_0 2 rfl rfl)
theorem dX5_spelt_5 : decode cX5_spelt 5 = .ok (.istore 6, 2) := dk_54 6 (dk_at dksX5_spelt_0 5 rfl rfl)
theorem dX5_spelt_7 : decode cX5_spelt 7 = .ok (.iload_n 1, 1) := dk_27 (dk_at dksX5_spelt_0 7 rfl rfl)
theorem dX5_spelt_8 : decode cX5_spelt 8 = .ok (.ifCond .ne 8, 3) := dk_154 0 8 (dk_at dksX5_spelt_0 8 rfl rfl)
theorem dX5_spelt_11 : decode cX5_spelt 11 = .ok (.iload 6, 2) := dk_21 6 (dk_at dksX5_spelt_0 11 rfl rfl)
theorem dX5_spelt_13 : decode cX5_spelt 13 = .ok (.goto 9, 3) := dk_167 0 9 (dk_at dksX5_spelt_0 13 rfl rfl)
theorem dX5_spelt_16 : decode cX5_spelt 16 = .ok (.iload 6, 2) := dk_21 6 (dk_at dksX5_spelt_0 16 rfl rfl)
theorem dX5_spelt_18 : decode cX5_spelt 18 = .ok (.iload_n 1, 1) := dk_27 (dk_at dksX5_spelt_0 18 rfl rfl)
theorem dX5_spelt_19 : decode cX5_spelt 19 = .ok (.invokestatic 146, 3) := dk_184 0 146 (dk_at dksX5_spelt_0 19 rfl rfl)
theorem dX5_spelt_22 : decode cX5_spelt 22 = .ok (.istore 6, 2) := dk_54 6 (dk_at dksX5_spelt_0 22 rfl rfl)
theorem dX5_spelt_24 : decode cX5_spelt 24 = .ok (.iload_n 2, 1) := dk_28 (dk_at dksX5_spelt_1 0 rfl rfl)
theorem dX5_spelt_25 : decode cX5_spelt 25 = .ok (.ifCond .ne 8, 3) := dk_154 0 8 (dk_at dksX5_spelt_1 1 rfl rfl)
theorem dX5_spelt_28 : decode cX5_spelt 28 = .ok (.iload 6, 2) := dk_21 6 (dk_at dksX5_spelt_1 4 rfl rfl)
theorem dX5_spelt_30 : decode cX5_spelt 30 = .ok (.goto 9, 3) := dk_167 0 9 (dk_at dksX5_spelt_1 6 rfl rfl)
theorem dX5_spelt_33 : decode cX5_spelt 33 = .ok (.iload 6, 2) := dk_21 6 (dk_at dksX5_spelt_1 9 rfl rfl)
theorem dX5_spelt_35 : decode cX5_spelt 35 = .ok (.iload_n 2, 1) := dk_28 (dk_at dksX5_spelt_1 11 rfl rfl)
theorem dX5_spelt_36 : decode cX5_spelt 36 = .ok (.invokestatic 146, 3) := dk_184 0 146 (dk_at dksX5_spelt_1 12 rfl rfl)
theorem dX5_spelt_39 : decode cX5_spelt 39 = .ok (.istore 6, 2) := dk_54 6 (dk_at dksX5_spelt_1 15 rfl rfl)
theorem dX5_spelt_41 : decode cX5_spelt 41 = .ok (.iload_n 3, 1) := dk_29 (dk_at dksX5_spelt_1 17 rfl rfl)
theorem dX5_spelt_42 : decode cX5_spelt 42 = .ok (.ifCond .ne 8, 3) := dk_154 0 8 (dk_at dksX5_spelt_1 18 rfl rfl)
theorem dX5_spelt_45 : decode cX5_spelt 45 = .ok (.iload 6, 2) := dk_21 6 (dk_at dksX5_spelt_1 21 rfl rfl)
theorem dX5_spelt_47 : decode cX5_spelt 47 = .ok (.goto 9, 3) := dk_167 0 9 (dk_at dksX5_spelt_2 0 rfl rfl)
theorem dX5_spelt_50 : decode cX5_spelt 50 = .ok (.iload 6, 2) := dk_21 6 (dk_at dksX5_spelt_2 3 rfl rfl)
theorem dX5_spelt_52 : decode cX5_spelt 52 = .ok (.iload_n 3, 1) := dk_29 (dk_at dksX5_spelt_2 5 rfl rfl)
theorem dX5_spelt_53 : decode cX5_spelt 53 = .ok (.invokestatic 146, 3) := dk_184 0 146 (dk_at dksX5_spelt_2 6 rfl rfl)
theorem dX5_spelt_56 : decode cX5_spelt 56 = .ok (.istore 6, 2) := dk_54 6 (dk_at dksX5_spelt_2 9 rfl rfl)
theorem dX5_spelt_58 : decode cX5_spelt 58 = .ok (.iload 4, 2) := dk_21 4 (dk_at dksX5_spelt_2 11 rfl rfl)
theorem dX5_spelt_60 : decode cX5_spelt 60 = .ok (.ifCond .ne 8, 3) := dk_154 0 8 (dk_at dksX5_spelt_2 13 rfl rfl)
theorem dX5_spelt_63 : decode cX5_spelt 63 = .ok (.iload 6, 2) := dk_21 6 (dk_at dksX5_spelt_2 16 rfl rfl)
theorem dX5_spelt_65 : decode cX5_spelt 65 = .ok (.goto 10, 3) := dk_167 0 10 (dk_at dksX5_spelt_2 18 rfl rfl)
theorem dX5_spelt_68 : decode cX5_spelt 68 = .ok (.iload 6, 2) := dk_21 6 (dk_at dksX5_spelt_2 21 rfl rfl)
theorem dX5_spelt_70 : decode cX5_spelt 70 = .ok (.iload 4, 2) := dk_21 4 (dk_at dksX5_spelt_3 0 rfl rfl)
theorem dX5_spelt_72 : decode cX5_spelt 72 = .ok (.invokestatic 146, 3) := dk_184 0 146 (dk_at dksX5_spelt_3 2 rfl rfl)
theorem dX5_spelt_75 : decode cX5_spelt 75 = .ok (.istore 6, 2) := dk_54 6 (dk_at dksX5_spelt_3 5 rfl rfl)
theorem dX5_spelt_77 : decode cX5_spelt 77 = .ok (.iload 5, 2) := dk_21 5 (dk_at dksX5_spelt_3 7 rfl rfl)
theorem dX5_spelt_79 : decode cX5_spelt 79 = .ok (.ifCond .ne 8, 3) := dk_154 0 8 (dk_at dksX5_spelt_3 9 rfl rfl)
theorem dX5_spelt_82 : decode cX5_spelt 82 = .ok (.iload 6, 2) := dk_21 6 (dk_at dksX5_spelt_3 12 rfl rfl)
theorem dX5_spelt_84 : decode cX5_spelt 84 = .ok (.goto 10, 3) := dk_167 0 10 (dk_at dksX5_spelt_3 14 rfl rfl)
theorem dX5_spelt_87 : decode cX5_spelt 87 = .ok (.iload 6, 2) := dk_21 6 (dk_at dksX5_spelt_3 17 rfl rfl)
theorem dX5_spelt_89 : decode cX5_spelt 89 = .ok (.iload 5, 2) := dk_21 5 (dk_at dksX5_spelt_3 19 rfl rfl)
theorem dX5_spelt_91 : decode cX5_spelt 91 = .ok (.invokestatic 146, 3) := dk_184 0 146 (dk_at dksX5_spelt_3 21 rfl rfl)
theorem dX5_spelt_94 : decode cX5_spelt 94 = .ok (.ireturn, 1) := dk_172 (dk_at dksX5_spelt_4 0 rfl rfl)
abbrev cX5_mayBegin : ByteArray := prog_17_method_35_code
def yX5_mayBegin : MethodName := ⟨RX5, "mayBegin", "(ZZ)V"⟩
def dkwX5_mayBegin_1 : List UInt8 := [180, 0, 132, 182, 0, 156, 42, 182, 0, 149, 153, 0, 7, 42, 182, 0, 163, 177]
abbrev dktX5_mayBegin_1 : List UInt8 := dkwX5_mayBegin_1 ++ []
def dkwX5_mayBegin_0 : List UInt8 := [27, 154, 0, 15, 42, 4, 42, 180, 0, 132, 182, 0, 156, 167, 0, 16, 28, 153, 0, 12, 42, 6, 42]
abbrev dktX5_mayBegin_0 : List UInt8 := dkwX5_mayBegin_0 ++ dktX5_mayBegin_1
theorem dksX5_mayBegin_0 : cX5_mayBegin.data.toList.drop 0 = dktX5_mayBegin_0 := by decide +kernel
theorem dksX5_mayBegin_1 : cX5_mayBegin.data.toList.drop 23 = dktX5_mayBegin_1 := dk_seg dksX5_mayBegin_0 23 rfl rfl
theorem dX5_mayBegin_0 : decode cX5_mayBegin 0 = .ok (.iload_n 1, 1) := dk_27 (dk_at dksX5_mayBegin_0 0 rfl rfl)
theorem dX5_mayBegin_1 : decode cX5_mayBegin 1 = .ok (.ifCond .ne 15, 3) := dk_154 0 15 (dk_at dksX5_mayBegin_0 1 rfl rfl)
theorem dX5_mayBegin_4 : decode cX5_mayBegin 4 = .ok (.aload_n 0, 1) := dk_42 (dk_at dksX5_mayBegin_0 4 rfl rfl)
theorem dX5_mayBegin_5 : decode cX5_mayBegin 5 = .ok (.iconst 1, 1) := dk_4 (dk_at dksX5_mayBegin_0 5 rfl rfl)
theorem dX5_mayBegin_6 : decode cX5_mayBegin 6 = .ok (.aload_n 0, 1) := dk_42 (dk_at dksX5_mayBegin_0 6 rfl rfl)
theorem dX5_mayBegin_7 : decode cX5_mayBegin 7 = .ok (.getfield 132, 3) := dk_180 0 132 (dk_at dksX5_mayBegin_0 7 rfl rfl)
theorem dX5_mayBegin_10 : decode cX5_mayBegin 10 = .ok (.invokevirtual 156, 3) := dk_182 0 156 (dk_at dksX5_mayBegin_0 10 rfl rfl)
theorem dX5_mayBegin_13 : decode cX5_mayBegin 13 = .ok (.goto 16, 3) := dk_167 0 16 (dk_at dksX5_mayBegin_0 13 rfl rfl)
theorem dX5_mayBegin_16 : decode cX5_mayBegin 16 = .ok (.iload_n 2, 1) := dk_28 (dk_at dksX5_mayBegin_0 16 rfl rfl)
theorem dX5_mayBegin_17 : decode cX5_mayBegin 17 = .ok (.ifCond .eq 12, 3) := dk_153 0 12 (dk_at dksX5_mayBegin_0 17 rfl rfl)
theorem dX5_mayBegin_20 : decode cX5_mayBegin 20 = .ok (.aload_n 0, 1) := dk_42 (dk_at dksX5_mayBegin_0 20 rfl rfl)
theorem dX5_mayBegin_21 : decode cX5_mayBegin 21 = .ok (.iconst 3, 1) := dk_6 (dk_at dksX5_mayBegin_0 21 rfl rfl)
theorem dX5_mayBegin_22 : decode cX5_mayBegin 22 = .ok (.aload_n 0, 1) := dk_42 (dk_at dksX5_mayBegin_0 22 rfl rfl)
theorem dX5_mayBegin_23 : decode cX5_mayBegin 23 = .ok (.getfield 132, 3) := dk_180 0 132 (dk_at dksX5_mayBegin_1 0 rfl rfl)
theorem dX5_mayBegin_26 : decode cX5_mayBegin 26 = .ok (.invokevirtual 156, 3) := dk_182 0 156 (dk_at dksX5_mayBegin_1 3 rfl rfl)
theorem dX5_mayBegin_29 : decode cX5_mayBegin 29 = .ok (.aload_n 0, 1) := dk_42 (dk_at dksX5_mayBegin_1 6 rfl rfl)
theorem dX5_mayBegin_30 : decode cX5_mayBegin 30 = .ok (.invokevirtual 149, 3) := dk_182 0 149 (dk_at dksX5_mayBegin_1 7 rfl rfl)
theorem dX5_mayBegin_33 : decode cX5_mayBegin 33 = .ok (.ifCond .eq 7, 3) := dk_153 0 7 (dk_at dksX5_mayBegin_1 10 rfl rfl)
theorem dX5_mayBegin_36 : decode cX5_mayBegin 36 = .ok (.aload_n 0, 1) := dk_42 (dk_at dksX5_mayBegin_1 13 rfl rfl)
theorem dX5_mayBegin_37 : decode cX5_mayBegin 37 = .ok (.invokevirtual 163, 3) := dk_182 0 163 (dk_at dksX5_mayBegin_1 14 rfl rfl)
theorem dX5_mayBegin_40 : decode cX5_mayBegin 40 = .ok (.return_, 1) := dk_177 (dk_at dksX5_mayBegin_1 17 rfl rfl)
abbrev cX5_wrong : ByteArray := prog_17_method_24_code
def yX5_wrong : MethodName := ⟨RX5, "wrong", "(II)V"⟩
def dkwX5_wrong_0 : List UInt8 := [42, 180, 0, 126, 2, 159, 0, 4, 177, 42, 28, 181, 0, 126, 42, 27, 181, 0, 129, 177]
abbrev dktX5_wrong_0 : List UInt8 := dkwX5_wrong_0 ++ []
theorem dksX5_wrong_0 : cX5_wrong.data.toList.drop 0 = dktX5_wrong_0 := by decide +kernel
theorem dX5_wrong_0 : decode cX5_wrong 0 = .ok (.aload_n 0, 1) := dk_42 (dk_at dksX5_wrong_0 0 rfl rfl)
theorem dX5_wrong_1 : decode cX5_wrong 1 = .ok (.getfield 126, 3) := dk_180 0 126 (dk_at dksX5_wrong_0 1 rfl rfl)
theorem dX5_wrong_4 : decode cX5_wrong 4 = .ok (.iconst (-1), 1) := dk_2 (dk_at dksX5_wrong_0 4 rfl rfl)
theorem dX5_wrong_5 : decode cX5_wrong 5 = .ok (.if_icmp .eq 4, 3) := dk_159 0 4 (dk_at dksX5_wrong_0 5 rfl rfl)
theorem dX5_wrong_8 : decode cX5_wrong 8 = .ok (.return_, 1) := dk_177 (dk_at dksX5_wrong_0 8 rfl rfl)
theorem dX5_wrong_9 : decode cX5_wrong 9 = .ok (.aload_n 0, 1) := dk_42 (dk_at dksX5_wrong_0 9 rfl rfl)
theorem dX5_wrong_10 : decode cX5_wrong 10 = .ok (.iload_n 2, 1) := dk_28 (dk_at dksX5_wrong_0 10 rfl rfl)
theorem dX5_wrong_11 : decode cX5_wrong 11 = .ok (.putfield 126, 3) := dk_181 0 126 (dk_at dksX5_wrong_0 11 rfl rfl)
theorem dX5_wrong_14 : decode cX5_wrong 14 = .ok (.aload_n 0, 1) := dk_42 (dk_at dksX5_wrong_0 14 rfl rfl)
theorem dX5_wrong_15 : decode cX5_wrong 15 = .ok (.iload_n 1, 1) := dk_27 (dk_at dksX5_wrong_0 15 rfl rfl)
theorem dX5_wrong_16 : decode cX5_wrong 16 = .ok (.putfield 129, 3) := dk_181 0 129 (dk_at dksX5_wrong_0 16 rfl rfl)
theorem dX5_wrong_19 : decode cX5_wrong 19 = .ok (.return_, 1) := dk_177 (dk_at dksX5_wrong_0 19 rfl rfl)
abbrev cX5_pass : ByteArray := prog_17_method_31_code
def yX5_pass : MethodName := ⟨RX5, "pass", "()V"⟩
def dkwX5_pass_1 : List UInt8 := [153, 0, 16, 42, 89, 180, 0, 132, 4, 96, 181, 0, 132, 167, 255, 220, 177]
abbrev dktX5_pass_1 : List UInt8 := dkwX5_pass_1 ++ []
def dkwX5_pass_0 : List UInt8 := [42, 180, 0, 132, 42, 180, 0, 135, 162, 0, 31, 42, 180, 0, 26, 42, 180, 0, 132, 46, 184, 0, 142]
abbrev dktX5_pass_0 : List UInt8 := dkwX5_pass_0 ++ dktX5_pass_1
theorem dksX5_pass_0 : cX5_pass.data.toList.drop 0 = dktX5_pass_0 := by decide +kernel
theorem dksX5_pass_1 : cX5_pass.data.toList.drop 23 = dktX5_pass_1 := dk_seg dksX5_pass_0 23 rfl rfl
theorem dX5_pass_0 : decode cX5_pass 0 = .ok (.aload_n 0, 1) := dk_42 (dk_at dksX5_pass_0 0 rfl rfl)
theorem dX5_pass_1 : decode cX5_pass 1 = .ok (.getfield 132, 3) := dk_180 0 132 (dk_at dksX5_pass_0 1 rfl rfl)
theorem dX5_pass_4 : decode cX5_pass 4 = .ok (.aload_n 0, 1) := dk_42 (dk_at dksX5_pass_0 4 rfl rfl)
theorem dX5_pass_5 : decode cX5_pass 5 = .ok (.getfield 135, 3) := dk_180 0 135 (dk_at dksX5_pass_0 5 rfl rfl)
theorem dX5_pass_8 : decode cX5_pass 8 = .ok (.if_icmp .ge 31, 3) := dk_162 0 31 (dk_at dksX5_pass_0 8 rfl rfl)
theorem dX5_pass_11 : decode cX5_pass 11 = .ok (.aload_n 0, 1) := dk_42 (dk_at dksX5_pass_0 11 rfl rfl)
theorem dX5_pass_12 : decode cX5_pass 12 = .ok (.getfield 26, 3) := dk_180 0 26 (dk_at dksX5_pass_0 12 rfl rfl)
theorem dX5_pass_15 : decode cX5_pass 15 = .ok (.aload_n 0, 1) := dk_42 (dk_at dksX5_pass_0 15 rfl rfl)
theorem dX5_pass_16 : decode cX5_pass 16 = .ok (.getfield 132, 3) := dk_180 0 132 (dk_at dksX5_pass_0 16 rfl rfl)
theorem dX5_pass_19 : decode cX5_pass 19 = .ok (.iaload, 1) := dk_46 (dk_at dksX5_pass_0 19 rfl rfl)
theorem dX5_pass_20 : decode cX5_pass 20 = .ok (.invokestatic 142, 3) := dk_184 0 142 (dk_at dksX5_pass_0 20 rfl rfl)
theorem dX5_pass_23 : decode cX5_pass 23 = .ok (.ifCond .eq 16, 3) := dk_153 0 16 (dk_at dksX5_pass_1 0 rfl rfl)
theorem dX5_pass_26 : decode cX5_pass 26 = .ok (.aload_n 0, 1) := dk_42 (dk_at dksX5_pass_1 3 rfl rfl)
theorem dX5_pass_27 : decode cX5_pass 27 = .ok (.dup, 1) := dk_89 (dk_at dksX5_pass_1 4 rfl rfl)
theorem dX5_pass_28 : decode cX5_pass 28 = .ok (.getfield 132, 3) := dk_180 0 132 (dk_at dksX5_pass_1 5 rfl rfl)
theorem dX5_pass_31 : decode cX5_pass 31 = .ok (.iconst 1, 1) := dk_4 (dk_at dksX5_pass_1 8 rfl rfl)
theorem dX5_pass_32 : decode cX5_pass 32 = .ok (.iadd, 1) := dk_96 (dk_at dksX5_pass_1 9 rfl rfl)
theorem dX5_pass_33 : decode cX5_pass 33 = .ok (.putfield 132, 3) := dk_181 0 132 (dk_at dksX5_pass_1 10 rfl rfl)
theorem dX5_pass_36 : decode cX5_pass 36 = .ok (.goto (-36), 3) := dk_167 255 220 (dk_at dksX5_pass_1 13 rfl rfl)
theorem dX5_pass_39 : decode cX5_pass 39 = .ok (.return_, 1) := dk_177 (dk_at dksX5_pass_1 16 rfl rfl)
abbrev cX5_readSum : ByteArray := prog_17_method_51_code
def yX5_readSum : MethodName := ⟨RX5, "readSum", "()V"⟩
def dkwX5_readSum_2 : List UInt8 := [180, 0, 132, 4, 96, 181, 0, 132, 42, 182, 0, 234, 42, 27, 3, 182, 0, 217, 167, 255, 196, 177]
abbrev dktX5_readSum_2 : List UInt8 := dkwX5_readSum_2 ++ []
def dkwX5_readSum_1 : List UInt8 := [16, 45, 160, 0, 41, 42, 182, 0, 138, 16, 43, 160, 0, 7, 5, 167, 0, 4, 6, 60, 42, 89]
abbrev dktX5_readSum_1 : List UInt8 := dkwX5_readSum_1 ++ dktX5_readSum_2
def dkwX5_readSum_0 : List UInt8 := [42, 182, 0, 234, 42, 182, 0, 149, 153, 0, 59, 42, 182, 0, 138, 16, 43, 159, 0, 12, 42, 182, 0, 138]
abbrev dktX5_readSum_0 : List UInt8 := dkwX5_readSum_0 ++ dktX5_readSum_1
theorem dksX5_readSum_0 : cX5_readSum.data.toList.drop 0 = dktX5_readSum_0 := by decide +kernel
theorem dksX5_readSum_1 : cX5_readSum.data.toList.drop 24 = dktX5_readSum_1 := dk_seg dksX5_readSum_0 24 rfl rfl
theorem dksX5_readSum_2 : cX5_readSum.data.toList.drop 46 = dktX5_readSum_2 := dk_seg dksX5_readSum_1 22 rfl rfl
theorem dX5_readSum_0 : decode cX5_readSum 0 = .ok (.aload_n 0, 1) := dk_42 (dk_at dksX5_readSum_0 0 rfl rfl)
theorem dX5_readSum_1 : decode cX5_readSum 1 = .ok (.invokevirtual 234, 3) := dk_182 0 234 (dk_at dksX5_readSum_0 1 rfl rfl)
theorem dX5_readSum_4 : decode cX5_readSum 4 = .ok (.aload_n 0, 1) := dk_42 (dk_at dksX5_readSum_0 4 rfl rfl)
theorem dX5_readSum_5 : decode cX5_readSum 5 = .ok (.invokevirtual 149, 3) := dk_182 0 149 (dk_at dksX5_readSum_0 5 rfl rfl)
theorem dX5_readSum_8 : decode cX5_readSum 8 = .ok (.ifCond .eq 59, 3) := dk_153 0 59 (dk_at dksX5_readSum_0 8 rfl rfl)
theorem dX5_readSum_11 : decode cX5_readSum 11 = .ok (.aload_n 0, 1) := dk_42 (dk_at dksX5_readSum_0 11 rfl rfl)
theorem dX5_readSum_12 : decode cX5_readSum 12 = .ok (.invokevirtual 138, 3) := dk_182 0 138 (dk_at dksX5_readSum_0 12 rfl rfl)
theorem dX5_readSum_15 : decode cX5_readSum 15 = .ok (.bipush 43, 2) := dk_16 43 (dk_at dksX5_readSum_0 15 rfl rfl)
theorem dX5_readSum_17 : decode cX5_readSum 17 = .ok (.if_icmp .eq 12, 3) := dk_159 0 12 (dk_at dksX5_readSum_0 17 rfl rfl)
theorem dX5_readSum_20 : decode cX5_readSum 20 = .ok (.aload_n 0, 1) := dk_42 (dk_at dksX5_readSum_0 20 rfl rfl)
theorem dX5_readSum_21 : decode cX5_readSum 21 = .ok (.invokevirtual 138, 3) := dk_182 0 138 (dk_at dksX5_readSum_0 21 rfl rfl)
theorem dX5_readSum_24 : decode cX5_readSum 24 = .ok (.bipush 45, 2) := dk_16 45 (dk_at dksX5_readSum_1 0 rfl rfl)
theorem dX5_readSum_26 : decode cX5_readSum 26 = .ok (.if_icmp .ne 41, 3) := dk_160 0 41 (dk_at dksX5_readSum_1 2 rfl rfl)
theorem dX5_readSum_29 : decode cX5_readSum 29 = .ok (.aload_n 0, 1) := dk_42 (dk_at dksX5_readSum_1 5 rfl rfl)
theorem dX5_readSum_30 : decode cX5_readSum 30 = .ok (.invokevirtual 138, 3) := dk_182 0 138 (dk_at dksX5_readSum_1 6 rfl rfl)
theorem dX5_readSum_33 : decode cX5_readSum 33 = .ok (.bipush 43, 2) := dk_16 43 (dk_at dksX5_readSum_1 9 rfl rfl)
theorem dX5_readSum_35 : decode cX5_readSum 35 = .ok (.if_icmp .ne 7, 3) := dk_160 0 7 (dk_at dksX5_readSum_1 11 rfl rfl)
theorem dX5_readSum_38 : decode cX5_readSum 38 = .ok (.iconst 2, 1) := dk_5 (dk_at dksX5_readSum_1 14 rfl rfl)
theorem dX5_readSum_39 : decode cX5_readSum 39 = .ok (.goto 4, 3) := dk_167 0 4 (dk_at dksX5_readSum_1 15 rfl rfl)
theorem dX5_readSum_42 : decode cX5_readSum 42 = .ok (.iconst 3, 1) := dk_6 (dk_at dksX5_readSum_1 18 rfl rfl)
theorem dX5_readSum_43 : decode cX5_readSum 43 = .ok (.istore_n 1, 1) := dk_60 (dk_at dksX5_readSum_1 19 rfl rfl)
theorem dX5_readSum_44 : decode cX5_readSum 44 = .ok (.aload_n 0, 1) := dk_42 (dk_at dksX5_readSum_1 20 rfl rfl)
theorem dX5_readSum_45 : decode cX5_readSum 45 = .ok (.dup, 1) := dk_89 (dk_at dksX5_readSum_1 21 rfl rfl)
theorem dX5_readSum_46 : decode cX5_readSum 46 = .ok (.getfield 132, 3) := dk_180 0 132 (dk_at dksX5_readSum_2 0 rfl rfl)
theorem dX5_readSum_49 : decode cX5_readSum 49 = .ok (.iconst 1, 1) := dk_4 (dk_at dksX5_readSum_2 3 rfl rfl)
theorem dX5_readSum_50 : decode cX5_readSum 50 = .ok (.iadd, 1) := dk_96 (dk_at dksX5_readSum_2 4 rfl rfl)
theorem dX5_readSum_51 : decode cX5_readSum 51 = .ok (.putfield 132, 3) := dk_181 0 132 (dk_at dksX5_readSum_2 5 rfl rfl)
theorem dX5_readSum_54 : decode cX5_readSum 54 = .ok (.aload_n 0, 1) := dk_42 (dk_at dksX5_readSum_2 8 rfl rfl)
theorem dX5_readSum_55 : decode cX5_readSum 55 = .ok (.invokevirtual 234, 3) := dk_182 0 234 (dk_at dksX5_readSum_2 9 rfl rfl)
theorem dX5_readSum_58 : decode cX5_readSum 58 = .ok (.aload_n 0, 1) := dk_42 (dk_at dksX5_readSum_2 12 rfl rfl)
theorem dX5_readSum_59 : decode cX5_readSum 59 = .ok (.iload_n 1, 1) := dk_27 (dk_at dksX5_readSum_2 13 rfl rfl)
theorem dX5_readSum_60 : decode cX5_readSum 60 = .ok (.iconst 0, 1) := dk_3 (dk_at dksX5_readSum_2 14 rfl rfl)
theorem dX5_readSum_61 : decode cX5_readSum 61 = .ok (.invokevirtual 217, 3) := dk_182 0 217 (dk_at dksX5_readSum_2 15 rfl rfl)
theorem dX5_readSum_64 : decode cX5_readSum 64 = .ok (.goto (-60), 3) := dk_167 255 196 (dk_at dksX5_readSum_2 18 rfl rfl)
theorem dX5_readSum_67 : decode cX5_readSum 67 = .ok (.return_, 1) := dk_177 (dk_at dksX5_readSum_2 21 rfl rfl)
abbrev cX5_readPart : ByteArray := prog_17_method_52_code
def yX5_readPart : MethodName := ⟨RX5, "readPart", "()V"⟩
def dkwX5_readPart_3 : List UInt8 := [182, 0, 217, 167, 0, 13, 42, 182, 0, 237, 42, 7, 3, 182, 0, 217, 167, 255, 176, 177]
abbrev dktX5_readPart_3 : List UInt8 := dkwX5_readPart_3 ++ []
def dkwX5_readPart_2 : List UInt8 := [180, 0, 132, 4, 96, 181, 0, 132, 27, 153, 0, 19, 42, 8, 42, 4, 17, 39, 15, 182, 0, 202]
abbrev dktX5_readPart_2 : List UInt8 := dkwX5_readPart_2 ++ dktX5_readPart_3
def dkwX5_readPart_1 : List UInt8 := [16, 47, 160, 0, 61, 42, 182, 0, 138, 16, 47, 160, 0, 7, 4, 167, 0, 4, 3, 60, 42, 89]
abbrev dktX5_readPart_1 : List UInt8 := dkwX5_readPart_1 ++ dktX5_readPart_2
def dkwX5_readPart_0 : List UInt8 := [42, 182, 0, 237, 42, 182, 0, 149, 153, 0, 79, 42, 182, 0, 138, 16, 42, 159, 0, 12, 42, 182, 0, 138]
abbrev dktX5_readPart_0 : List UInt8 := dkwX5_readPart_0 ++ dktX5_readPart_1
theorem dksX5_readPart_0 : cX5_readPart.data.toList.drop 0 = dktX5_readPart_0 := by decide +kernel
theorem dksX5_readPart_1 : cX5_readPart.data.toList.drop 24 = dktX5_readPart_1 := dk_seg dksX5_readPart_0 24 rfl rfl
theorem dksX5_readPart_2 : cX5_readPart.data.toList.drop 46 = dktX5_readPart_2 := dk_seg dksX5_readPart_1 22 rfl rfl
theorem dksX5_readPart_3 : cX5_readPart.data.toList.drop 68 = dktX5_readPart_3 := dk_seg dksX5_readPart_2 22 rfl rfl
theorem dX5_readPart_0 : decode cX5_readPart 0 = .ok (.aload_n 0, 1) := dk_42 (dk_at dksX5_readPart_0 0 rfl rfl)
theorem dX5_readPart_1 : decode cX5_readPart 1 = .ok (.invokevirtual 237, 3) := dk_182 0 237 (dk_at dksX5_readPart_0 1 rfl rfl)
theorem dX5_readPart_4 : decode cX5_readPart 4 = .ok (.aload_n 0, 1) := dk_42 (dk_at dksX5_readPart_0 4 rfl rfl)
theorem dX5_readPart_5 : decode cX5_readPart 5 = .ok (.invokevirtual 149, 3) := dk_182 0 149 (dk_at dksX5_readPart_0 5 rfl rfl)
theorem dX5_readPart_8 : decode cX5_readPart 8 = .ok (.ifCond .eq 79, 3) := dk_153 0 79 (dk_at dksX5_readPart_0 8 rfl rfl)
theorem dX5_readPart_11 : decode cX5_readPart 11 = .ok (.aload_n 0, 1) := dk_42 (dk_at dksX5_readPart_0 11 rfl rfl)
theorem dX5_readPart_12 : decode cX5_readPart 12 = .ok (.invokevirtual 138, 3) := dk_182 0 138 (dk_at dksX5_readPart_0 12 rfl rfl)
theorem dX5_readPart_15 : decode cX5_readPart 15 = .ok (.bipush 42, 2) := dk_16 42 (dk_at dksX5_readPart_0 15 rfl rfl)
theorem dX5_readPart_17 : decode cX5_readPart 17 = .ok (.if_icmp .eq 12, 3) := dk_159 0 12 (dk_at dksX5_readPart_0 17 rfl rfl)
theorem dX5_readPart_20 : decode cX5_readPart 20 = .ok (.aload_n 0, 1) := dk_42 (dk_at dksX5_readPart_0 20 rfl rfl)
theorem dX5_readPart_21 : decode cX5_readPart 21 = .ok (.invokevirtual 138, 3) := dk_182 0 138 (dk_at dksX5_readPart_0 21 rfl rfl)
theorem dX5_readPart_24 : decode cX5_readPart 24 = .ok (.bipush 47, 2) := dk_16 47 (dk_at dksX5_readPart_1 0 rfl rfl)
theorem dX5_readPart_26 : decode cX5_readPart 26 = .ok (.if_icmp .ne 61, 3) := dk_160 0 61 (dk_at dksX5_readPart_1 2 rfl rfl)
theorem dX5_readPart_29 : decode cX5_readPart 29 = .ok (.aload_n 0, 1) := dk_42 (dk_at dksX5_readPart_1 5 rfl rfl)
theorem dX5_readPart_30 : decode cX5_readPart 30 = .ok (.invokevirtual 138, 3) := dk_182 0 138 (dk_at dksX5_readPart_1 6 rfl rfl)
theorem dX5_readPart_33 : decode cX5_readPart 33 = .ok (.bipush 47, 2) := dk_16 47 (dk_at dksX5_readPart_1 9 rfl rfl)
theorem dX5_readPart_35 : decode cX5_readPart 35 = .ok (.if_icmp .ne 7, 3) := dk_160 0 7 (dk_at dksX5_readPart_1 11 rfl rfl)
theorem dX5_readPart_38 : decode cX5_readPart 38 = .ok (.iconst 1, 1) := dk_4 (dk_at dksX5_readPart_1 14 rfl rfl)
theorem dX5_readPart_39 : decode cX5_readPart 39 = .ok (.goto 4, 3) := dk_167 0 4 (dk_at dksX5_readPart_1 15 rfl rfl)
theorem dX5_readPart_42 : decode cX5_readPart 42 = .ok (.iconst 0, 1) := dk_3 (dk_at dksX5_readPart_1 18 rfl rfl)
theorem dX5_readPart_43 : decode cX5_readPart 43 = .ok (.istore_n 1, 1) := dk_60 (dk_at dksX5_readPart_1 19 rfl rfl)
theorem dX5_readPart_44 : decode cX5_readPart 44 = .ok (.aload_n 0, 1) := dk_42 (dk_at dksX5_readPart_1 20 rfl rfl)
theorem dX5_readPart_45 : decode cX5_readPart 45 = .ok (.dup, 1) := dk_89 (dk_at dksX5_readPart_1 21 rfl rfl)
theorem dX5_readPart_46 : decode cX5_readPart 46 = .ok (.getfield 132, 3) := dk_180 0 132 (dk_at dksX5_readPart_2 0 rfl rfl)
theorem dX5_readPart_49 : decode cX5_readPart 49 = .ok (.iconst 1, 1) := dk_4 (dk_at dksX5_readPart_2 3 rfl rfl)
theorem dX5_readPart_50 : decode cX5_readPart 50 = .ok (.iadd, 1) := dk_96 (dk_at dksX5_readPart_2 4 rfl rfl)
theorem dX5_readPart_51 : decode cX5_readPart 51 = .ok (.putfield 132, 3) := dk_181 0 132 (dk_at dksX5_readPart_2 5 rfl rfl)
theorem dX5_readPart_54 : decode cX5_readPart 54 = .ok (.iload_n 1, 1) := dk_27 (dk_at dksX5_readPart_2 8 rfl rfl)
theorem dX5_readPart_55 : decode cX5_readPart 55 = .ok (.ifCond .eq 19, 3) := dk_153 0 19 (dk_at dksX5_readPart_2 9 rfl rfl)
theorem dX5_readPart_58 : decode cX5_readPart 58 = .ok (.aload_n 0, 1) := dk_42 (dk_at dksX5_readPart_2 12 rfl rfl)
theorem dX5_readPart_59 : decode cX5_readPart 59 = .ok (.iconst 5, 1) := dk_8 (dk_at dksX5_readPart_2 13 rfl rfl)
theorem dX5_readPart_60 : decode cX5_readPart 60 = .ok (.aload_n 0, 1) := dk_42 (dk_at dksX5_readPart_2 14 rfl rfl)
theorem dX5_readPart_61 : decode cX5_readPart 61 = .ok (.iconst 1, 1) := dk_4 (dk_at dksX5_readPart_2 15 rfl rfl)
theorem dX5_readPart_62 : decode cX5_readPart 62 = .ok (.sipush 9999, 3) := dk_17 39 15 (dk_at dksX5_readPart_2 16 rfl rfl)
theorem dX5_readPart_65 : decode cX5_readPart 65 = .ok (.invokevirtual 202, 3) := dk_182 0 202 (dk_at dksX5_readPart_2 19 rfl rfl)
theorem dX5_readPart_68 : decode cX5_readPart 68 = .ok (.invokevirtual 217, 3) := dk_182 0 217 (dk_at dksX5_readPart_3 0 rfl rfl)
theorem dX5_readPart_71 : decode cX5_readPart 71 = .ok (.goto 13, 3) := dk_167 0 13 (dk_at dksX5_readPart_3 3 rfl rfl)
theorem dX5_readPart_74 : decode cX5_readPart 74 = .ok (.aload_n 0, 1) := dk_42 (dk_at dksX5_readPart_3 6 rfl rfl)
theorem dX5_readPart_75 : decode cX5_readPart 75 = .ok (.invokevirtual 237, 3) := dk_182 0 237 (dk_at dksX5_readPart_3 7 rfl rfl)
theorem dX5_readPart_78 : decode cX5_readPart 78 = .ok (.aload_n 0, 1) := dk_42 (dk_at dksX5_readPart_3 10 rfl rfl)
theorem dX5_readPart_79 : decode cX5_readPart 79 = .ok (.iconst 4, 1) := dk_7 (dk_at dksX5_readPart_3 11 rfl rfl)
theorem dX5_readPart_80 : decode cX5_readPart 80 = .ok (.iconst 0, 1) := dk_3 (dk_at dksX5_readPart_3 12 rfl rfl)
theorem dX5_readPart_81 : decode cX5_readPart 81 = .ok (.invokevirtual 217, 3) := dk_182 0 217 (dk_at dksX5_readPart_3 13 rfl rfl)
theorem dX5_readPart_84 : decode cX5_readPart 84 = .ok (.goto (-80), 3) := dk_167 255 176 (dk_at dksX5_readPart_3 16 rfl rfl)
theorem dX5_readPart_87 : decode cX5_readPart 87 = .ok (.return_, 1) := dk_177 (dk_at dksX5_readPart_3 19 rfl rfl)
abbrev cX5_readUnit : ByteArray := prog_17_method_54_code
def yX5_readUnit : MethodName := ⟨RX5, "readUnit", "()V"⟩
def dkwX5_readUnit_3 : List UInt8 := [182, 0, 217, 177]
abbrev dktX5_readUnit_3 : List UInt8 := dkwX5_readUnit_3 ++ []
def dkwX5_readUnit_2 : List UInt8 := [4, 42, 180, 0, 132, 182, 0, 156, 42, 182, 0, 149, 154, 0, 4, 177, 42, 182, 0, 163, 42, 4, 27]
abbrev dktX5_readUnit_2 : List UInt8 := dkwX5_readUnit_2 ++ dktX5_readUnit_3
def dkwX5_readUnit_1 : List UInt8 := [17, 39, 15, 182, 0, 202, 182, 0, 217, 177, 42, 182, 0, 160, 184, 0, 240, 60, 27, 2, 160, 0, 12, 42]
abbrev dktX5_readUnit_1 : List UInt8 := dkwX5_readUnit_1 ++ dktX5_readUnit_2
def dkwX5_readUnit_0 : List UInt8 := [42, 182, 0, 149, 154, 0, 4, 177, 42, 182, 0, 138, 184, 0, 153, 153, 0, 17, 42, 3, 42, 3]
abbrev dktX5_readUnit_0 : List UInt8 := dkwX5_readUnit_0 ++ dktX5_readUnit_1
theorem dksX5_readUnit_0 : cX5_readUnit.data.toList.drop 0 = dktX5_readUnit_0 := by decide +kernel
theorem dksX5_readUnit_1 : cX5_readUnit.data.toList.drop 22 = dktX5_readUnit_1 := dk_seg dksX5_readUnit_0 22 rfl rfl
theorem dksX5_readUnit_2 : cX5_readUnit.data.toList.drop 46 = dktX5_readUnit_2 := dk_seg dksX5_readUnit_1 24 rfl rfl
theorem dksX5_readUnit_3 : cX5_readUnit.data.toList.drop 69 = dktX5_readUnit_3 := dk_seg dksX5_readUnit_2 23 rfl rfl
theorem dX5_readUnit_0 : decode cX5_readUnit 0 = .ok (.aload_n 0, 1) := dk_42 (dk_at dksX5_readUnit_0 0 rfl rfl)
theorem dX5_readUnit_1 : decode cX5_readUnit 1 = .ok (.invokevirtual 149, 3) := dk_182 0 149 (dk_at dksX5_readUnit_0 1 rfl rfl)
theorem dX5_readUnit_4 : decode cX5_readUnit 4 = .ok (.ifCond .ne 4, 3) := dk_154 0 4 (dk_at dksX5_readUnit_0 4 rfl rfl)
theorem dX5_readUnit_7 : decode cX5_readUnit 7 = .ok (.return_, 1) := dk_177 (dk_at dksX5_readUnit_0 7 rfl rfl)
theorem dX5_readUnit_8 : decode cX5_readUnit 8 = .ok (.aload_n 0, 1) := dk_42 (dk_at dksX5_readUnit_0 8 rfl rfl)
theorem dX5_readUnit_9 : decode cX5_readUnit 9 = .ok (.invokevirtual 138, 3) := dk_182 0 138 (dk_at dksX5_readUnit_0 9 rfl rfl)
theorem dX5_readUnit_12 : decode cX5_readUnit 12 = .ok (.invokestatic 153, 3) := dk_184 0 153 (dk_at dksX5_readUnit_0 12 rfl rfl)
theorem dX5_readUnit_15 : decode cX5_readUnit 15 = .ok (.ifCond .eq 17, 3) := dk_153 0 17 (dk_at dksX5_readUnit_0 15 rfl rfl)
theorem dX5_readUnit_18 : decode cX5_readUnit 18 = .ok (.aload_n 0, 1) := dk_42 (dk_at dksX5_readUnit_0 18 rfl rfl)
theorem dX5_readUnit_19 : decode cX5_readUnit 19 = .ok (.iconst 0, 1) := dk_3 (dk_at dksX5_readUnit_0 19 rfl rfl)
theorem dX5_readUnit_20 : decode cX5_readUnit 20 = .ok (.aload_n 0, 1) := dk_42 (dk_at dksX5_readUnit_0 20 rfl rfl)
theorem dX5_readUnit_21 : decode cX5_readUnit 21 = .ok (.iconst 0, 1) := dk_3 (dk_at dksX5_readUnit_0 21 rfl rfl)
theorem dX5_readUnit_22 : decode cX5_readUnit 22 = .ok (.sipush 9999, 3) := dk_17 39 15 (dk_at dksX5_readUnit_1 0 rfl rfl)
theorem dX5_readUnit_25 : decode cX5_readUnit 25 = .ok (.invokevirtual 202, 3) := dk_182 0 202 (dk_at dksX5_readUnit_1 3 rfl rfl)
theorem dX5_readUnit_28 : decode cX5_readUnit 28 = .ok (.invokevirtual 217, 3) := dk_182 0 217 (dk_at dksX5_readUnit_1 6 rfl rfl)
theorem dX5_readUnit_31 : decode cX5_readUnit 31 = .ok (.return_, 1) := dk_177 (dk_at dksX5_readUnit_1 9 rfl rfl)
theorem dX5_readUnit_32 : decode cX5_readUnit 32 = .ok (.aload_n 0, 1) := dk_42 (dk_at dksX5_readUnit_1 10 rfl rfl)
theorem dX5_readUnit_33 : decode cX5_readUnit 33 = .ok (.invokevirtual 160, 3) := dk_182 0 160 (dk_at dksX5_readUnit_1 11 rfl rfl)
theorem dX5_readUnit_36 : decode cX5_readUnit 36 = .ok (.invokestatic 240, 3) := dk_184 0 240 (dk_at dksX5_readUnit_1 14 rfl rfl)
theorem dX5_readUnit_39 : decode cX5_readUnit 39 = .ok (.istore_n 1, 1) := dk_60 (dk_at dksX5_readUnit_1 17 rfl rfl)
theorem dX5_readUnit_40 : decode cX5_readUnit 40 = .ok (.iload_n 1, 1) := dk_27 (dk_at dksX5_readUnit_1 18 rfl rfl)
theorem dX5_readUnit_41 : decode cX5_readUnit 41 = .ok (.iconst (-1), 1) := dk_2 (dk_at dksX5_readUnit_1 19 rfl rfl)
theorem dX5_readUnit_42 : decode cX5_readUnit 42 = .ok (.if_icmp .ne 12, 3) := dk_160 0 12 (dk_at dksX5_readUnit_1 20 rfl rfl)
theorem dX5_readUnit_45 : decode cX5_readUnit 45 = .ok (.aload_n 0, 1) := dk_42 (dk_at dksX5_readUnit_1 23 rfl rfl)
theorem dX5_readUnit_46 : decode cX5_readUnit 46 = .ok (.iconst 1, 1) := dk_4 (dk_at dksX5_readUnit_2 0 rfl rfl)
theorem dX5_readUnit_47 : decode cX5_readUnit 47 = .ok (.aload_n 0, 1) := dk_42 (dk_at dksX5_readUnit_2 1 rfl rfl)
theorem dX5_readUnit_48 : decode cX5_readUnit 48 = .ok (.getfield 132, 3) := dk_180 0 132 (dk_at dksX5_readUnit_2 2 rfl rfl)
theorem dX5_readUnit_51 : decode cX5_readUnit 51 = .ok (.invokevirtual 156, 3) := dk_182 0 156 (dk_at dksX5_readUnit_2 5 rfl rfl)
theorem dX5_readUnit_54 : decode cX5_readUnit 54 = .ok (.aload_n 0, 1) := dk_42 (dk_at dksX5_readUnit_2 8 rfl rfl)
theorem dX5_readUnit_55 : decode cX5_readUnit 55 = .ok (.invokevirtual 149, 3) := dk_182 0 149 (dk_at dksX5_readUnit_2 9 rfl rfl)
theorem dX5_readUnit_58 : decode cX5_readUnit 58 = .ok (.ifCond .ne 4, 3) := dk_154 0 4 (dk_at dksX5_readUnit_2 12 rfl rfl)
theorem dX5_readUnit_61 : decode cX5_readUnit 61 = .ok (.return_, 1) := dk_177 (dk_at dksX5_readUnit_2 15 rfl rfl)
theorem dX5_readUnit_62 : decode cX5_readUnit 62 = .ok (.aload_n 0, 1) := dk_42 (dk_at dksX5_readUnit_2 16 rfl rfl)
theorem dX5_readUnit_63 : decode cX5_readUnit 63 = .ok (.invokevirtual 163, 3) := dk_182 0 163 (dk_at dksX5_readUnit_2 17 rfl rfl)
theorem dX5_readUnit_66 : decode cX5_readUnit 66 = .ok (.aload_n 0, 1) := dk_42 (dk_at dksX5_readUnit_2 20 rfl rfl)
theorem dX5_readUnit_67 : decode cX5_readUnit 67 = .ok (.iconst 1, 1) := dk_4 (dk_at dksX5_readUnit_2 21 rfl rfl)
theorem dX5_readUnit_68 : decode cX5_readUnit 68 = .ok (.iload_n 1, 1) := dk_27 (dk_at dksX5_readUnit_2 22 rfl rfl)
theorem dX5_readUnit_69 : decode cX5_readUnit 69 = .ok (.invokevirtual 217, 3) := dk_182 0 217 (dk_at dksX5_readUnit_3 0 rfl rfl)
theorem dX5_readUnit_72 : decode cX5_readUnit 72 = .ok (.return_, 1) := dk_177 (dk_at dksX5_readUnit_3 3 rfl rfl)
abbrev cX5_isDigit : ByteArray := prog_17_method_27_code
def yX5_isDigit : MethodName := ⟨RX5, "isDigit", "(I)Z"⟩
def dkwX5_isDigit_0 : List UInt8 := [26, 16, 48, 161, 0, 13, 26, 16, 57, 163, 0, 7, 4, 167, 0, 4, 3, 172]
abbrev dktX5_isDigit_0 : List UInt8 := dkwX5_isDigit_0 ++ []
theorem dksX5_isDigit_0 : cX5_isDigit.data.toList.drop 0 = dktX5_isDigit_0 := by decide +kernel
theorem dX5_isDigit_0 : decode cX5_isDigit 0 = .ok (.iload_n 0, 1) := dk_26 (dk_at dksX5_isDigit_0 0 rfl rfl)
theorem dX5_isDigit_1 : decode cX5_isDigit 1 = .ok (.bipush 48, 2) := dk_16 48 (dk_at dksX5_isDigit_0 1 rfl rfl)
theorem dX5_isDigit_3 : decode cX5_isDigit 3 = .ok (.if_icmp .lt 13, 3) := dk_161 0 13 (dk_at dksX5_isDigit_0 3 rfl rfl)
theorem dX5_isDigit_6 : decode cX5_isDigit 6 = .ok (.iload_n 0, 1) := dk_26 (dk_at dksX5_isDigit_0 6 rfl rfl)
theorem dX5_isDigit_7 : decode cX5_isDigit 7 = .ok (.bipush 57, 2) := dk_16 57 (dk_at dksX5_isDigit_0 7 rfl rfl)
theorem dX5_isDigit_9 : decode cX5_isDigit 9 = .ok (.if_icmp .gt 7, 3) := dk_163 0 7 (dk_at dksX5_isDigit_0 9 rfl rfl)
theorem dX5_isDigit_12 : decode cX5_isDigit 12 = .ok (.iconst 1, 1) := dk_4 (dk_at dksX5_isDigit_0 12 rfl rfl)
theorem dX5_isDigit_13 : decode cX5_isDigit 13 = .ok (.goto 4, 3) := dk_167 0 4 (dk_at dksX5_isDigit_0 13 rfl rfl)
theorem dX5_isDigit_16 : decode cX5_isDigit 16 = .ok (.iconst 0, 1) := dk_3 (dk_at dksX5_isDigit_0 16 rfl rfl)
theorem dX5_isDigit_17 : decode cX5_isDigit 17 = .ok (.ireturn, 1) := dk_172 (dk_at dksX5_isDigit_0 17 rfl rfl)
abbrev cX5_number : ByteArray := prog_17_method_32_code
def yX5_number : MethodName := ⟨RX5, "number", "(II)I"⟩
def dkwX5_number_6 : List UInt8 := [153, 0, 8, 21, 4, 167, 0, 4, 3, 172]
abbrev dktX5_number_6 : List UInt8 := dkwX5_number_6 ++ []
def dkwX5_number_5 : List UInt8 := [167, 0, 19, 21, 4, 27, 28, 184, 0, 100, 154, 0, 9, 42, 5, 29, 182, 0, 156, 42, 182, 0, 149]
abbrev dktX5_number_5 : List UInt8 := dkwX5_number_5 ++ dktX5_number_6
def dkwX5_number_4 : List UInt8 := [96, 181, 0, 132, 167, 255, 186, 21, 5, 4, 7, 184, 0, 100, 154, 0, 12, 42, 4, 29, 182, 0, 156]
abbrev dktX5_number_4 : List UInt8 := dkwX5_number_4 ++ dktX5_number_5
def dkwX5_number_3 : List UInt8 := [180, 0, 132, 46, 96, 16, 48, 100, 167, 0, 5, 21, 4, 54, 4, 132, 5, 1, 42, 89, 180, 0, 132, 4]
abbrev dktX5_number_3 : List UInt8 := dkwX5_number_3 ++ dktX5_number_4
def dkwX5_number_2 : List UInt8 := [184, 0, 153, 153, 0, 50, 21, 5, 7, 162, 0, 24, 16, 10, 21, 4, 104, 42, 180, 0, 26, 42]
abbrev dktX5_number_2 : List UInt8 := dkwX5_number_2 ++ dktX5_number_3
def dkwX5_number_1 : List UInt8 := [54, 5, 42, 180, 0, 132, 42, 180, 0, 135, 162, 0, 65, 42, 180, 0, 26, 42, 180, 0, 132, 46]
abbrev dktX5_number_1 : List UInt8 := dkwX5_number_1 ++ dktX5_number_2
def dkwX5_number_0 : List UInt8 := [42, 182, 0, 149, 154, 0, 5, 3, 172, 42, 182, 0, 138, 87, 42, 180, 0, 132, 62, 3, 54, 4, 3]
abbrev dktX5_number_0 : List UInt8 := dkwX5_number_0 ++ dktX5_number_1
theorem dksX5_number_0 : cX5_number.data.toList.drop 0 = dktX5_number_0 := by decide +kernel
theorem dksX5_number_1 : cX5_number.data.toList.drop 23 = dktX5_number_1 := dk_seg dksX5_number_0 23 rfl rfl
theorem dksX5_number_2 : cX5_number.data.toList.drop 45 = dktX5_number_2 := dk_seg dksX5_number_1 22 rfl rfl
theorem dksX5_number_3 : cX5_number.data.toList.drop 67 = dktX5_number_3 := dk_seg dksX5_number_2 22 rfl rfl
theorem dksX5_number_4 : cX5_number.data.toList.drop 91 = dktX5_number_4 := dk_seg dksX5_number_3 24 rfl rfl
theorem dksX5_number_5 : cX5_number.data.toList.drop 114 = dktX5_number_5 := dk_seg dksX5_number_4 23 rfl rfl
theorem dksX5_number_6 : cX5_number.data.toList.drop 137 = dktX5_number_6 := dk_seg dksX5_number_5 23 rfl rfl
theorem dX5_number_0 : decode cX5_number 0 = .ok (.aload_n 0, 1) := dk_42 (dk_at dksX5_number_0 0 rfl rfl)
theorem dX5_number_1 : decode cX5_number 1 = .ok (.invokevirtual 149, 3) := dk_182 0 149 (dk_at dksX5_number_0 1 rfl rfl)
theorem dX5_number_4 : decode cX5_number 4 = .ok (.ifCond .ne 5, 3) := dk_154 0 5 (dk_at dksX5_number_0 4 rfl rfl)
theorem dX5_number_7 : decode cX5_number 7 = .ok (.iconst 0, 1) := dk_3 (dk_at dksX5_number_0 7 rfl rfl)
theorem dX5_number_8 : decode cX5_number 8 = .ok (.ireturn, 1) := dk_172 (dk_at dksX5_number_0 8 rfl rfl)
theorem dX5_number_9 : decode cX5_number 9 = .ok (.aload_n 0, 1) := dk_42 (dk_at dksX5_number_0 9 rfl rfl)
theorem dX5_number_10 : decode cX5_number 10 = .ok (.invokevirtual 138, 3) := dk_182 0 138 (dk_at dksX5_number_0 10 rfl rfl)
theorem dX5_number_13 : decode cX5_number 13 = .ok (.pop, 1) := dk_87 (dk_at dksX5_number_0 13 rfl rfl)
theorem dX5_number_14 : decode cX5_number 14 = .ok (.aload_n 0, 1) := dk_42 (dk_at dksX5_number_0 14 rfl rfl)
theorem dX5_number_15 : decode cX5_number 15 = .ok (.getfield 132, 3) := dk_180 0 132 (dk_at dksX5_number_0 15 rfl rfl)
theorem dX5_number_18 : decode cX5_number 18 = .ok (.istore_n 3, 1) := dk_62 (dk_at dksX5_number_0 18 rfl rfl)
theorem dX5_number_19 : decode cX5_number 19 = .ok (.iconst 0, 1) := dk_3 (dk_at dksX5_number_0 19 rfl rfl)
theorem dX5_number_20 : decode cX5_number 20 = .ok (.istore 4, 2) := dk_54 4 (dk_at dksX5_number_0 20 rfl rfl)
theorem dX5_number_22 : decode cX5_number 22 = .ok (.iconst 0, 1) := dk_3 (dk_at dksX5_number_0 22 rfl rfl)
theorem dX5_number_23 : decode cX5_number 23 = .ok (.istore 5, 2) := dk_54 5 (dk_at dksX5_number_1 0 rfl rfl)
theorem dX5_number_25 : decode cX5_number 25 = .ok (.aload_n 0, 1) := dk_42 (dk_at dksX5_number_1 2 rfl rfl)
theorem dX5_number_26 : decode cX5_number 26 = .ok (.getfield 132, 3) := dk_180 0 132 (dk_at dksX5_number_1 3 rfl rfl)
theorem dX5_number_29 : decode cX5_number 29 = .ok (.aload_n 0, 1) := dk_42 (dk_at dksX5_number_1 6 rfl rfl)
theorem dX5_number_30 : decode cX5_number 30 = .ok (.getfield 135, 3) := dk_180 0 135 (dk_at dksX5_number_1 7 rfl rfl)
theorem dX5_number_33 : decode cX5_number 33 = .ok (.if_icmp .ge 65, 3) := dk_162 0 65 (dk_at dksX5_number_1 10 rfl rfl)
theorem dX5_number_36 : decode cX5_number 36 = .ok (.aload_n 0, 1) := dk_42 (dk_at dksX5_number_1 13 rfl rfl)
theorem dX5_number_37 : decode cX5_number 37 = .ok (.getfield 26, 3) := dk_180 0 26 (dk_at dksX5_number_1 14 rfl rfl)
theorem dX5_number_40 : decode cX5_number 40 = .ok (.aload_n 0, 1) := dk_42 (dk_at dksX5_number_1 17 rfl rfl)
theorem dX5_number_41 : decode cX5_number 41 = .ok (.getfield 132, 3) := dk_180 0 132 (dk_at dksX5_number_1 18 rfl rfl)
theorem dX5_number_44 : decode cX5_number 44 = .ok (.iaload, 1) := dk_46 (dk_at dksX5_number_1 21 rfl rfl)
theorem dX5_number_45 : decode cX5_number 45 = .ok (.invokestatic 153, 3) := dk_184 0 153 (dk_at dksX5_number_2 0 rfl rfl)
theorem dX5_number_48 : decode cX5_number 48 = .ok (.ifCond .eq 50, 3) := dk_153 0 50 (dk_at dksX5_number_2 3 rfl rfl)
theorem dX5_number_51 : decode cX5_number 51 = .ok (.iload 5, 2) := dk_21 5 (dk_at dksX5_number_2 6 rfl rfl)
theorem dX5_number_53 : decode cX5_number 53 = .ok (.iconst 4, 1) := dk_7 (dk_at dksX5_number_2 8 rfl rfl)
theorem dX5_number_54 : decode cX5_number 54 = .ok (.if_icmp .ge 24, 3) := dk_162 0 24 (dk_at dksX5_number_2 9 rfl rfl)
theorem dX5_number_57 : decode cX5_number 57 = .ok (.bipush 10, 2) := dk_16 10 (dk_at dksX5_number_2 12 rfl rfl)
theorem dX5_number_59 : decode cX5_number 59 = .ok (.iload 4, 2) := dk_21 4 (dk_at dksX5_number_2 14 rfl rfl)
theorem dX5_number_61 : decode cX5_number 61 = .ok (.imul, 1) := dk_104 (dk_at dksX5_number_2 16 rfl rfl)
theorem dX5_number_62 : decode cX5_number 62 = .ok (.aload_n 0, 1) := dk_42 (dk_at dksX5_number_2 17 rfl rfl)
theorem dX5_number_63 : decode cX5_number 63 = .ok (.getfield 26, 3) := dk_180 0 26 (dk_at dksX5_number_2 18 rfl rfl)
theorem dX5_number_66 : decode cX5_number 66 = .ok (.aload_n 0, 1) := dk_42 (dk_at dksX5_number_2 21 rfl rfl)
theorem dX5_number_67 : decode cX5_number 67 = .ok (.getfield 132, 3) := dk_180 0 132 (dk_at dksX5_number_3 0 rfl rfl)
theorem dX5_number_70 : decode cX5_number 70 = .ok (.iaload, 1) := dk_46 (dk_at dksX5_number_3 3 rfl rfl)
theorem dX5_number_71 : decode cX5_number 71 = .ok (.iadd, 1) := dk_96 (dk_at dksX5_number_3 4 rfl rfl)
theorem dX5_number_72 : decode cX5_number 72 = .ok (.bipush 48, 2) := dk_16 48 (dk_at dksX5_number_3 5 rfl rfl)
theorem dX5_number_74 : decode cX5_number 74 = .ok (.isub, 1) := dk_100 (dk_at dksX5_number_3 7 rfl rfl)
theorem dX5_number_75 : decode cX5_number 75 = .ok (.goto 5, 3) := dk_167 0 5 (dk_at dksX5_number_3 8 rfl rfl)
theorem dX5_number_78 : decode cX5_number 78 = .ok (.iload 4, 2) := dk_21 4 (dk_at dksX5_number_3 11 rfl rfl)
theorem dX5_number_80 : decode cX5_number 80 = .ok (.istore 4, 2) := dk_54 4 (dk_at dksX5_number_3 13 rfl rfl)
theorem dX5_number_82 : decode cX5_number 82 = .ok (.iinc 5 1, 3) := dk_132 5 1 (dk_at dksX5_number_3 15 rfl rfl)
theorem dX5_number_85 : decode cX5_number 85 = .ok (.aload_n 0, 1) := dk_42 (dk_at dksX5_number_3 18 rfl rfl)
theorem dX5_number_86 : decode cX5_number 86 = .ok (.dup, 1) := dk_89 (dk_at dksX5_number_3 19 rfl rfl)
theorem dX5_number_87 : decode cX5_number 87 = .ok (.getfield 132, 3) := dk_180 0 132 (dk_at dksX5_number_3 20 rfl rfl)
theorem dX5_number_90 : decode cX5_number 90 = .ok (.iconst 1, 1) := dk_4 (dk_at dksX5_number_3 23 rfl rfl)
theorem dX5_number_91 : decode cX5_number 91 = .ok (.iadd, 1) := dk_96 (dk_at dksX5_number_4 0 rfl rfl)
theorem dX5_number_92 : decode cX5_number 92 = .ok (.putfield 132, 3) := dk_181 0 132 (dk_at dksX5_number_4 1 rfl rfl)
theorem dX5_number_95 : decode cX5_number 95 = .ok (.goto (-70), 3) := dk_167 255 186 (dk_at dksX5_number_4 4 rfl rfl)
theorem dX5_number_98 : decode cX5_number 98 = .ok (.iload 5, 2) := dk_21 5 (dk_at dksX5_number_4 7 rfl rfl)
theorem dX5_number_100 : decode cX5_number 100 = .ok (.iconst 1, 1) := dk_4 (dk_at dksX5_number_4 9 rfl rfl)
theorem dX5_number_101 : decode cX5_number 101 = .ok (.iconst 4, 1) := dk_7 (dk_at dksX5_number_4 10 rfl rfl)
theorem dX5_number_102 : decode cX5_number 102 = .ok (.invokestatic 100, 3) := dk_184 0 100 (dk_at dksX5_number_4 11 rfl rfl)
theorem dX5_number_105 : decode cX5_number 105 = .ok (.ifCond .ne 12, 3) := dk_154 0 12 (dk_at dksX5_number_4 14 rfl rfl)
theorem dX5_number_108 : decode cX5_number 108 = .ok (.aload_n 0, 1) := dk_42 (dk_at dksX5_number_4 17 rfl rfl)
theorem dX5_number_109 : decode cX5_number 109 = .ok (.iconst 1, 1) := dk_4 (dk_at dksX5_number_4 18 rfl rfl)
theorem dX5_number_110 : decode cX5_number 110 = .ok (.iload_n 3, 1) := dk_29 (dk_at dksX5_number_4 19 rfl rfl)
theorem dX5_number_111 : decode cX5_number 111 = .ok (.invokevirtual 156, 3) := dk_182 0 156 (dk_at dksX5_number_4 20 rfl rfl)
theorem dX5_number_114 : decode cX5_number 114 = .ok (.goto 19, 3) := dk_167 0 19 (dk_at dksX5_number_5 0 rfl rfl)
theorem dX5_number_117 : decode cX5_number 117 = .ok (.iload 4, 2) := dk_21 4 (dk_at dksX5_number_5 3 rfl rfl)
theorem dX5_number_119 : decode cX5_number 119 = .ok (.iload_n 1, 1) := dk_27 (dk_at dksX5_number_5 5 rfl rfl)
theorem dX5_number_120 : decode cX5_number 120 = .ok (.iload_n 2, 1) := dk_28 (dk_at dksX5_number_5 6 rfl rfl)
theorem dX5_number_121 : decode cX5_number 121 = .ok (.invokestatic 100, 3) := dk_184 0 100 (dk_at dksX5_number_5 7 rfl rfl)
theorem dX5_number_124 : decode cX5_number 124 = .ok (.ifCond .ne 9, 3) := dk_154 0 9 (dk_at dksX5_number_5 10 rfl rfl)
theorem dX5_number_127 : decode cX5_number 127 = .ok (.aload_n 0, 1) := dk_42 (dk_at dksX5_number_5 13 rfl rfl)
theorem dX5_number_128 : decode cX5_number 128 = .ok (.iconst 2, 1) := dk_5 (dk_at dksX5_number_5 14 rfl rfl)
theorem dX5_number_129 : decode cX5_number 129 = .ok (.iload_n 3, 1) := dk_29 (dk_at dksX5_number_5 15 rfl rfl)
theorem dX5_number_130 : decode cX5_number 130 = .ok (.invokevirtual 156, 3) := dk_182 0 156 (dk_at dksX5_number_5 16 rfl rfl)
theorem dX5_number_133 : decode cX5_number 133 = .ok (.aload_n 0, 1) := dk_42 (dk_at dksX5_number_5 19 rfl rfl)
theorem dX5_number_134 : decode cX5_number 134 = .ok (.invokevirtual 149, 3) := dk_182 0 149 (dk_at dksX5_number_5 20 rfl rfl)
theorem dX5_number_137 : decode cX5_number 137 = .ok (.ifCond .eq 8, 3) := dk_153 0 8 (dk_at dksX5_number_6 0 rfl rfl)
theorem dX5_number_140 : decode cX5_number 140 = .ok (.iload 4, 2) := dk_21 4 (dk_at dksX5_number_6 3 rfl rfl)
theorem dX5_number_142 : decode cX5_number 142 = .ok (.goto 4, 3) := dk_167 0 4 (dk_at dksX5_number_6 5 rfl rfl)
theorem dX5_number_145 : decode cX5_number 145 = .ok (.iconst 0, 1) := dk_3 (dk_at dksX5_number_6 8 rfl rfl)
theorem dX5_number_146 : decode cX5_number 146 = .ok (.ireturn, 1) := dk_172 (dk_at dksX5_number_6 9 rfl rfl)
abbrev cX5_codes : ByteArray := prog_17_method_43_code
def yX5_codes : MethodName := ⟨RX5, "codes", "(II)V"⟩
def dkwX5_codes_2 : List UInt8 := [96, 181, 0, 172, 177]
abbrev dktX5_codes_2 : List UInt8 := dkwX5_codes_2 ++ []
def dkwX5_codes_1 : List UInt8 := [42, 180, 0, 29, 17, 4, 1, 5, 42, 180, 0, 172, 104, 96, 4, 96, 28, 79, 42, 89, 180, 0, 172, 4]
abbrev dktX5_codes_1 : List UInt8 := dkwX5_codes_1 ++ dktX5_codes_2
def dkwX5_codes_0 : List UInt8 := [42, 182, 0, 149, 154, 0, 4, 177, 42, 180, 0, 29, 17, 4, 1, 5, 42, 180, 0, 172, 104, 96, 27, 79]
abbrev dktX5_codes_0 : List UInt8 := dkwX5_codes_0 ++ dktX5_codes_1
theorem dksX5_codes_0 : cX5_codes.data.toList.drop 0 = dktX5_codes_0 := by decide +kernel
theorem dksX5_codes_1 : cX5_codes.data.toList.drop 24 = dktX5_codes_1 := dk_seg dksX5_codes_0 24 rfl rfl
theorem dksX5_codes_2 : cX5_codes.data.toList.drop 48 = dktX5_codes_2 := dk_seg dksX5_codes_1 24 rfl rfl
theorem dX5_codes_0 : decode cX5_codes 0 = .ok (.aload_n 0, 1) := dk_42 (dk_at dksX5_codes_0 0 rfl rfl)
theorem dX5_codes_1 : decode cX5_codes 1 = .ok (.invokevirtual 149, 3) := dk_182 0 149 (dk_at dksX5_codes_0 1 rfl rfl)
theorem dX5_codes_4 : decode cX5_codes 4 = .ok (.ifCond .ne 4, 3) := dk_154 0 4 (dk_at dksX5_codes_0 4 rfl rfl)
theorem dX5_codes_7 : decode cX5_codes 7 = .ok (.return_, 1) := dk_177 (dk_at dksX5_codes_0 7 rfl rfl)
theorem dX5_codes_8 : decode cX5_codes 8 = .ok (.aload_n 0, 1) := dk_42 (dk_at dksX5_codes_0 8 rfl rfl)
theorem dX5_codes_9 : decode cX5_codes 9 = .ok (.getfield 29, 3) := dk_180 0 29 (dk_at dksX5_codes_0 9 rfl rfl)
theorem dX5_codes_12 : decode cX5_codes 12 = .ok (.sipush 1025, 3) := dk_17 4 1 (dk_at dksX5_codes_0 12 rfl rfl)
theorem dX5_codes_15 : decode cX5_codes 15 = .ok (.iconst 2, 1) := dk_5 (dk_at dksX5_codes_0 15 rfl rfl)
theorem dX5_codes_16 : decode cX5_codes 16 = .ok (.aload_n 0, 1) := dk_42 (dk_at dksX5_codes_0 16 rfl rfl)
theorem dX5_codes_17 : decode cX5_codes 17 = .ok (.getfield 172, 3) := dk_180 0 172 (dk_at dksX5_codes_0 17 rfl rfl)
theorem dX5_codes_20 : decode cX5_codes 20 = .ok (.imul, 1) := dk_104 (dk_at dksX5_codes_0 20 rfl rfl)
theorem dX5_codes_21 : decode cX5_codes 21 = .ok (.iadd, 1) := dk_96 (dk_at dksX5_codes_0 21 rfl rfl)
theorem dX5_codes_22 : decode cX5_codes 22 = .ok (.iload_n 1, 1) := dk_27 (dk_at dksX5_codes_0 22 rfl rfl)
theorem dX5_codes_23 : decode cX5_codes 23 = .ok (.iastore, 1) := dk_79 (dk_at dksX5_codes_0 23 rfl rfl)
theorem dX5_codes_24 : decode cX5_codes 24 = .ok (.aload_n 0, 1) := dk_42 (dk_at dksX5_codes_1 0 rfl rfl)
theorem dX5_codes_25 : decode cX5_codes 25 = .ok (.getfield 29, 3) := dk_180 0 29 (dk_at dksX5_codes_1 1 rfl rfl)
theorem dX5_codes_28 : decode cX5_codes 28 = .ok (.sipush 1025, 3) := dk_17 4 1 (dk_at dksX5_codes_1 4 rfl rfl)
theorem dX5_codes_31 : decode cX5_codes 31 = .ok (.iconst 2, 1) := dk_5 (dk_at dksX5_codes_1 7 rfl rfl)
theorem dX5_codes_32 : decode cX5_codes 32 = .ok (.aload_n 0, 1) := dk_42 (dk_at dksX5_codes_1 8 rfl rfl)
theorem dX5_codes_33 : decode cX5_codes 33 = .ok (.getfield 172, 3) := dk_180 0 172 (dk_at dksX5_codes_1 9 rfl rfl)
theorem dX5_codes_36 : decode cX5_codes 36 = .ok (.imul, 1) := dk_104 (dk_at dksX5_codes_1 12 rfl rfl)
theorem dX5_codes_37 : decode cX5_codes 37 = .ok (.iadd, 1) := dk_96 (dk_at dksX5_codes_1 13 rfl rfl)
theorem dX5_codes_38 : decode cX5_codes 38 = .ok (.iconst 1, 1) := dk_4 (dk_at dksX5_codes_1 14 rfl rfl)
theorem dX5_codes_39 : decode cX5_codes 39 = .ok (.iadd, 1) := dk_96 (dk_at dksX5_codes_1 15 rfl rfl)
theorem dX5_codes_40 : decode cX5_codes 40 = .ok (.iload_n 2, 1) := dk_28 (dk_at dksX5_codes_1 16 rfl rfl)
theorem dX5_codes_41 : decode cX5_codes 41 = .ok (.iastore, 1) := dk_79 (dk_at dksX5_codes_1 17 rfl rfl)
theorem dX5_codes_42 : decode cX5_codes 42 = .ok (.aload_n 0, 1) := dk_42 (dk_at dksX5_codes_1 18 rfl rfl)
theorem dX5_codes_43 : decode cX5_codes 43 = .ok (.dup, 1) := dk_89 (dk_at dksX5_codes_1 19 rfl rfl)
theorem dX5_codes_44 : decode cX5_codes 44 = .ok (.getfield 172, 3) := dk_180 0 172 (dk_at dksX5_codes_1 20 rfl rfl)
theorem dX5_codes_47 : decode cX5_codes 47 = .ok (.iconst 1, 1) := dk_4 (dk_at dksX5_codes_1 23 rfl rfl)
theorem dX5_codes_48 : decode cX5_codes 48 = .ok (.iadd, 1) := dk_96 (dk_at dksX5_codes_2 0 rfl rfl)
theorem dX5_codes_49 : decode cX5_codes 49 = .ok (.putfield 172, 3) := dk_181 0 172 (dk_at dksX5_codes_2 1 rfl rfl)
theorem dX5_codes_52 : decode cX5_codes 52 = .ok (.return_, 1) := dk_177 (dk_at dksX5_codes_2 4 rfl rfl)
abbrev cX5_factOf : ByteArray := prog_17_method_53_code
def yX5_factOf : MethodName := ⟨RX5, "factOf", "(I)I"⟩
def dkwX5_factOf_9 : List UInt8 := [16, 9, 167, 0, 4, 2, 172]
abbrev dktX5_factOf_9 : List UInt8 := dkwX5_factOf_9 ++ []
def dkwX5_factOf_8 : List UInt8 := [16, 8, 167, 0, 28, 26, 16, 109, 16, 105, 16, 110, 16, 117, 16, 116, 16, 101, 184, 0, 194, 160, 0, 8]
abbrev dktX5_factOf_8 : List UInt8 := dkwX5_factOf_8 ++ dktX5_factOf_9
def dkwX5_factOf_7 : List UInt8 := [16, 7, 167, 0, 51, 26, 16, 119, 16, 97, 16, 116, 16, 99, 16, 104, 3, 184, 0, 194, 160, 0, 8]
abbrev dktX5_factOf_7 : List UInt8 := dkwX5_factOf_7 ++ dktX5_factOf_8
def dkwX5_factOf_6 : List UInt8 := [16, 6, 167, 0, 75, 26, 16, 105, 16, 110, 16, 115, 16, 105, 16, 100, 16, 101, 184, 0, 194, 160, 0, 8]
abbrev dktX5_factOf_6 : List UInt8 := dkwX5_factOf_6 ++ dktX5_factOf_7
def dkwX5_factOf_5 : List UInt8 := [160, 0, 7, 8, 167, 0, 97, 26, 16, 115, 16, 110, 16, 111, 16, 119, 3, 3, 184, 0, 194, 160, 0, 8]
abbrev dktX5_factOf_5 : List UInt8 := dkwX5_factOf_5 ++ dktX5_factOf_6
def dkwX5_factOf_4 : List UInt8 := [160, 0, 7, 7, 167, 0, 120, 26, 16, 102, 16, 97, 16, 99, 16, 105, 16, 110, 16, 103, 184, 0, 194]
abbrev dktX5_factOf_4 : List UInt8 := dkwX5_factOf_4 ++ dktX5_factOf_5
def dkwX5_factOf_3 : List UInt8 := [3, 3, 3, 184, 0, 194, 160, 0, 7, 6, 167, 0, 138, 26, 16, 121, 3, 3, 3, 3, 3, 184, 0, 194]
abbrev dktX5_factOf_3 : List UInt8 := dkwX5_factOf_3 ++ dktX5_factOf_4
def dkwX5_factOf_2 : List UInt8 := [16, 105, 16, 103, 16, 110, 16, 115, 3, 184, 0, 194, 160, 0, 7, 5, 167, 0, 156, 26, 16, 120, 3, 3]
abbrev dktX5_factOf_2 : List UInt8 := dkwX5_factOf_2 ++ dktX5_factOf_3
def dkwX5_factOf_1 : List UInt8 := [16, 116, 16, 117, 16, 114, 16, 110, 16, 115, 3, 184, 0, 194, 160, 0, 7, 4, 167, 0, 178, 26, 16, 115]
abbrev dktX5_factOf_1 : List UInt8 := dkwX5_factOf_1 ++ dktX5_factOf_2
def dkwX5_factOf_0 : List UInt8 := [26, 16, 104, 16, 97, 16, 115, 16, 116, 16, 101, 3, 184, 0, 194, 160, 0, 7, 3, 167, 0, 200, 26]
abbrev dktX5_factOf_0 : List UInt8 := dkwX5_factOf_0 ++ dktX5_factOf_1
theorem dksX5_factOf_0 : cX5_factOf.data.toList.drop 0 = dktX5_factOf_0 := by decide +kernel
theorem dksX5_factOf_1 : cX5_factOf.data.toList.drop 23 = dktX5_factOf_1 := dk_seg dksX5_factOf_0 23 rfl rfl
theorem dksX5_factOf_2 : cX5_factOf.data.toList.drop 47 = dktX5_factOf_2 := dk_seg dksX5_factOf_1 24 rfl rfl
theorem dksX5_factOf_3 : cX5_factOf.data.toList.drop 71 = dktX5_factOf_3 := dk_seg dksX5_factOf_2 24 rfl rfl
theorem dksX5_factOf_4 : cX5_factOf.data.toList.drop 95 = dktX5_factOf_4 := dk_seg dksX5_factOf_3 24 rfl rfl
theorem dksX5_factOf_5 : cX5_factOf.data.toList.drop 118 = dktX5_factOf_5 := dk_seg dksX5_factOf_4 23 rfl rfl
theorem dksX5_factOf_6 : cX5_factOf.data.toList.drop 142 = dktX5_factOf_6 := dk_seg dksX5_factOf_5 24 rfl rfl
theorem dksX5_factOf_7 : cX5_factOf.data.toList.drop 166 = dktX5_factOf_7 := dk_seg dksX5_factOf_6 24 rfl rfl
theorem dksX5_factOf_8 : cX5_factOf.data.toList.drop 189 = dktX5_factOf_8 := dk_seg dksX5_factOf_7 23 rfl rfl
theorem dksX5_factOf_9 : cX5_factOf.data.toList.drop 213 = dktX5_factOf_9 := dk_seg dksX5_factOf_8 24 rfl rfl
theorem dX5_factOf_0 : decode cX5_factOf 0 = .ok (.iload_n 0, 1) := dk_26 (dk_at dksX5_factOf_0 0 rfl rfl)
theorem dX5_factOf_1 : decode cX5_factOf 1 = .ok (.bipush 104, 2) := dk_16 104 (dk_at dksX5_factOf_0 1 rfl rfl)
theorem dX5_factOf_3 : decode cX5_factOf 3 = .ok (.bipush 97, 2) := dk_16 97 (dk_at dksX5_factOf_0 3 rfl rfl)
theorem dX5_factOf_5 : decode cX5_factOf 5 = .ok (.bipush 115, 2) := dk_16 115 (dk_at dksX5_factOf_0 5 rfl rfl)
theorem dX5_factOf_7 : decode cX5_factOf 7 = .ok (.bipush 116, 2) := dk_16 116 (dk_at dksX5_factOf_0 7 rfl rfl)
theorem dX5_factOf_9 : decode cX5_factOf 9 = .ok (.bipush 101, 2) := dk_16 101 (dk_at dksX5_factOf_0 9 rfl rfl)
theorem dX5_factOf_11 : decode cX5_factOf 11 = .ok (.iconst 0, 1) := dk_3 (dk_at dksX5_factOf_0 11 rfl rfl)
theorem dX5_factOf_12 : decode cX5_factOf 12 = .ok (.invokestatic 194, 3) := dk_184 0 194 (dk_at dksX5_factOf_0 12 rfl rfl)
theorem dX5_factOf_15 : decode cX5_factOf 15 = .ok (.if_icmp .ne 7, 3) := dk_160 0 7 (dk_at dksX5_factOf_0 15 rfl rfl)
theorem dX5_factOf_18 : decode cX5_factOf 18 = .ok (.iconst 0, 1) := dk_3 (dk_at dksX5_factOf_0 18 rfl rfl)
theorem dX5_factOf_19 : decode cX5_factOf 19 = .ok (.goto 200, 3) := dk_167 0 200 (dk_at dksX5_factOf_0 19 rfl rfl)
theorem dX5_factOf_22 : decode cX5_factOf 22 = .ok (.iload_n 0, 1) := dk_26 (dk_at dksX5_factOf_0 22 rfl rfl)
theorem dX5_factOf_23 : decode cX5_factOf 23 = .ok (.bipush 116, 2) := dk_16 116 (dk_at dksX5_factOf_1 0 rfl rfl)
theorem dX5_factOf_25 : decode cX5_factOf 25 = .ok (.bipush 117, 2) := dk_16 117 (dk_at dksX5_factOf_1 2 rfl rfl)
theorem dX5_factOf_27 : decode cX5_factOf 27 = .ok (.bipush 114, 2) := dk_16 114 (dk_at dksX5_factOf_1 4 rfl rfl)
theorem dX5_factOf_29 : decode cX5_factOf 29 = .ok (.bipush 110, 2) := dk_16 110 (dk_at dksX5_factOf_1 6 rfl rfl)
theorem dX5_factOf_31 : decode cX5_factOf 31 = .ok (.bipush 115, 2) := dk_16 115 (dk_at dksX5_factOf_1 8 rfl rfl)
theorem dX5_factOf_33 : decode cX5_factOf 33 = .ok (.iconst 0, 1) := dk_3 (dk_at dksX5_factOf_1 10 rfl rfl)
theorem dX5_factOf_34 : decode cX5_factOf 34 = .ok (.invokestatic 194, 3) := dk_184 0 194 (dk_at dksX5_factOf_1 11 rfl rfl)
theorem dX5_factOf_37 : decode cX5_factOf 37 = .ok (.if_icmp .ne 7, 3) := dk_160 0 7 (dk_at dksX5_factOf_1 14 rfl rfl)
theorem dX5_factOf_40 : decode cX5_factOf 40 = .ok (.iconst 1, 1) := dk_4 (dk_at dksX5_factOf_1 17 rfl rfl)
theorem dX5_factOf_41 : decode cX5_factOf 41 = .ok (.goto 178, 3) := dk_167 0 178 (dk_at dksX5_factOf_1 18 rfl rfl)
theorem dX5_factOf_44 : decode cX5_factOf 44 = .ok (.iload_n 0, 1) := dk_26 (dk_at dksX5_factOf_1 21 rfl rfl)
theorem dX5_factOf_45 : decode cX5_factOf 45 = .ok (.bipush 115, 2) := dk_16 115 (dk_at dksX5_factOf_1 22 rfl rfl)
theorem dX5_factOf_47 : decode cX5_factOf 47 = .ok (.bipush 105, 2) := dk_16 105 (dk_at dksX5_factOf_2 0 rfl rfl)
theorem dX5_factOf_49 : decode cX5_factOf 49 = .ok (.bipush 103, 2) := dk_16 103 (dk_at dksX5_factOf_2 2 rfl rfl)
theorem dX5_factOf_51 : decode cX5_factOf 51 = .ok (.bipush 110, 2) := dk_16 110 (dk_at dksX5_factOf_2 4 rfl rfl)
theorem dX5_factOf_53 : decode cX5_factOf 53 = .ok (.bipush 115, 2) := dk_16 115 (dk_at dksX5_factOf_2 6 rfl rfl)
theorem dX5_factOf_55 : decode cX5_factOf 55 = .ok (.iconst 0, 1) := dk_3 (dk_at dksX5_factOf_2 8 rfl rfl)
theorem dX5_factOf_56 : decode cX5_factOf 56 = .ok (.invokestatic 194, 3) := dk_184 0 194 (dk_at dksX5_factOf_2 9 rfl rfl)
theorem dX5_factOf_59 : decode cX5_factOf 59 = .ok (.if_icmp .ne 7, 3) := dk_160 0 7 (dk_at dksX5_factOf_2 12 rfl rfl)
theorem dX5_factOf_62 : decode cX5_factOf 62 = .ok (.iconst 2, 1) := dk_5 (dk_at dksX5_factOf_2 15 rfl rfl)
theorem dX5_factOf_63 : decode cX5_factOf 63 = .ok (.goto 156, 3) := dk_167 0 156 (dk_at dksX5_factOf_2 16 rfl rfl)
theorem dX5_factOf_66 : decode cX5_factOf 66 = .ok (.iload_n 0, 1) := dk_26 (dk_at dksX5_factOf_2 19 rfl rfl)
theorem dX5_factOf_67 : decode cX5_factOf 67 = .ok (.bipush 120, 2) := dk_16 120 (dk_at dksX5_factOf_2 20 rfl rfl)
theorem dX5_factOf_69 : decode cX5_factOf 69 = .ok (.iconst 0, 1) := dk_3 (dk_at dksX5_factOf_2 22 rfl rfl)
theorem dX5_factOf_70 : decode cX5_factOf 70 = .ok (.iconst 0, 1) := dk_3 (dk_at dksX5_factOf_2 23 rfl rfl)
theorem dX5_factOf_71 : decode cX5_factOf 71 = .ok (.iconst 0, 1) := dk_3 (dk_at dksX5_factOf_3 0 rfl rfl)
theorem dX5_factOf_72 : decode cX5_factOf 72 = .ok (.iconst 0, 1) := dk_3 (dk_at dksX5_factOf_3 1 rfl rfl)
theorem dX5_factOf_73 : decode cX5_factOf 73 = .ok (.iconst 0, 1) := dk_3 (dk_at dksX5_factOf_3 2 rfl rfl)
theorem dX5_factOf_74 : decode cX5_factOf 74 = .ok (.invokestatic 194, 3) := dk_184 0 194 (dk_at dksX5_factOf_3 3 rfl rfl)
theorem dX5_factOf_77 : decode cX5_factOf 77 = .ok (.if_icmp .ne 7, 3) := dk_160 0 7 (dk_at dksX5_factOf_3 6 rfl rfl)
theorem dX5_factOf_80 : decode cX5_factOf 80 = .ok (.iconst 3, 1) := dk_6 (dk_at dksX5_factOf_3 9 rfl rfl)
theorem dX5_factOf_81 : decode cX5_factOf 81 = .ok (.goto 138, 3) := dk_167 0 138 (dk_at dksX5_factOf_3 10 rfl rfl)
theorem dX5_factOf_84 : decode cX5_factOf 84 = .ok (.iload_n 0, 1) := dk_26 (dk_at dksX5_factOf_3 13 rfl rfl)
theorem dX5_factOf_85 : decode cX5_factOf 85 = .ok (.bipush 121, 2) := dk_16 121 (dk_at dksX5_factOf_3 14 rfl rfl)
theorem dX5_factOf_87 : decode cX5_factOf 87 = .ok (.iconst 0, 1) := dk_3 (dk_at dksX5_factOf_3 16 rfl rfl)
theorem dX5_factOf_88 : decode cX5_factOf 88 = .ok (.iconst 0, 1) := dk_3 (dk_at dksX5_factOf_3 17 rfl rfl)
theorem dX5_factOf_89 : decode cX5_factOf 89 = .ok (.iconst 0, 1) := dk_3 (dk_at dksX5_factOf_3 18 rfl rfl)
theorem dX5_factOf_90 : decode cX5_factOf 90 = .ok (.iconst 0, 1) := dk_3 (dk_at dksX5_factOf_3 19 rfl rfl)
theorem dX5_factOf_91 : decode cX5_factOf 91 = .ok (.iconst 0, 1) := dk_3 (dk_at dksX5_factOf_3 20 rfl rfl)
theorem dX5_factOf_92 : decode cX5_factOf 92 = .ok (.invokestatic 194, 3) := dk_184 0 194 (dk_at dksX5_factOf_3 21 rfl rfl)
theorem dX5_factOf_95 : decode cX5_factOf 95 = .ok (.if_icmp .ne 7, 3) := dk_160 0 7 (dk_at dksX5_factOf_4 0 rfl rfl)
theorem dX5_factOf_98 : decode cX5_factOf 98 = .ok (.iconst 4, 1) := dk_7 (dk_at dksX5_factOf_4 3 rfl rfl)
theorem dX5_factOf_99 : decode cX5_factOf 99 = .ok (.goto 120, 3) := dk_167 0 120 (dk_at dksX5_factOf_4 4 rfl rfl)
theorem dX5_factOf_102 : decode cX5_factOf 102 = .ok (.iload_n 0, 1) := dk_26 (dk_at dksX5_factOf_4 7 rfl rfl)
theorem dX5_factOf_103 : decode cX5_factOf 103 = .ok (.bipush 102, 2) := dk_16 102 (dk_at dksX5_factOf_4 8 rfl rfl)
theorem dX5_factOf_105 : decode cX5_factOf 105 = .ok (.bipush 97, 2) := dk_16 97 (dk_at dksX5_factOf_4 10 rfl rfl)
theorem dX5_factOf_107 : decode cX5_factOf 107 = .ok (.bipush 99, 2) := dk_16 99 (dk_at dksX5_factOf_4 12 rfl rfl)
theorem dX5_factOf_109 : decode cX5_factOf 109 = .ok (.bipush 105, 2) := dk_16 105 (dk_at dksX5_factOf_4 14 rfl rfl)
theorem dX5_factOf_111 : decode cX5_factOf 111 = .ok (.bipush 110, 2) := dk_16 110 (dk_at dksX5_factOf_4 16 rfl rfl)
theorem dX5_factOf_113 : decode cX5_factOf 113 = .ok (.bipush 103, 2) := dk_16 103 (dk_at dksX5_factOf_4 18 rfl rfl)
theorem dX5_factOf_115 : decode cX5_factOf 115 = .ok (.invokestatic 194, 3) := dk_184 0 194 (dk_at dksX5_factOf_4 20 rfl rfl)
theorem dX5_factOf_118 : decode cX5_factOf 118 = .ok (.if_icmp .ne 7, 3) := dk_160 0 7 (dk_at dksX5_factOf_5 0 rfl rfl)
theorem dX5_factOf_121 : decode cX5_factOf 121 = .ok (.iconst 5, 1) := dk_8 (dk_at dksX5_factOf_5 3 rfl rfl)
theorem dX5_factOf_122 : decode cX5_factOf 122 = .ok (.goto 97, 3) := dk_167 0 97 (dk_at dksX5_factOf_5 4 rfl rfl)
theorem dX5_factOf_125 : decode cX5_factOf 125 = .ok (.iload_n 0, 1) := dk_26 (dk_at dksX5_factOf_5 7 rfl rfl)
theorem dX5_factOf_126 : decode cX5_factOf 126 = .ok (.bipush 115, 2) := dk_16 115 (dk_at dksX5_factOf_5 8 rfl rfl)
theorem dX5_factOf_128 : decode cX5_factOf 128 = .ok (.bipush 110, 2) := dk_16 110 (dk_at dksX5_factOf_5 10 rfl rfl)
theorem dX5_factOf_130 : decode cX5_factOf 130 = .ok (.bipush 111, 2) := dk_16 111 (dk_at dksX5_factOf_5 12 rfl rfl)
theorem dX5_factOf_132 : decode cX5_factOf 132 = .ok (.bipush 119, 2) := dk_16 119 (dk_at dksX5_factOf_5 14 rfl rfl)
theorem dX5_factOf_134 : decode cX5_factOf 134 = .ok (.iconst 0, 1) := dk_3 (dk_at dksX5_factOf_5 16 rfl rfl)
theorem dX5_factOf_135 : decode cX5_factOf 135 = .ok (.iconst 0, 1) := dk_3 (dk_at dksX5_factOf_5 17 rfl rfl)
theorem dX5_factOf_136 : decode cX5_factOf 136 = .ok (.invokestatic 194, 3) := dk_184 0 194 (dk_at dksX5_factOf_5 18 rfl rfl)
theorem dX5_factOf_139 : decode cX5_factOf 139 = .ok (.if_icmp .ne 8, 3) := dk_160 0 8 (dk_at dksX5_factOf_5 21 rfl rfl)
theorem dX5_factOf_142 : decode cX5_factOf 142 = .ok (.bipush 6, 2) := dk_16 6 (dk_at dksX5_factOf_6 0 rfl rfl)
theorem dX5_factOf_144 : decode cX5_factOf 144 = .ok (.goto 75, 3) := dk_167 0 75 (dk_at dksX5_factOf_6 2 rfl rfl)
theorem dX5_factOf_147 : decode cX5_factOf 147 = .ok (.iload_n 0, 1) := dk_26 (dk_at dksX5_factOf_6 5 rfl rfl)
theorem dX5_factOf_148 : decode cX5_factOf 148 = .ok (.bipush 105, 2) := dk_16 105 (dk_at dksX5_factOf_6 6 rfl rfl)
theorem dX5_factOf_150 : decode cX5_factOf 150 = .ok (.bipush 110, 2) := dk_16 110 (dk_at dksX5_factOf_6 8 rfl rfl)
theorem dX5_factOf_152 : decode cX5_factOf 152 = .ok (.bipush 115, 2) := dk_16 115 (dk_at dksX5_factOf_6 10 rfl rfl)
theorem dX5_factOf_154 : decode cX5_factOf 154 = .ok (.bipush 105, 2) := dk_16 105 (dk_at dksX5_factOf_6 12 rfl rfl)
theorem dX5_factOf_156 : decode cX5_factOf 156 = .ok (.bipush 100, 2) := dk_16 100 (dk_at dksX5_factOf_6 14 rfl rfl)
theorem dX5_factOf_158 : decode cX5_factOf 158 = .ok (.bipush 101, 2) := dk_16 101 (dk_at dksX5_factOf_6 16 rfl rfl)
theorem dX5_factOf_160 : decode cX5_factOf 160 = .ok (.invokestatic 194, 3) := dk_184 0 194 (dk_at dksX5_factOf_6 18 rfl rfl)
theorem dX5_factOf_163 : decode cX5_factOf 163 = .ok (.if_icmp .ne 8, 3) := dk_160 0 8 (dk_at dksX5_factOf_6 21 rfl rfl)
theorem dX5_factOf_166 : decode cX5_factOf 166 = .ok (.bipush 7, 2) := dk_16 7 (dk_at dksX5_factOf_7 0 rfl rfl)
theorem dX5_factOf_168 : decode cX5_factOf 168 = .ok (.goto 51, 3) := dk_167 0 51 (dk_at dksX5_factOf_7 2 rfl rfl)
theorem dX5_factOf_171 : decode cX5_factOf 171 = .ok (.iload_n 0, 1) := dk_26 (dk_at dksX5_factOf_7 5 rfl rfl)
theorem dX5_factOf_172 : decode cX5_factOf 172 = .ok (.bipush 119, 2) := dk_16 119 (dk_at dksX5_factOf_7 6 rfl rfl)
theorem dX5_factOf_174 : decode cX5_factOf 174 = .ok (.bipush 97, 2) := dk_16 97 (dk_at dksX5_factOf_7 8 rfl rfl)
theorem dX5_factOf_176 : decode cX5_factOf 176 = .ok (.bipush 116, 2) := dk_16 116 (dk_at dksX5_factOf_7 10 rfl rfl)
theorem dX5_factOf_178 : decode cX5_factOf 178 = .ok (.bipush 99, 2) := dk_16 99 (dk_at dksX5_factOf_7 12 rfl rfl)
theorem dX5_factOf_180 : decode cX5_factOf 180 = .ok (.bipush 104, 2) := dk_16 104 (dk_at dksX5_factOf_7 14 rfl rfl)
theorem dX5_factOf_182 : decode cX5_factOf 182 = .ok (.iconst 0, 1) := dk_3 (dk_at dksX5_factOf_7 16 rfl rfl)
theorem dX5_factOf_183 : decode cX5_factOf 183 = .ok (.invokestatic 194, 3) := dk_184 0 194 (dk_at dksX5_factOf_7 17 rfl rfl)
theorem dX5_factOf_186 : decode cX5_factOf 186 = .ok (.if_icmp .ne 8, 3) := dk_160 0 8 (dk_at dksX5_factOf_7 20 rfl rfl)
theorem dX5_factOf_189 : decode cX5_factOf 189 = .ok (.bipush 8, 2) := dk_16 8 (dk_at dksX5_factOf_8 0 rfl rfl)
theorem dX5_factOf_191 : decode cX5_factOf 191 = .ok (.goto 28, 3) := dk_167 0 28 (dk_at dksX5_factOf_8 2 rfl rfl)
theorem dX5_factOf_194 : decode cX5_factOf 194 = .ok (.iload_n 0, 1) := dk_26 (dk_at dksX5_factOf_8 5 rfl rfl)
theorem dX5_factOf_195 : decode cX5_factOf 195 = .ok (.bipush 109, 2) := dk_16 109 (dk_at dksX5_factOf_8 6 rfl rfl)
theorem dX5_factOf_197 : decode cX5_factOf 197 = .ok (.bipush 105, 2) := dk_16 105 (dk_at dksX5_factOf_8 8 rfl rfl)
theorem dX5_factOf_199 : decode cX5_factOf 199 = .ok (.bipush 110, 2) := dk_16 110 (dk_at dksX5_factOf_8 10 rfl rfl)
theorem dX5_factOf_201 : decode cX5_factOf 201 = .ok (.bipush 117, 2) := dk_16 117 (dk_at dksX5_factOf_8 12 rfl rfl)
theorem dX5_factOf_203 : decode cX5_factOf 203 = .ok (.bipush 116, 2) := dk_16 116 (dk_at dksX5_factOf_8 14 rfl rfl)
theorem dX5_factOf_205 : decode cX5_factOf 205 = .ok (.bipush 101, 2) := dk_16 101 (dk_at dksX5_factOf_8 16 rfl rfl)
theorem dX5_factOf_207 : decode cX5_factOf 207 = .ok (.invokestatic 194, 3) := dk_184 0 194 (dk_at dksX5_factOf_8 18 rfl rfl)
theorem dX5_factOf_210 : decode cX5_factOf 210 = .ok (.if_icmp .ne 8, 3) := dk_160 0 8 (dk_at dksX5_factOf_8 21 rfl rfl)
theorem dX5_factOf_213 : decode cX5_factOf 213 = .ok (.bipush 9, 2) := dk_16 9 (dk_at dksX5_factOf_9 0 rfl rfl)
theorem dX5_factOf_215 : decode cX5_factOf 215 = .ok (.goto 4, 3) := dk_167 0 4 (dk_at dksX5_factOf_9 2 rfl rfl)
theorem dX5_factOf_218 : decode cX5_factOf 218 = .ok (.iconst (-1), 1) := dk_2 (dk_at dksX5_factOf_9 5 rfl rfl)
theorem dX5_factOf_219 : decode cX5_factOf 219 = .ok (.ireturn, 1) := dk_172 (dk_at dksX5_factOf_9 6 rfl rfl)
abbrev cX5_readEither : ByteArray := prog_17_method_50_code
def yX5_readEither : MethodName := ⟨RX5, "readEither", "()V"⟩
def dkwX5_readEither_4 : List UInt8 := [153, 0, 14, 42, 182, 0, 231, 153, 0, 7, 4, 167, 0, 4, 3, 60, 167, 255, 192, 177]
abbrev dktX5_readEither_4 : List UInt8 := dkwX5_readEither_4 ++ []
def dkwX5_readEither_3 : List UInt8 := [89, 180, 0, 214, 4, 100, 181, 0, 214, 42, 89, 180, 0, 166, 4, 100, 181, 0, 166, 42, 182, 0, 149]
abbrev dktX5_readEither_3 : List UInt8 := dkwX5_readEither_3 ++ dktX5_readEither_4
def dkwX5_readEither_2 : List UInt8 := [154, 255, 216, 42, 182, 0, 149, 153, 255, 209, 42, 180, 0, 214, 158, 255, 202, 42, 16, 41, 182, 0, 188, 42]
abbrev dktX5_readEither_2 : List UInt8 := dkwX5_readEither_2 ++ dktX5_readEither_3
def dkwX5_readEither_1 : List UInt8 := [182, 0, 228, 42, 182, 0, 149, 153, 0, 14, 42, 182, 0, 231, 153, 0, 7, 4, 167, 0, 4, 3, 60, 27]
abbrev dktX5_readEither_1 : List UInt8 := dkwX5_readEither_1 ++ dktX5_readEither_2
def dkwX5_readEither_0 : List UInt8 := [42, 3, 181, 0, 214, 4, 60, 27, 153, 0, 105, 42, 182, 0, 149, 153, 0, 98, 42, 182, 0, 225, 42]
abbrev dktX5_readEither_0 : List UInt8 := dkwX5_readEither_0 ++ dktX5_readEither_1
theorem dksX5_readEither_0 : cX5_readEither.data.toList.drop 0 = dktX5_readEither_0 := by decide +kernel
theorem dksX5_readEither_1 : cX5_readEither.data.toList.drop 23 = dktX5_readEither_1 := dk_seg dksX5_readEither_0 23 rfl rfl
theorem dksX5_readEither_2 : cX5_readEither.data.toList.drop 47 = dktX5_readEither_2 := dk_seg dksX5_readEither_1 24 rfl rfl
theorem dksX5_readEither_3 : cX5_readEither.data.toList.drop 71 = dktX5_readEither_3 := dk_seg dksX5_readEither_2 24 rfl rfl
theorem dksX5_readEither_4 : cX5_readEither.data.toList.drop 94 = dktX5_readEither_4 := dk_seg dksX5_readEither_3 23 rfl rfl
theorem dX5_readEither_0 : decode cX5_readEither 0 = .ok (.aload_n 0, 1) := dk_42 (dk_at dksX5_readEither_0 0 rfl rfl)
theorem dX5_readEither_1 : decode cX5_readEither 1 = .ok (.iconst 0, 1) := dk_3 (dk_at dksX5_readEither_0 1 rfl rfl)
theorem dX5_readEither_2 : decode cX5_readEither 2 = .ok (.putfield 214, 3) := dk_181 0 214 (dk_at dksX5_readEither_0 2 rfl rfl)
theorem dX5_readEither_5 : decode cX5_readEither 5 = .ok (.iconst 1, 1) := dk_4 (dk_at dksX5_readEither_0 5 rfl rfl)
theorem dX5_readEither_6 : decode cX5_readEither 6 = .ok (.istore_n 1, 1) := dk_60 (dk_at dksX5_readEither_0 6 rfl rfl)
theorem dX5_readEither_7 : decode cX5_readEither 7 = .ok (.iload_n 1, 1) := dk_27 (dk_at dksX5_readEither_0 7 rfl rfl)
theorem dX5_readEither_8 : decode cX5_readEither 8 = .ok (.ifCond .eq 105, 3) := dk_153 0 105 (dk_at dksX5_readEither_0 8 rfl rfl)
theorem dX5_readEither_11 : decode cX5_readEither 11 = .ok (.aload_n 0, 1) := dk_42 (dk_at dksX5_readEither_0 11 rfl rfl)
theorem dX5_readEither_12 : decode cX5_readEither 12 = .ok (.invokevirtual 149, 3) := dk_182 0 149 (dk_at dksX5_readEither_0 12 rfl rfl)
theorem dX5_readEither_15 : decode cX5_readEither 15 = .ok (.ifCond .eq 98, 3) := dk_153 0 98 (dk_at dksX5_readEither_0 15 rfl rfl)
theorem dX5_readEither_18 : decode cX5_readEither 18 = .ok (.aload_n 0, 1) := dk_42 (dk_at dksX5_readEither_0 18 rfl rfl)
theorem dX5_readEither_19 : decode cX5_readEither 19 = .ok (.invokevirtual 225, 3) := dk_182 0 225 (dk_at dksX5_readEither_0 19 rfl rfl)
theorem dX5_readEither_22 : decode cX5_readEither 22 = .ok (.aload_n 0, 1) := dk_42 (dk_at dksX5_readEither_0 22 rfl rfl)
theorem dX5_readEither_23 : decode cX5_readEither 23 = .ok (.invokevirtual 228, 3) := dk_182 0 228 (dk_at dksX5_readEither_1 0 rfl rfl)
theorem dX5_readEither_26 : decode cX5_readEither 26 = .ok (.aload_n 0, 1) := dk_42 (dk_at dksX5_readEither_1 3 rfl rfl)
theorem dX5_readEither_27 : decode cX5_readEither 27 = .ok (.invokevirtual 149, 3) := dk_182 0 149 (dk_at dksX5_readEither_1 4 rfl rfl)
theorem dX5_readEither_30 : decode cX5_readEither 30 = .ok (.ifCond .eq 14, 3) := dk_153 0 14 (dk_at dksX5_readEither_1 7 rfl rfl)
theorem dX5_readEither_33 : decode cX5_readEither 33 = .ok (.aload_n 0, 1) := dk_42 (dk_at dksX5_readEither_1 10 rfl rfl)
theorem dX5_readEither_34 : decode cX5_readEither 34 = .ok (.invokevirtual 231, 3) := dk_182 0 231 (dk_at dksX5_readEither_1 11 rfl rfl)
theorem dX5_readEither_37 : decode cX5_readEither 37 = .ok (.ifCond .eq 7, 3) := dk_153 0 7 (dk_at dksX5_readEither_1 14 rfl rfl)
theorem dX5_readEither_40 : decode cX5_readEither 40 = .ok (.iconst 1, 1) := dk_4 (dk_at dksX5_readEither_1 17 rfl rfl)
theorem dX5_readEither_41 : decode cX5_readEither 41 = .ok (.goto 4, 3) := dk_167 0 4 (dk_at dksX5_readEither_1 18 rfl rfl)
theorem dX5_readEither_44 : decode cX5_readEither 44 = .ok (.iconst 0, 1) := dk_3 (dk_at dksX5_readEither_1 21 rfl rfl)
theorem dX5_readEither_45 : decode cX5_readEither 45 = .ok (.istore_n 1, 1) := dk_60 (dk_at dksX5_readEither_1 22 rfl rfl)
theorem dX5_readEither_46 : decode cX5_readEither 46 = .ok (.iload_n 1, 1) := dk_27 (dk_at dksX5_readEither_1 23 rfl rfl)
theorem dX5_readEither_47 : decode cX5_readEither 47 = .ok (.ifCond .ne (-40), 3) := dk_154 255 216 (dk_at dksX5_readEither_2 0 rfl rfl)
theorem dX5_readEither_50 : decode cX5_readEither 50 = .ok (.aload_n 0, 1) := dk_42 (dk_at dksX5_readEither_2 3 rfl rfl)
theorem dX5_readEither_51 : decode cX5_readEither 51 = .ok (.invokevirtual 149, 3) := dk_182 0 149 (dk_at dksX5_readEither_2 4 rfl rfl)
theorem dX5_readEither_54 : decode cX5_readEither 54 = .ok (.ifCond .eq (-47), 3) := dk_153 255 209 (dk_at dksX5_readEither_2 7 rfl rfl)
theorem dX5_readEither_57 : decode cX5_readEither 57 = .ok (.aload_n 0, 1) := dk_42 (dk_at dksX5_readEither_2 10 rfl rfl)
theorem dX5_readEither_58 : decode cX5_readEither 58 = .ok (.getfield 214, 3) := dk_180 0 214 (dk_at dksX5_readEither_2 11 rfl rfl)
theorem dX5_readEither_61 : decode cX5_readEither 61 = .ok (.ifCond .le (-54), 3) := dk_158 255 202 (dk_at dksX5_readEither_2 14 rfl rfl)
theorem dX5_readEither_64 : decode cX5_readEither 64 = .ok (.aload_n 0, 1) := dk_42 (dk_at dksX5_readEither_2 17 rfl rfl)
theorem dX5_readEither_65 : decode cX5_readEither 65 = .ok (.bipush 41, 2) := dk_16 41 (dk_at dksX5_readEither_2 18 rfl rfl)
theorem dX5_readEither_67 : decode cX5_readEither 67 = .ok (.invokevirtual 188, 3) := dk_182 0 188 (dk_at dksX5_readEither_2 20 rfl rfl)
theorem dX5_readEither_70 : decode cX5_readEither 70 = .ok (.aload_n 0, 1) := dk_42 (dk_at dksX5_readEither_2 23 rfl rfl)
theorem dX5_readEither_71 : decode cX5_readEither 71 = .ok (.dup, 1) := dk_89 (dk_at dksX5_readEither_3 0 rfl rfl)
theorem dX5_readEither_72 : decode cX5_readEither 72 = .ok (.getfield 214, 3) := dk_180 0 214 (dk_at dksX5_readEither_3 1 rfl rfl)
theorem dX5_readEither_75 : decode cX5_readEither 75 = .ok (.iconst 1, 1) := dk_4 (dk_at dksX5_readEither_3 4 rfl rfl)
theorem dX5_readEither_76 : decode cX5_readEither 76 = .ok (.isub, 1) := dk_100 (dk_at dksX5_readEither_3 5 rfl rfl)
theorem dX5_readEither_77 : decode cX5_readEither 77 = .ok (.putfield 214, 3) := dk_181 0 214 (dk_at dksX5_readEither_3 6 rfl rfl)
theorem dX5_readEither_80 : decode cX5_readEither 80 = .ok (.aload_n 0, 1) := dk_42 (dk_at dksX5_readEither_3 9 rfl rfl)
theorem dX5_readEither_81 : decode cX5_readEither 81 = .ok (.dup, 1) := dk_89 (dk_at dksX5_readEither_3 10 rfl rfl)
theorem dX5_readEither_82 : decode cX5_readEither 82 = .ok (.getfield 166, 3) := dk_180 0 166 (dk_at dksX5_readEither_3 11 rfl rfl)
theorem dX5_readEither_85 : decode cX5_readEither 85 = .ok (.iconst 1, 1) := dk_4 (dk_at dksX5_readEither_3 14 rfl rfl)
theorem dX5_readEither_86 : decode cX5_readEither 86 = .ok (.isub, 1) := dk_100 (dk_at dksX5_readEither_3 15 rfl rfl)
theorem dX5_readEither_87 : decode cX5_readEither 87 = .ok (.putfield 166, 3) := dk_181 0 166 (dk_at dksX5_readEither_3 16 rfl rfl)
theorem dX5_readEither_90 : decode cX5_readEither 90 = .ok (.aload_n 0, 1) := dk_42 (dk_at dksX5_readEither_3 19 rfl rfl)
theorem dX5_readEither_91 : decode cX5_readEither 91 = .ok (.invokevirtual 149, 3) := dk_182 0 149 (dk_at dksX5_readEither_3 20 rfl rfl)
theorem dX5_readEither_94 : decode cX5_readEither 94 = .ok (.ifCond .eq 14, 3) := dk_153 0 14 (dk_at dksX5_readEither_4 0 rfl rfl)
theorem dX5_readEither_97 : decode cX5_readEither 97 = .ok (.aload_n 0, 1) := dk_42 (dk_at dksX5_readEither_4 3 rfl rfl)
theorem dX5_readEither_98 : decode cX5_readEither 98 = .ok (.invokevirtual 231, 3) := dk_182 0 231 (dk_at dksX5_readEither_4 4 rfl rfl)
theorem dX5_readEither_101 : decode cX5_readEither 101 = .ok (.ifCond .eq 7, 3) := dk_153 0 7 (dk_at dksX5_readEither_4 7 rfl rfl)
theorem dX5_readEither_104 : decode cX5_readEither 104 = .ok (.iconst 1, 1) := dk_4 (dk_at dksX5_readEither_4 10 rfl rfl)
theorem dX5_readEither_105 : decode cX5_readEither 105 = .ok (.goto 4, 3) := dk_167 0 4 (dk_at dksX5_readEither_4 11 rfl rfl)
theorem dX5_readEither_108 : decode cX5_readEither 108 = .ok (.iconst 0, 1) := dk_3 (dk_at dksX5_readEither_4 14 rfl rfl)
theorem dX5_readEither_109 : decode cX5_readEither 109 = .ok (.istore_n 1, 1) := dk_60 (dk_at dksX5_readEither_4 15 rfl rfl)
theorem dX5_readEither_110 : decode cX5_readEither 110 = .ok (.goto (-64), 3) := dk_167 255 192 (dk_at dksX5_readEither_4 16 rfl rfl)
theorem dX5_readEither_113 : decode cX5_readEither 113 = .ok (.return_, 1) := dk_177 (dk_at dksX5_readEither_4 19 rfl rfl)
abbrev cX5_readOpening : ByteArray := prog_17_method_47_code
def yX5_readOpening : MethodName := ⟨RX5, "readOpening", "()V"⟩
def dkwX5_readOpening_3 : List UInt8 := [16, 40, 182, 0, 188, 4, 60, 167, 255, 181, 177]
abbrev dktX5_readOpening_3 : List UInt8 := dkwX5_readOpening_3 ++ []
def dkwX5_readOpening_2 : List UInt8 := [182, 0, 163, 4, 60, 167, 255, 206, 42, 182, 0, 138, 16, 40, 160, 255, 197, 42, 4, 182, 0, 219, 42]
abbrev dktX5_readOpening_2 : List UInt8 := dkwX5_readOpening_2 ++ dktX5_readOpening_3
def dkwX5_readOpening_1 : List UInt8 := [16, 116, 3, 3, 3, 184, 0, 194, 160, 0, 24, 42, 5, 182, 0, 219, 42, 182, 0, 149, 153, 0, 7, 42]
abbrev dktX5_readOpening_1 : List UInt8 := dkwX5_readOpening_1 ++ dktX5_readOpening_2
def dkwX5_readOpening_0 : List UInt8 := [4, 60, 27, 153, 0, 77, 42, 182, 0, 149, 153, 0, 70, 3, 60, 42, 182, 0, 160, 16, 110, 16, 111]
abbrev dktX5_readOpening_0 : List UInt8 := dkwX5_readOpening_0 ++ dktX5_readOpening_1
theorem dksX5_readOpening_0 : cX5_readOpening.data.toList.drop 0 = dktX5_readOpening_0 := by decide +kernel
theorem dksX5_readOpening_1 : cX5_readOpening.data.toList.drop 23 = dktX5_readOpening_1 := dk_seg dksX5_readOpening_0 23 rfl rfl
theorem dksX5_readOpening_2 : cX5_readOpening.data.toList.drop 47 = dktX5_readOpening_2 := dk_seg dksX5_readOpening_1 24 rfl rfl
theorem dksX5_readOpening_3 : cX5_readOpening.data.toList.drop 70 = dktX5_readOpening_3 := dk_seg dksX5_readOpening_2 23 rfl rfl
theorem dX5_readOpening_0 : decode cX5_readOpening 0 = .ok (.iconst 1, 1) := dk_4 (dk_at dksX5_readOpening_0 0 rfl rfl)
theorem dX5_readOpening_1 : decode cX5_readOpening 1 = .ok (.istore_n 1, 1) := dk_60 (dk_at dksX5_readOpening_0 1 rfl rfl)
theorem dX5_readOpening_2 : decode cX5_readOpening 2 = .ok (.iload_n 1, 1) := dk_27 (dk_at dksX5_readOpening_0 2 rfl rfl)
theorem dX5_readOpening_3 : decode cX5_readOpening 3 = .ok (.ifCond .eq 77, 3) := dk_153 0 77 (dk_at dksX5_readOpening_0 3 rfl rfl)
theorem dX5_readOpening_6 : decode cX5_readOpening 6 = .ok (.aload_n 0, 1) := dk_42 (dk_at dksX5_readOpening_0 6 rfl rfl)
theorem dX5_readOpening_7 : decode cX5_readOpening 7 = .ok (.invokevirtual 149, 3) := dk_182 0 149 (dk_at dksX5_readOpening_0 7 rfl rfl)
theorem dX5_readOpening_10 : decode cX5_readOpening 10 = .ok (.ifCond .eq 70, 3) := dk_153 0 70 (dk_at dksX5_readOpening_0 10 rfl rfl)
theorem dX5_readOpening_13 : decode cX5_readOpening 13 = .ok (.iconst 0, 1) := dk_3 (dk_at dksX5_readOpening_0 13 rfl rfl)
theorem dX5_readOpening_14 : decode cX5_readOpening 14 = .ok (.istore_n 1, 1) := dk_60 (dk_at dksX5_readOpening_0 14 rfl rfl)
theorem dX5_readOpening_15 : decode cX5_readOpening 15 = .ok (.aload_n 0, 1) := dk_42 (dk_at dksX5_readOpening_0 15 rfl rfl)
theorem dX5_readOpening_16 : decode cX5_readOpening 16 = .ok (.invokevirtual 160, 3) := dk_182 0 160 (dk_at dksX5_readOpening_0 16 rfl rfl)
theorem dX5_readOpening_19 : decode cX5_readOpening 19 = .ok (.bipush 110, 2) := dk_16 110 (dk_at dksX5_readOpening_0 19 rfl rfl)
theorem dX5_readOpening_21 : decode cX5_readOpening 21 = .ok (.bipush 111, 2) := dk_16 111 (dk_at dksX5_readOpening_0 21 rfl rfl)
theorem dX5_readOpening_23 : decode cX5_readOpening 23 = .ok (.bipush 116, 2) := dk_16 116 (dk_at dksX5_readOpening_1 0 rfl rfl)
theorem dX5_readOpening_25 : decode cX5_readOpening 25 = .ok (.iconst 0, 1) := dk_3 (dk_at dksX5_readOpening_1 2 rfl rfl)
theorem dX5_readOpening_26 : decode cX5_readOpening 26 = .ok (.iconst 0, 1) := dk_3 (dk_at dksX5_readOpening_1 3 rfl rfl)
theorem dX5_readOpening_27 : decode cX5_readOpening 27 = .ok (.iconst 0, 1) := dk_3 (dk_at dksX5_readOpening_1 4 rfl rfl)
theorem dX5_readOpening_28 : decode cX5_readOpening 28 = .ok (.invokestatic 194, 3) := dk_184 0 194 (dk_at dksX5_readOpening_1 5 rfl rfl)
theorem dX5_readOpening_31 : decode cX5_readOpening 31 = .ok (.if_icmp .ne 24, 3) := dk_160 0 24 (dk_at dksX5_readOpening_1 8 rfl rfl)
theorem dX5_readOpening_34 : decode cX5_readOpening 34 = .ok (.aload_n 0, 1) := dk_42 (dk_at dksX5_readOpening_1 11 rfl rfl)
theorem dX5_readOpening_35 : decode cX5_readOpening 35 = .ok (.iconst 2, 1) := dk_5 (dk_at dksX5_readOpening_1 12 rfl rfl)
theorem dX5_readOpening_36 : decode cX5_readOpening 36 = .ok (.invokevirtual 219, 3) := dk_182 0 219 (dk_at dksX5_readOpening_1 13 rfl rfl)
theorem dX5_readOpening_39 : decode cX5_readOpening 39 = .ok (.aload_n 0, 1) := dk_42 (dk_at dksX5_readOpening_1 16 rfl rfl)
theorem dX5_readOpening_40 : decode cX5_readOpening 40 = .ok (.invokevirtual 149, 3) := dk_182 0 149 (dk_at dksX5_readOpening_1 17 rfl rfl)
theorem dX5_readOpening_43 : decode cX5_readOpening 43 = .ok (.ifCond .eq 7, 3) := dk_153 0 7 (dk_at dksX5_readOpening_1 20 rfl rfl)
theorem dX5_readOpening_46 : decode cX5_readOpening 46 = .ok (.aload_n 0, 1) := dk_42 (dk_at dksX5_readOpening_1 23 rfl rfl)
theorem dX5_readOpening_47 : decode cX5_readOpening 47 = .ok (.invokevirtual 163, 3) := dk_182 0 163 (dk_at dksX5_readOpening_2 0 rfl rfl)
theorem dX5_readOpening_50 : decode cX5_readOpening 50 = .ok (.iconst 1, 1) := dk_4 (dk_at dksX5_readOpening_2 3 rfl rfl)
theorem dX5_readOpening_51 : decode cX5_readOpening 51 = .ok (.istore_n 1, 1) := dk_60 (dk_at dksX5_readOpening_2 4 rfl rfl)
theorem dX5_readOpening_52 : decode cX5_readOpening 52 = .ok (.goto (-50), 3) := dk_167 255 206 (dk_at dksX5_readOpening_2 5 rfl rfl)
theorem dX5_readOpening_55 : decode cX5_readOpening 55 = .ok (.aload_n 0, 1) := dk_42 (dk_at dksX5_readOpening_2 8 rfl rfl)
theorem dX5_readOpening_56 : decode cX5_readOpening 56 = .ok (.invokevirtual 138, 3) := dk_182 0 138 (dk_at dksX5_readOpening_2 9 rfl rfl)
theorem dX5_readOpening_59 : decode cX5_readOpening 59 = .ok (.bipush 40, 2) := dk_16 40 (dk_at dksX5_readOpening_2 12 rfl rfl)
theorem dX5_readOpening_61 : decode cX5_readOpening 61 = .ok (.if_icmp .ne (-59), 3) := dk_160 255 197 (dk_at dksX5_readOpening_2 14 rfl rfl)
theorem dX5_readOpening_64 : decode cX5_readOpening 64 = .ok (.aload_n 0, 1) := dk_42 (dk_at dksX5_readOpening_2 17 rfl rfl)
theorem dX5_readOpening_65 : decode cX5_readOpening 65 = .ok (.iconst 1, 1) := dk_4 (dk_at dksX5_readOpening_2 18 rfl rfl)
theorem dX5_readOpening_66 : decode cX5_readOpening 66 = .ok (.invokevirtual 219, 3) := dk_182 0 219 (dk_at dksX5_readOpening_2 19 rfl rfl)
theorem dX5_readOpening_69 : decode cX5_readOpening 69 = .ok (.aload_n 0, 1) := dk_42 (dk_at dksX5_readOpening_2 22 rfl rfl)
theorem dX5_readOpening_70 : decode cX5_readOpening 70 = .ok (.bipush 40, 2) := dk_16 40 (dk_at dksX5_readOpening_3 0 rfl rfl)
theorem dX5_readOpening_72 : decode cX5_readOpening 72 = .ok (.invokevirtual 188, 3) := dk_182 0 188 (dk_at dksX5_readOpening_3 2 rfl rfl)
theorem dX5_readOpening_75 : decode cX5_readOpening 75 = .ok (.iconst 1, 1) := dk_4 (dk_at dksX5_readOpening_3 5 rfl rfl)
theorem dX5_readOpening_76 : decode cX5_readOpening 76 = .ok (.istore_n 1, 1) := dk_60 (dk_at dksX5_readOpening_3 6 rfl rfl)
theorem dX5_readOpening_77 : decode cX5_readOpening 77 = .ok (.goto (-75), 3) := dk_167 255 181 (dk_at dksX5_readOpening_3 7 rfl rfl)
theorem dX5_readOpening_80 : decode cX5_readOpening 80 = .ok (.return_, 1) := dk_177 (dk_at dksX5_readOpening_3 10 rfl rfl)
abbrev cX5_opensOne : ByteArray := prog_17_method_45_code
def yX5_opensOne : MethodName := ⟨RX5, "opensOne", "(I)V"⟩
def dkwX5_opensOne_2 : List UInt8 := [177]
abbrev dktX5_opensOne_2 : List UInt8 := dkwX5_opensOne_2 ++ []
def dkwX5_opensOne_1 : List UInt8 := [96, 181, 0, 166, 42, 180, 0, 32, 42, 180, 0, 214, 27, 79, 42, 89, 180, 0, 214, 4, 96, 181, 0, 214]
abbrev dktX5_opensOne_1 : List UInt8 := dkwX5_opensOne_1 ++ dktX5_opensOne_2
def dkwX5_opensOne_0 : List UInt8 := [42, 180, 0, 166, 16, 8, 160, 0, 12, 42, 6, 42, 180, 0, 132, 182, 0, 156, 42, 89, 180, 0, 166, 4]
abbrev dktX5_opensOne_0 : List UInt8 := dkwX5_opensOne_0 ++ dktX5_opensOne_1
theorem dksX5_opensOne_0 : cX5_opensOne.data.toList.drop 0 = dktX5_opensOne_0 := by decide +kernel
theorem dksX5_opensOne_1 : cX5_opensOne.data.toList.drop 24 = dktX5_opensOne_1 := dk_seg dksX5_opensOne_0 24 rfl rfl
theorem dksX5_opensOne_2 : cX5_opensOne.data.toList.drop 48 = dktX5_opensOne_2 := dk_seg dksX5_opensOne_1 24 rfl rfl
theorem dX5_opensOne_0 : decode cX5_opensOne 0 = .ok (.aload_n 0, 1) := dk_42 (dk_at dksX5_opensOne_0 0 rfl rfl)
theorem dX5_opensOne_1 : decode cX5_opensOne 1 = .ok (.getfield 166, 3) := dk_180 0 166 (dk_at dksX5_opensOne_0 1 rfl rfl)
theorem dX5_opensOne_4 : decode cX5_opensOne 4 = .ok (.bipush 8, 2) := dk_16 8 (dk_at dksX5_opensOne_0 4 rfl rfl)
theorem dX5_opensOne_6 : decode cX5_opensOne 6 = .ok (.if_icmp .ne 12, 3) := dk_160 0 12 (dk_at dksX5_opensOne_0 6 rfl rfl)
theorem dX5_opensOne_9 : decode cX5_opensOne 9 = .ok (.aload_n 0, 1) := dk_42 (dk_at dksX5_opensOne_0 9 rfl rfl)
theorem dX5_opensOne_10 : decode cX5_opensOne 10 = .ok (.iconst 3, 1) := dk_6 (dk_at dksX5_opensOne_0 10 rfl rfl)
theorem dX5_opensOne_11 : decode cX5_opensOne 11 = .ok (.aload_n 0, 1) := dk_42 (dk_at dksX5_opensOne_0 11 rfl rfl)
theorem dX5_opensOne_12 : decode cX5_opensOne 12 = .ok (.getfield 132, 3) := dk_180 0 132 (dk_at dksX5_opensOne_0 12 rfl rfl)
theorem dX5_opensOne_15 : decode cX5_opensOne 15 = .ok (.invokevirtual 156, 3) := dk_182 0 156 (dk_at dksX5_opensOne_0 15 rfl rfl)
theorem dX5_opensOne_18 : decode cX5_opensOne 18 = .ok (.aload_n 0, 1) := dk_42 (dk_at dksX5_opensOne_0 18 rfl rfl)
theorem dX5_opensOne_19 : decode cX5_opensOne 19 = .ok (.dup, 1) := dk_89 (dk_at dksX5_opensOne_0 19 rfl rfl)
theorem dX5_opensOne_20 : decode cX5_opensOne 20 = .ok (.getfield 166, 3) := dk_180 0 166 (dk_at dksX5_opensOne_0 20 rfl rfl)
theorem dX5_opensOne_23 : decode cX5_opensOne 23 = .ok (.iconst 1, 1) := dk_4 (dk_at dksX5_opensOne_0 23 rfl rfl)
theorem dX5_opensOne_24 : decode cX5_opensOne 24 = .ok (.iadd, 1) := dk_96 (dk_at dksX5_opensOne_1 0 rfl rfl)
theorem dX5_opensOne_25 : decode cX5_opensOne 25 = .ok (.putfield 166, 3) := dk_181 0 166 (dk_at dksX5_opensOne_1 1 rfl rfl)
theorem dX5_opensOne_28 : decode cX5_opensOne 28 = .ok (.aload_n 0, 1) := dk_42 (dk_at dksX5_opensOne_1 4 rfl rfl)
theorem dX5_opensOne_29 : decode cX5_opensOne 29 = .ok (.getfield 32, 3) := dk_180 0 32 (dk_at dksX5_opensOne_1 5 rfl rfl)
theorem dX5_opensOne_32 : decode cX5_opensOne 32 = .ok (.aload_n 0, 1) := dk_42 (dk_at dksX5_opensOne_1 8 rfl rfl)
theorem dX5_opensOne_33 : decode cX5_opensOne 33 = .ok (.getfield 214, 3) := dk_180 0 214 (dk_at dksX5_opensOne_1 9 rfl rfl)
theorem dX5_opensOne_36 : decode cX5_opensOne 36 = .ok (.iload_n 1, 1) := dk_27 (dk_at dksX5_opensOne_1 12 rfl rfl)
theorem dX5_opensOne_37 : decode cX5_opensOne 37 = .ok (.iastore, 1) := dk_79 (dk_at dksX5_opensOne_1 13 rfl rfl)
theorem dX5_opensOne_38 : decode cX5_opensOne 38 = .ok (.aload_n 0, 1) := dk_42 (dk_at dksX5_opensOne_1 14 rfl rfl)
theorem dX5_opensOne_39 : decode cX5_opensOne 39 = .ok (.dup, 1) := dk_89 (dk_at dksX5_opensOne_1 15 rfl rfl)
theorem dX5_opensOne_40 : decode cX5_opensOne 40 = .ok (.getfield 214, 3) := dk_180 0 214 (dk_at dksX5_opensOne_1 16 rfl rfl)
theorem dX5_opensOne_43 : decode cX5_opensOne 43 = .ok (.iconst 1, 1) := dk_4 (dk_at dksX5_opensOne_1 19 rfl rfl)
theorem dX5_opensOne_44 : decode cX5_opensOne 44 = .ok (.iadd, 1) := dk_96 (dk_at dksX5_opensOne_1 20 rfl rfl)
theorem dX5_opensOne_45 : decode cX5_opensOne 45 = .ok (.putfield 214, 3) := dk_181 0 214 (dk_at dksX5_opensOne_1 21 rfl rfl)
theorem dX5_opensOne_48 : decode cX5_opensOne 48 = .ok (.return_, 1) := dk_177 (dk_at dksX5_opensOne_2 0 rfl rfl)
abbrev cX5_sign : ByteArray := prog_17_method_33_code
def yX5_sign : MethodName := ⟨RX5, "sign", "(I)V"⟩
def dkwX5_sign_1 : List UInt8 := [42, 182, 0, 149, 153, 0, 13, 42, 89, 180, 0, 132, 4, 96, 181, 0, 132, 177]
abbrev dktX5_sign_1 : List UInt8 := dkwX5_sign_1 ++ []
def dkwX5_sign_0 : List UInt8 := [42, 182, 0, 149, 153, 0, 20, 42, 182, 0, 138, 27, 159, 0, 12, 42, 4, 42, 180, 0, 132, 182, 0, 156]
abbrev dktX5_sign_0 : List UInt8 := dkwX5_sign_0 ++ dktX5_sign_1
theorem dksX5_sign_0 : cX5_sign.data.toList.drop 0 = dktX5_sign_0 := by decide +kernel
theorem dksX5_sign_1 : cX5_sign.data.toList.drop 24 = dktX5_sign_1 := dk_seg dksX5_sign_0 24 rfl rfl
theorem dX5_sign_0 : decode cX5_sign 0 = .ok (.aload_n 0, 1) := dk_42 (dk_at dksX5_sign_0 0 rfl rfl)
theorem dX5_sign_1 : decode cX5_sign 1 = .ok (.invokevirtual 149, 3) := dk_182 0 149 (dk_at dksX5_sign_0 1 rfl rfl)
theorem dX5_sign_4 : decode cX5_sign 4 = .ok (.ifCond .eq 20, 3) := dk_153 0 20 (dk_at dksX5_sign_0 4 rfl rfl)
theorem dX5_sign_7 : decode cX5_sign 7 = .ok (.aload_n 0, 1) := dk_42 (dk_at dksX5_sign_0 7 rfl rfl)
theorem dX5_sign_8 : decode cX5_sign 8 = .ok (.invokevirtual 138, 3) := dk_182 0 138 (dk_at dksX5_sign_0 8 rfl rfl)
theorem dX5_sign_11 : decode cX5_sign 11 = .ok (.iload_n 1, 1) := dk_27 (dk_at dksX5_sign_0 11 rfl rfl)
theorem dX5_sign_12 : decode cX5_sign 12 = .ok (.if_icmp .eq 12, 3) := dk_159 0 12 (dk_at dksX5_sign_0 12 rfl rfl)
theorem dX5_sign_15 : decode cX5_sign 15 = .ok (.aload_n 0, 1) := dk_42 (dk_at dksX5_sign_0 15 rfl rfl)
theorem dX5_sign_16 : decode cX5_sign 16 = .ok (.iconst 1, 1) := dk_4 (dk_at dksX5_sign_0 16 rfl rfl)
theorem dX5_sign_17 : decode cX5_sign 17 = .ok (.aload_n 0, 1) := dk_42 (dk_at dksX5_sign_0 17 rfl rfl)
theorem dX5_sign_18 : decode cX5_sign 18 = .ok (.getfield 132, 3) := dk_180 0 132 (dk_at dksX5_sign_0 18 rfl rfl)
theorem dX5_sign_21 : decode cX5_sign 21 = .ok (.invokevirtual 156, 3) := dk_182 0 156 (dk_at dksX5_sign_0 21 rfl rfl)
theorem dX5_sign_24 : decode cX5_sign 24 = .ok (.aload_n 0, 1) := dk_42 (dk_at dksX5_sign_1 0 rfl rfl)
theorem dX5_sign_25 : decode cX5_sign 25 = .ok (.invokevirtual 149, 3) := dk_182 0 149 (dk_at dksX5_sign_1 1 rfl rfl)
theorem dX5_sign_28 : decode cX5_sign 28 = .ok (.ifCond .eq 13, 3) := dk_153 0 13 (dk_at dksX5_sign_1 4 rfl rfl)
theorem dX5_sign_31 : decode cX5_sign 31 = .ok (.aload_n 0, 1) := dk_42 (dk_at dksX5_sign_1 7 rfl rfl)
theorem dX5_sign_32 : decode cX5_sign 32 = .ok (.dup, 1) := dk_89 (dk_at dksX5_sign_1 8 rfl rfl)
theorem dX5_sign_33 : decode cX5_sign 33 = .ok (.getfield 132, 3) := dk_180 0 132 (dk_at dksX5_sign_1 9 rfl rfl)
theorem dX5_sign_36 : decode cX5_sign 36 = .ok (.iconst 1, 1) := dk_4 (dk_at dksX5_sign_1 12 rfl rfl)
theorem dX5_sign_37 : decode cX5_sign 37 = .ok (.iadd, 1) := dk_96 (dk_at dksX5_sign_1 13 rfl rfl)
theorem dX5_sign_38 : decode cX5_sign 38 = .ok (.putfield 132, 3) := dk_181 0 132 (dk_at dksX5_sign_1 14 rfl rfl)
theorem dX5_sign_41 : decode cX5_sign 41 = .ok (.return_, 1) := dk_177 (dk_at dksX5_sign_1 17 rfl rfl)
abbrev cX5_readTwo : ByteArray := prog_17_method_48_code
def yX5_readTwo : MethodName := ⟨RX5, "readTwo", "()V"⟩
def dkwX5_readTwo_4 : List UInt8 := [167, 0, 5, 16, 8, 3, 182, 0, 217, 177]
abbrev dktX5_readTwo_4 : List UInt8 := dkwX5_readTwo_4 ++ []
def dkwX5_readTwo_3 : List UInt8 := [182, 0, 208, 42, 27, 16, 60, 160, 0, 8, 16, 6, 167, 0, 16, 27, 16, 61, 160, 0, 8, 16, 7]
abbrev dktX5_readTwo_3 : List UInt8 := dkwX5_readTwo_3 ++ dktX5_readTwo_4
def dkwX5_readTwo_2 : List UInt8 := [180, 0, 132, 182, 0, 156, 42, 182, 0, 149, 153, 0, 13, 42, 89, 180, 0, 132, 4, 96, 181, 0, 132, 42]
abbrev dktX5_readTwo_2 : List UInt8 := dkwX5_readTwo_2 ++ dktX5_readTwo_3
def dkwX5_readTwo_1 : List UInt8 := [153, 0, 30, 27, 16, 60, 159, 0, 24, 27, 16, 61, 159, 0, 18, 27, 16, 62, 159, 0, 12, 42, 4, 42]
abbrev dktX5_readTwo_1 : List UInt8 := dkwX5_readTwo_1 ++ dktX5_readTwo_2
def dkwX5_readTwo_0 : List UInt8 := [42, 182, 0, 208, 42, 182, 0, 149, 153, 0, 10, 42, 182, 0, 138, 167, 0, 4, 3, 60, 42, 182, 0, 149]
abbrev dktX5_readTwo_0 : List UInt8 := dkwX5_readTwo_0 ++ dktX5_readTwo_1
theorem dksX5_readTwo_0 : cX5_readTwo.data.toList.drop 0 = dktX5_readTwo_0 := by decide +kernel
theorem dksX5_readTwo_1 : cX5_readTwo.data.toList.drop 24 = dktX5_readTwo_1 := dk_seg dksX5_readTwo_0 24 rfl rfl
theorem dksX5_readTwo_2 : cX5_readTwo.data.toList.drop 48 = dktX5_readTwo_2 := dk_seg dksX5_readTwo_1 24 rfl rfl
theorem dksX5_readTwo_3 : cX5_readTwo.data.toList.drop 72 = dktX5_readTwo_3 := dk_seg dksX5_readTwo_2 24 rfl rfl
theorem dksX5_readTwo_4 : cX5_readTwo.data.toList.drop 95 = dktX5_readTwo_4 := dk_seg dksX5_readTwo_3 23 rfl rfl
theorem dX5_readTwo_0 : decode cX5_readTwo 0 = .ok (.aload_n 0, 1) := dk_42 (dk_at dksX5_readTwo_0 0 rfl rfl)
theorem dX5_readTwo_1 : decode cX5_readTwo 1 = .ok (.invokevirtual 208, 3) := dk_182 0 208 (dk_at dksX5_readTwo_0 1 rfl rfl)
theorem dX5_readTwo_4 : decode cX5_readTwo 4 = .ok (.aload_n 0, 1) := dk_42 (dk_at dksX5_readTwo_0 4 rfl rfl)
theorem dX5_readTwo_5 : decode cX5_readTwo 5 = .ok (.invokevirtual 149, 3) := dk_182 0 149 (dk_at dksX5_readTwo_0 5 rfl rfl)
theorem dX5_readTwo_8 : decode cX5_readTwo 8 = .ok (.ifCond .eq 10, 3) := dk_153 0 10 (dk_at dksX5_readTwo_0 8 rfl rfl)
theorem dX5_readTwo_11 : decode cX5_readTwo 11 = .ok (.aload_n 0, 1) := dk_42 (dk_at dksX5_readTwo_0 11 rfl rfl)
theorem dX5_readTwo_12 : decode cX5_readTwo 12 = .ok (.invokevirtual 138, 3) := dk_182 0 138 (dk_at dksX5_readTwo_0 12 rfl rfl)
theorem dX5_readTwo_15 : decode cX5_readTwo 15 = .ok (.goto 4, 3) := dk_167 0 4 (dk_at dksX5_readTwo_0 15 rfl rfl)
theorem dX5_readTwo_18 : decode cX5_readTwo 18 = .ok (.iconst 0, 1) := dk_3 (dk_at dksX5_readTwo_0 18 rfl rfl)
theorem dX5_readTwo_19 : decode cX5_readTwo 19 = .ok (.istore_n 1, 1) := dk_60 (dk_at dksX5_readTwo_0 19 rfl rfl)
theorem dX5_readTwo_20 : decode cX5_readTwo 20 = .ok (.aload_n 0, 1) := dk_42 (dk_at dksX5_readTwo_0 20 rfl rfl)
theorem dX5_readTwo_21 : decode cX5_readTwo 21 = .ok (.invokevirtual 149, 3) := dk_182 0 149 (dk_at dksX5_readTwo_0 21 rfl rfl)
theorem dX5_readTwo_24 : decode cX5_readTwo 24 = .ok (.ifCond .eq 30, 3) := dk_153 0 30 (dk_at dksX5_readTwo_1 0 rfl rfl)
theorem dX5_readTwo_27 : decode cX5_readTwo 27 = .ok (.iload_n 1, 1) := dk_27 (dk_at dksX5_readTwo_1 3 rfl rfl)
theorem dX5_readTwo_28 : decode cX5_readTwo 28 = .ok (.bipush 60, 2) := dk_16 60 (dk_at dksX5_readTwo_1 4 rfl rfl)
theorem dX5_readTwo_30 : decode cX5_readTwo 30 = .ok (.if_icmp .eq 24, 3) := dk_159 0 24 (dk_at dksX5_readTwo_1 6 rfl rfl)
theorem dX5_readTwo_33 : decode cX5_readTwo 33 = .ok (.iload_n 1, 1) := dk_27 (dk_at dksX5_readTwo_1 9 rfl rfl)
theorem dX5_readTwo_34 : decode cX5_readTwo 34 = .ok (.bipush 61, 2) := dk_16 61 (dk_at dksX5_readTwo_1 10 rfl rfl)
theorem dX5_readTwo_36 : decode cX5_readTwo 36 = .ok (.if_icmp .eq 18, 3) := dk_159 0 18 (dk_at dksX5_readTwo_1 12 rfl rfl)
theorem dX5_readTwo_39 : decode cX5_readTwo 39 = .ok (.iload_n 1, 1) := dk_27 (dk_at dksX5_readTwo_1 15 rfl rfl)
theorem dX5_readTwo_40 : decode cX5_readTwo 40 = .ok (.bipush 62, 2) := dk_16 62 (dk_at dksX5_readTwo_1 16 rfl rfl)
theorem dX5_readTwo_42 : decode cX5_readTwo 42 = .ok (.if_icmp .eq 12, 3) := dk_159 0 12 (dk_at dksX5_readTwo_1 18 rfl rfl)
theorem dX5_readTwo_45 : decode cX5_readTwo 45 = .ok (.aload_n 0, 1) := dk_42 (dk_at dksX5_readTwo_1 21 rfl rfl)
theorem dX5_readTwo_46 : decode cX5_readTwo 46 = .ok (.iconst 1, 1) := dk_4 (dk_at dksX5_readTwo_1 22 rfl rfl)
theorem dX5_readTwo_47 : decode cX5_readTwo 47 = .ok (.aload_n 0, 1) := dk_42 (dk_at dksX5_readTwo_1 23 rfl rfl)
theorem dX5_readTwo_48 : decode cX5_readTwo 48 = .ok (.getfield 132, 3) := dk_180 0 132 (dk_at dksX5_readTwo_2 0 rfl rfl)
theorem dX5_readTwo_51 : decode cX5_readTwo 51 = .ok (.invokevirtual 156, 3) := dk_182 0 156 (dk_at dksX5_readTwo_2 3 rfl rfl)
theorem dX5_readTwo_54 : decode cX5_readTwo 54 = .ok (.aload_n 0, 1) := dk_42 (dk_at dksX5_readTwo_2 6 rfl rfl)
theorem dX5_readTwo_55 : decode cX5_readTwo 55 = .ok (.invokevirtual 149, 3) := dk_182 0 149 (dk_at dksX5_readTwo_2 7 rfl rfl)
theorem dX5_readTwo_58 : decode cX5_readTwo 58 = .ok (.ifCond .eq 13, 3) := dk_153 0 13 (dk_at dksX5_readTwo_2 10 rfl rfl)
theorem dX5_readTwo_61 : decode cX5_readTwo 61 = .ok (.aload_n 0, 1) := dk_42 (dk_at dksX5_readTwo_2 13 rfl rfl)
theorem dX5_readTwo_62 : decode cX5_readTwo 62 = .ok (.dup, 1) := dk_89 (dk_at dksX5_readTwo_2 14 rfl rfl)
theorem dX5_readTwo_63 : decode cX5_readTwo 63 = .ok (.getfield 132, 3) := dk_180 0 132 (dk_at dksX5_readTwo_2 15 rfl rfl)
theorem dX5_readTwo_66 : decode cX5_readTwo 66 = .ok (.iconst 1, 1) := dk_4 (dk_at dksX5_readTwo_2 18 rfl rfl)
theorem dX5_readTwo_67 : decode cX5_readTwo 67 = .ok (.iadd, 1) := dk_96 (dk_at dksX5_readTwo_2 19 rfl rfl)
theorem dX5_readTwo_68 : decode cX5_readTwo 68 = .ok (.putfield 132, 3) := dk_181 0 132 (dk_at dksX5_readTwo_2 20 rfl rfl)
theorem dX5_readTwo_71 : decode cX5_readTwo 71 = .ok (.aload_n 0, 1) := dk_42 (dk_at dksX5_readTwo_2 23 rfl rfl)
theorem dX5_readTwo_72 : decode cX5_readTwo 72 = .ok (.invokevirtual 208, 3) := dk_182 0 208 (dk_at dksX5_readTwo_3 0 rfl rfl)
theorem dX5_readTwo_75 : decode cX5_readTwo 75 = .ok (.aload_n 0, 1) := dk_42 (dk_at dksX5_readTwo_3 3 rfl rfl)
theorem dX5_readTwo_76 : decode cX5_readTwo 76 = .ok (.iload_n 1, 1) := dk_27 (dk_at dksX5_readTwo_3 4 rfl rfl)
theorem dX5_readTwo_77 : decode cX5_readTwo 77 = .ok (.bipush 60, 2) := dk_16 60 (dk_at dksX5_readTwo_3 5 rfl rfl)
theorem dX5_readTwo_79 : decode cX5_readTwo 79 = .ok (.if_icmp .ne 8, 3) := dk_160 0 8 (dk_at dksX5_readTwo_3 7 rfl rfl)
theorem dX5_readTwo_82 : decode cX5_readTwo 82 = .ok (.bipush 6, 2) := dk_16 6 (dk_at dksX5_readTwo_3 10 rfl rfl)
theorem dX5_readTwo_84 : decode cX5_readTwo 84 = .ok (.goto 16, 3) := dk_167 0 16 (dk_at dksX5_readTwo_3 12 rfl rfl)
theorem dX5_readTwo_87 : decode cX5_readTwo 87 = .ok (.iload_n 1, 1) := dk_27 (dk_at dksX5_readTwo_3 15 rfl rfl)
theorem dX5_readTwo_88 : decode cX5_readTwo 88 = .ok (.bipush 61, 2) := dk_16 61 (dk_at dksX5_readTwo_3 16 rfl rfl)
theorem dX5_readTwo_90 : decode cX5_readTwo 90 = .ok (.if_icmp .ne 8, 3) := dk_160 0 8 (dk_at dksX5_readTwo_3 18 rfl rfl)
theorem dX5_readTwo_93 : decode cX5_readTwo 93 = .ok (.bipush 7, 2) := dk_16 7 (dk_at dksX5_readTwo_3 21 rfl rfl)
theorem dX5_readTwo_95 : decode cX5_readTwo 95 = .ok (.goto 5, 3) := dk_167 0 5 (dk_at dksX5_readTwo_4 0 rfl rfl)
theorem dX5_readTwo_98 : decode cX5_readTwo 98 = .ok (.bipush 8, 2) := dk_16 8 (dk_at dksX5_readTwo_4 3 rfl rfl)
theorem dX5_readTwo_100 : decode cX5_readTwo 100 = .ok (.iconst 0, 1) := dk_3 (dk_at dksX5_readTwo_4 5 rfl rfl)
theorem dX5_readTwo_101 : decode cX5_readTwo 101 = .ok (.invokevirtual 217, 3) := dk_182 0 217 (dk_at dksX5_readTwo_4 6 rfl rfl)
theorem dX5_readTwo_104 : decode cX5_readTwo 104 = .ok (.return_, 1) := dk_177 (dk_at dksX5_readTwo_4 9 rfl rfl)
abbrev cX5_goesOnWith : ByteArray := prog_17_method_49_code
def yX5_goesOnWith : MethodName := ⟨RX5, "goesOnWith", "()Z"⟩
def dkwX5_goesOnWith_4 : List UInt8 := [42, 182, 0, 163, 42, 89, 180, 0, 214, 4, 96, 181, 0, 214, 4, 172]
abbrev dktX5_goesOnWith_4 : List UInt8 := dkwX5_goesOnWith_4 ++ []
def dkwX5_goesOnWith_3 : List UInt8 := [180, 0, 32, 42, 180, 0, 214, 7, 79, 167, 0, 15, 42, 6, 182, 0, 222, 42, 7, 182, 0, 222, 3, 172]
abbrev dktX5_goesOnWith_3 : List UInt8 := dkwX5_goesOnWith_3 ++ dktX5_goesOnWith_4
def dkwX5_goesOnWith_2 : List UInt8 := [16, 114, 3, 3, 3, 3, 184, 0, 194, 160, 0, 26, 42, 6, 182, 0, 222, 42, 7, 182, 0, 222, 42]
abbrev dktX5_goesOnWith_2 : List UInt8 := dkwX5_goesOnWith_2 ++ dktX5_goesOnWith_3
def dkwX5_goesOnWith_1 : List UInt8 := [42, 6, 182, 0, 222, 42, 180, 0, 32, 42, 180, 0, 214, 6, 79, 167, 0, 56, 42, 182, 0, 160, 16, 111]
abbrev dktX5_goesOnWith_1 : List UInt8 := dkwX5_goesOnWith_1 ++ dktX5_goesOnWith_2
def dkwX5_goesOnWith_0 : List UInt8 := [42, 5, 182, 0, 222, 42, 182, 0, 160, 16, 97, 16, 110, 16, 100, 3, 3, 3, 184, 0, 194, 160, 0, 21]
abbrev dktX5_goesOnWith_0 : List UInt8 := dkwX5_goesOnWith_0 ++ dktX5_goesOnWith_1
theorem dksX5_goesOnWith_0 : cX5_goesOnWith.data.toList.drop 0 = dktX5_goesOnWith_0 := by decide +kernel
theorem dksX5_goesOnWith_1 : cX5_goesOnWith.data.toList.drop 24 = dktX5_goesOnWith_1 := dk_seg dksX5_goesOnWith_0 24 rfl rfl
theorem dksX5_goesOnWith_2 : cX5_goesOnWith.data.toList.drop 48 = dktX5_goesOnWith_2 := dk_seg dksX5_goesOnWith_1 24 rfl rfl
theorem dksX5_goesOnWith_3 : cX5_goesOnWith.data.toList.drop 71 = dktX5_goesOnWith_3 := dk_seg dksX5_goesOnWith_2 23 rfl rfl
theorem dksX5_goesOnWith_4 : cX5_goesOnWith.data.toList.drop 95 = dktX5_goesOnWith_4 := dk_seg dksX5_goesOnWith_3 24 rfl rfl
theorem dX5_goesOnWith_0 : decode cX5_goesOnWith 0 = .ok (.aload_n 0, 1) := dk_42 (dk_at dksX5_goesOnWith_0 0 rfl rfl)
theorem dX5_goesOnWith_1 : decode cX5_goesOnWith 1 = .ok (.iconst 2, 1) := dk_5 (dk_at dksX5_goesOnWith_0 1 rfl rfl)
theorem dX5_goesOnWith_2 : decode cX5_goesOnWith 2 = .ok (.invokevirtual 222, 3) := dk_182 0 222 (dk_at dksX5_goesOnWith_0 2 rfl rfl)
theorem dX5_goesOnWith_5 : decode cX5_goesOnWith 5 = .ok (.aload_n 0, 1) := dk_42 (dk_at dksX5_goesOnWith_0 5 rfl rfl)
theorem dX5_goesOnWith_6 : decode cX5_goesOnWith 6 = .ok (.invokevirtual 160, 3) := dk_182 0 160 (dk_at dksX5_goesOnWith_0 6 rfl rfl)
theorem dX5_goesOnWith_9 : decode cX5_goesOnWith 9 = .ok (.bipush 97, 2) := dk_16 97 (dk_at dksX5_goesOnWith_0 9 rfl rfl)
theorem dX5_goesOnWith_11 : decode cX5_goesOnWith 11 = .ok (.bipush 110, 2) := dk_16 110 (dk_at dksX5_goesOnWith_0 11 rfl rfl)
theorem dX5_goesOnWith_13 : decode cX5_goesOnWith 13 = .ok (.bipush 100, 2) := dk_16 100 (dk_at dksX5_goesOnWith_0 13 rfl rfl)
theorem dX5_goesOnWith_15 : decode cX5_goesOnWith 15 = .ok (.iconst 0, 1) := dk_3 (dk_at dksX5_goesOnWith_0 15 rfl rfl)
theorem dX5_goesOnWith_16 : decode cX5_goesOnWith 16 = .ok (.iconst 0, 1) := dk_3 (dk_at dksX5_goesOnWith_0 16 rfl rfl)
theorem dX5_goesOnWith_17 : decode cX5_goesOnWith 17 = .ok (.iconst 0, 1) := dk_3 (dk_at dksX5_goesOnWith_0 17 rfl rfl)
theorem dX5_goesOnWith_18 : decode cX5_goesOnWith 18 = .ok (.invokestatic 194, 3) := dk_184 0 194 (dk_at dksX5_goesOnWith_0 18 rfl rfl)
theorem dX5_goesOnWith_21 : decode cX5_goesOnWith 21 = .ok (.if_icmp .ne 21, 3) := dk_160 0 21 (dk_at dksX5_goesOnWith_0 21 rfl rfl)
theorem dX5_goesOnWith_24 : decode cX5_goesOnWith 24 = .ok (.aload_n 0, 1) := dk_42 (dk_at dksX5_goesOnWith_1 0 rfl rfl)
theorem dX5_goesOnWith_25 : decode cX5_goesOnWith 25 = .ok (.iconst 3, 1) := dk_6 (dk_at dksX5_goesOnWith_1 1 rfl rfl)
theorem dX5_goesOnWith_26 : decode cX5_goesOnWith 26 = .ok (.invokevirtual 222, 3) := dk_182 0 222 (dk_at dksX5_goesOnWith_1 2 rfl rfl)
theorem dX5_goesOnWith_29 : decode cX5_goesOnWith 29 = .ok (.aload_n 0, 1) := dk_42 (dk_at dksX5_goesOnWith_1 5 rfl rfl)
theorem dX5_goesOnWith_30 : decode cX5_goesOnWith 30 = .ok (.getfield 32, 3) := dk_180 0 32 (dk_at dksX5_goesOnWith_1 6 rfl rfl)
theorem dX5_goesOnWith_33 : decode cX5_goesOnWith 33 = .ok (.aload_n 0, 1) := dk_42 (dk_at dksX5_goesOnWith_1 9 rfl rfl)
theorem dX5_goesOnWith_34 : decode cX5_goesOnWith 34 = .ok (.getfield 214, 3) := dk_180 0 214 (dk_at dksX5_goesOnWith_1 10 rfl rfl)
theorem dX5_goesOnWith_37 : decode cX5_goesOnWith 37 = .ok (.iconst 3, 1) := dk_6 (dk_at dksX5_goesOnWith_1 13 rfl rfl)
theorem dX5_goesOnWith_38 : decode cX5_goesOnWith 38 = .ok (.iastore, 1) := dk_79 (dk_at dksX5_goesOnWith_1 14 rfl rfl)
theorem dX5_goesOnWith_39 : decode cX5_goesOnWith 39 = .ok (.goto 56, 3) := dk_167 0 56 (dk_at dksX5_goesOnWith_1 15 rfl rfl)
theorem dX5_goesOnWith_42 : decode cX5_goesOnWith 42 = .ok (.aload_n 0, 1) := dk_42 (dk_at dksX5_goesOnWith_1 18 rfl rfl)
theorem dX5_goesOnWith_43 : decode cX5_goesOnWith 43 = .ok (.invokevirtual 160, 3) := dk_182 0 160 (dk_at dksX5_goesOnWith_1 19 rfl rfl)
theorem dX5_goesOnWith_46 : decode cX5_goesOnWith 46 = .ok (.bipush 111, 2) := dk_16 111 (dk_at dksX5_goesOnWith_1 22 rfl rfl)
theorem dX5_goesOnWith_48 : decode cX5_goesOnWith 48 = .ok (.bipush 114, 2) := dk_16 114 (dk_at dksX5_goesOnWith_2 0 rfl rfl)
theorem dX5_goesOnWith_50 : decode cX5_goesOnWith 50 = .ok (.iconst 0, 1) := dk_3 (dk_at dksX5_goesOnWith_2 2 rfl rfl)
theorem dX5_goesOnWith_51 : decode cX5_goesOnWith 51 = .ok (.iconst 0, 1) := dk_3 (dk_at dksX5_goesOnWith_2 3 rfl rfl)
theorem dX5_goesOnWith_52 : decode cX5_goesOnWith 52 = .ok (.iconst 0, 1) := dk_3 (dk_at dksX5_goesOnWith_2 4 rfl rfl)
theorem dX5_goesOnWith_53 : decode cX5_goesOnWith 53 = .ok (.iconst 0, 1) := dk_3 (dk_at dksX5_goesOnWith_2 5 rfl rfl)
theorem dX5_goesOnWith_54 : decode cX5_goesOnWith 54 = .ok (.invokestatic 194, 3) := dk_184 0 194 (dk_at dksX5_goesOnWith_2 6 rfl rfl)
theorem dX5_goesOnWith_57 : decode cX5_goesOnWith 57 = .ok (.if_icmp .ne 26, 3) := dk_160 0 26 (dk_at dksX5_goesOnWith_2 9 rfl rfl)
theorem dX5_goesOnWith_60 : decode cX5_goesOnWith 60 = .ok (.aload_n 0, 1) := dk_42 (dk_at dksX5_goesOnWith_2 12 rfl rfl)
theorem dX5_goesOnWith_61 : decode cX5_goesOnWith 61 = .ok (.iconst 3, 1) := dk_6 (dk_at dksX5_goesOnWith_2 13 rfl rfl)
theorem dX5_goesOnWith_62 : decode cX5_goesOnWith 62 = .ok (.invokevirtual 222, 3) := dk_182 0 222 (dk_at dksX5_goesOnWith_2 14 rfl rfl)
theorem dX5_goesOnWith_65 : decode cX5_goesOnWith 65 = .ok (.aload_n 0, 1) := dk_42 (dk_at dksX5_goesOnWith_2 17 rfl rfl)
theorem dX5_goesOnWith_66 : decode cX5_goesOnWith 66 = .ok (.iconst 4, 1) := dk_7 (dk_at dksX5_goesOnWith_2 18 rfl rfl)
theorem dX5_goesOnWith_67 : decode cX5_goesOnWith 67 = .ok (.invokevirtual 222, 3) := dk_182 0 222 (dk_at dksX5_goesOnWith_2 19 rfl rfl)
theorem dX5_goesOnWith_70 : decode cX5_goesOnWith 70 = .ok (.aload_n 0, 1) := dk_42 (dk_at dksX5_goesOnWith_2 22 rfl rfl)
theorem dX5_goesOnWith_71 : decode cX5_goesOnWith 71 = .ok (.getfield 32, 3) := dk_180 0 32 (dk_at dksX5_goesOnWith_3 0 rfl rfl)
theorem dX5_goesOnWith_74 : decode cX5_goesOnWith 74 = .ok (.aload_n 0, 1) := dk_42 (dk_at dksX5_goesOnWith_3 3 rfl rfl)
theorem dX5_goesOnWith_75 : decode cX5_goesOnWith 75 = .ok (.getfield 214, 3) := dk_180 0 214 (dk_at dksX5_goesOnWith_3 4 rfl rfl)
theorem dX5_goesOnWith_78 : decode cX5_goesOnWith 78 = .ok (.iconst 4, 1) := dk_7 (dk_at dksX5_goesOnWith_3 7 rfl rfl)
theorem dX5_goesOnWith_79 : decode cX5_goesOnWith 79 = .ok (.iastore, 1) := dk_79 (dk_at dksX5_goesOnWith_3 8 rfl rfl)
theorem dX5_goesOnWith_80 : decode cX5_goesOnWith 80 = .ok (.goto 15, 3) := dk_167 0 15 (dk_at dksX5_goesOnWith_3 9 rfl rfl)
theorem dX5_goesOnWith_83 : decode cX5_goesOnWith 83 = .ok (.aload_n 0, 1) := dk_42 (dk_at dksX5_goesOnWith_3 12 rfl rfl)
theorem dX5_goesOnWith_84 : decode cX5_goesOnWith 84 = .ok (.iconst 3, 1) := dk_6 (dk_at dksX5_goesOnWith_3 13 rfl rfl)
theorem dX5_goesOnWith_85 : decode cX5_goesOnWith 85 = .ok (.invokevirtual 222, 3) := dk_182 0 222 (dk_at dksX5_goesOnWith_3 14 rfl rfl)
theorem dX5_goesOnWith_88 : decode cX5_goesOnWith 88 = .ok (.aload_n 0, 1) := dk_42 (dk_at dksX5_goesOnWith_3 17 rfl rfl)
theorem dX5_goesOnWith_89 : decode cX5_goesOnWith 89 = .ok (.iconst 4, 1) := dk_7 (dk_at dksX5_goesOnWith_3 18 rfl rfl)
theorem dX5_goesOnWith_90 : decode cX5_goesOnWith 90 = .ok (.invokevirtual 222, 3) := dk_182 0 222 (dk_at dksX5_goesOnWith_3 19 rfl rfl)
theorem dX5_goesOnWith_93 : decode cX5_goesOnWith 93 = .ok (.iconst 0, 1) := dk_3 (dk_at dksX5_goesOnWith_3 22 rfl rfl)
theorem dX5_goesOnWith_94 : decode cX5_goesOnWith 94 = .ok (.ireturn, 1) := dk_172 (dk_at dksX5_goesOnWith_3 23 rfl rfl)
theorem dX5_goesOnWith_95 : decode cX5_goesOnWith 95 = .ok (.aload_n 0, 1) := dk_42 (dk_at dksX5_goesOnWith_4 0 rfl rfl)
theorem dX5_goesOnWith_96 : decode cX5_goesOnWith 96 = .ok (.invokevirtual 163, 3) := dk_182 0 163 (dk_at dksX5_goesOnWith_4 1 rfl rfl)
theorem dX5_goesOnWith_99 : decode cX5_goesOnWith 99 = .ok (.aload_n 0, 1) := dk_42 (dk_at dksX5_goesOnWith_4 4 rfl rfl)
theorem dX5_goesOnWith_100 : decode cX5_goesOnWith 100 = .ok (.dup, 1) := dk_89 (dk_at dksX5_goesOnWith_4 5 rfl rfl)
theorem dX5_goesOnWith_101 : decode cX5_goesOnWith 101 = .ok (.getfield 214, 3) := dk_180 0 214 (dk_at dksX5_goesOnWith_4 6 rfl rfl)
theorem dX5_goesOnWith_104 : decode cX5_goesOnWith 104 = .ok (.iconst 1, 1) := dk_4 (dk_at dksX5_goesOnWith_4 9 rfl rfl)
theorem dX5_goesOnWith_105 : decode cX5_goesOnWith 105 = .ok (.iadd, 1) := dk_96 (dk_at dksX5_goesOnWith_4 10 rfl rfl)
theorem dX5_goesOnWith_106 : decode cX5_goesOnWith 106 = .ok (.putfield 214, 3) := dk_181 0 214 (dk_at dksX5_goesOnWith_4 11 rfl rfl)
theorem dX5_goesOnWith_109 : decode cX5_goesOnWith 109 = .ok (.iconst 1, 1) := dk_4 (dk_at dksX5_goesOnWith_4 14 rfl rfl)
theorem dX5_goesOnWith_110 : decode cX5_goesOnWith 110 = .ok (.ireturn, 1) := dk_172 (dk_at dksX5_goesOnWith_4 15 rfl rfl)
abbrev cX5_closes : ByteArray := prog_17_method_46_code
def yX5_closes : MethodName := ⟨RX5, "closes", "(I)V"⟩
def dkwX5_closes_3 : List UInt8 := [16, 11, 3, 182, 0, 217, 167, 255, 178, 177]
abbrev dktX5_closes_3 : List UInt8 := dkwX5_closes_3 ++ []
def dkwX5_closes_2 : List UInt8 := [181, 0, 166, 42, 27, 5, 160, 0, 8, 16, 9, 167, 0, 15, 27, 6, 160, 0, 8, 16, 10, 167, 0, 5]
abbrev dktX5_closes_2 : List UInt8 := dkwX5_closes_2 ++ dktX5_closes_3
def dkwX5_closes_1 : List UInt8 := [180, 0, 214, 4, 100, 181, 0, 214, 42, 89, 180, 0, 166, 27, 5, 160, 0, 7, 4, 167, 0, 4, 3, 100]
abbrev dktX5_closes_1 : List UInt8 := dkwX5_closes_1 ++ dktX5_closes_2
def dkwX5_closes_0 : List UInt8 := [42, 180, 0, 214, 158, 0, 77, 42, 180, 0, 32, 42, 180, 0, 214, 4, 100, 46, 27, 160, 0, 62, 42, 89]
abbrev dktX5_closes_0 : List UInt8 := dkwX5_closes_0 ++ dktX5_closes_1
theorem dksX5_closes_0 : cX5_closes.data.toList.drop 0 = dktX5_closes_0 := by decide +kernel
theorem dksX5_closes_1 : cX5_closes.data.toList.drop 24 = dktX5_closes_1 := dk_seg dksX5_closes_0 24 rfl rfl
theorem dksX5_closes_2 : cX5_closes.data.toList.drop 48 = dktX5_closes_2 := dk_seg dksX5_closes_1 24 rfl rfl
theorem dksX5_closes_3 : cX5_closes.data.toList.drop 72 = dktX5_closes_3 := dk_seg dksX5_closes_2 24 rfl rfl
theorem dX5_closes_0 : decode cX5_closes 0 = .ok (.aload_n 0, 1) := dk_42 (dk_at dksX5_closes_0 0 rfl rfl)
theorem dX5_closes_1 : decode cX5_closes 1 = .ok (.getfield 214, 3) := dk_180 0 214 (dk_at dksX5_closes_0 1 rfl rfl)
theorem dX5_closes_4 : decode cX5_closes 4 = .ok (.ifCond .le 77, 3) := dk_158 0 77 (dk_at dksX5_closes_0 4 rfl rfl)
theorem dX5_closes_7 : decode cX5_closes 7 = .ok (.aload_n 0, 1) := dk_42 (dk_at dksX5_closes_0 7 rfl rfl)
theorem dX5_closes_8 : decode cX5_closes 8 = .ok (.getfield 32, 3) := dk_180 0 32 (dk_at dksX5_closes_0 8 rfl rfl)
theorem dX5_closes_11 : decode cX5_closes 11 = .ok (.aload_n 0, 1) := dk_42 (dk_at dksX5_closes_0 11 rfl rfl)
theorem dX5_closes_12 : decode cX5_closes 12 = .ok (.getfield 214, 3) := dk_180 0 214 (dk_at dksX5_closes_0 12 rfl rfl)
theorem dX5_closes_15 : decode cX5_closes 15 = .ok (.iconst 1, 1) := dk_4 (dk_at dksX5_closes_0 15 rfl rfl)
theorem dX5_closes_16 : decode cX5_closes 16 = .ok (.isub, 1) := dk_100 (dk_at dksX5_closes_0 16 rfl rfl)
theorem dX5_closes_17 : decode cX5_closes 17 = .ok (.iaload, 1) := dk_46 (dk_at dksX5_closes_0 17 rfl rfl)
theorem dX5_closes_18 : decode cX5_closes 18 = .ok (.iload_n 1, 1) := dk_27 (dk_at dksX5_closes_0 18 rfl rfl)
theorem dX5_closes_19 : decode cX5_closes 19 = .ok (.if_icmp .ne 62, 3) := dk_160 0 62 (dk_at dksX5_closes_0 19 rfl rfl)
theorem dX5_closes_22 : decode cX5_closes 22 = .ok (.aload_n 0, 1) := dk_42 (dk_at dksX5_closes_0 22 rfl rfl)
theorem dX5_closes_23 : decode cX5_closes 23 = .ok (.dup, 1) := dk_89 (dk_at dksX5_closes_0 23 rfl rfl)
theorem dX5_closes_24 : decode cX5_closes 24 = .ok (.getfield 214, 3) := dk_180 0 214 (dk_at dksX5_closes_1 0 rfl rfl)
theorem dX5_closes_27 : decode cX5_closes 27 = .ok (.iconst 1, 1) := dk_4 (dk_at dksX5_closes_1 3 rfl rfl)
theorem dX5_closes_28 : decode cX5_closes 28 = .ok (.isub, 1) := dk_100 (dk_at dksX5_closes_1 4 rfl rfl)
theorem dX5_closes_29 : decode cX5_closes 29 = .ok (.putfield 214, 3) := dk_181 0 214 (dk_at dksX5_closes_1 5 rfl rfl)
theorem dX5_closes_32 : decode cX5_closes 32 = .ok (.aload_n 0, 1) := dk_42 (dk_at dksX5_closes_1 8 rfl rfl)
theorem dX5_closes_33 : decode cX5_closes 33 = .ok (.dup, 1) := dk_89 (dk_at dksX5_closes_1 9 rfl rfl)
theorem dX5_closes_34 : decode cX5_closes 34 = .ok (.getfield 166, 3) := dk_180 0 166 (dk_at dksX5_closes_1 10 rfl rfl)
theorem dX5_closes_37 : decode cX5_closes 37 = .ok (.iload_n 1, 1) := dk_27 (dk_at dksX5_closes_1 13 rfl rfl)
theorem dX5_closes_38 : decode cX5_closes 38 = .ok (.iconst 2, 1) := dk_5 (dk_at dksX5_closes_1 14 rfl rfl)
theorem dX5_closes_39 : decode cX5_closes 39 = .ok (.if_icmp .ne 7, 3) := dk_160 0 7 (dk_at dksX5_closes_1 15 rfl rfl)
theorem dX5_closes_42 : decode cX5_closes 42 = .ok (.iconst 1, 1) := dk_4 (dk_at dksX5_closes_1 18 rfl rfl)
theorem dX5_closes_43 : decode cX5_closes 43 = .ok (.goto 4, 3) := dk_167 0 4 (dk_at dksX5_closes_1 19 rfl rfl)
theorem dX5_closes_46 : decode cX5_closes 46 = .ok (.iconst 0, 1) := dk_3 (dk_at dksX5_closes_1 22 rfl rfl)
theorem dX5_closes_47 : decode cX5_closes 47 = .ok (.isub, 1) := dk_100 (dk_at dksX5_closes_1 23 rfl rfl)
theorem dX5_closes_48 : decode cX5_closes 48 = .ok (.putfield 166, 3) := dk_181 0 166 (dk_at dksX5_closes_2 0 rfl rfl)
theorem dX5_closes_51 : decode cX5_closes 51 = .ok (.aload_n 0, 1) := dk_42 (dk_at dksX5_closes_2 3 rfl rfl)
theorem dX5_closes_52 : decode cX5_closes 52 = .ok (.iload_n 1, 1) := dk_27 (dk_at dksX5_closes_2 4 rfl rfl)
theorem dX5_closes_53 : decode cX5_closes 53 = .ok (.iconst 2, 1) := dk_5 (dk_at dksX5_closes_2 5 rfl rfl)
theorem dX5_closes_54 : decode cX5_closes 54 = .ok (.if_icmp .ne 8, 3) := dk_160 0 8 (dk_at dksX5_closes_2 6 rfl rfl)
theorem dX5_closes_57 : decode cX5_closes 57 = .ok (.bipush 9, 2) := dk_16 9 (dk_at dksX5_closes_2 9 rfl rfl)
theorem dX5_closes_59 : decode cX5_closes 59 = .ok (.goto 15, 3) := dk_167 0 15 (dk_at dksX5_closes_2 11 rfl rfl)
theorem dX5_closes_62 : decode cX5_closes 62 = .ok (.iload_n 1, 1) := dk_27 (dk_at dksX5_closes_2 14 rfl rfl)
theorem dX5_closes_63 : decode cX5_closes 63 = .ok (.iconst 3, 1) := dk_6 (dk_at dksX5_closes_2 15 rfl rfl)
theorem dX5_closes_64 : decode cX5_closes 64 = .ok (.if_icmp .ne 8, 3) := dk_160 0 8 (dk_at dksX5_closes_2 16 rfl rfl)
theorem dX5_closes_67 : decode cX5_closes 67 = .ok (.bipush 10, 2) := dk_16 10 (dk_at dksX5_closes_2 19 rfl rfl)
theorem dX5_closes_69 : decode cX5_closes 69 = .ok (.goto 5, 3) := dk_167 0 5 (dk_at dksX5_closes_2 21 rfl rfl)
theorem dX5_closes_72 : decode cX5_closes 72 = .ok (.bipush 11, 2) := dk_16 11 (dk_at dksX5_closes_3 0 rfl rfl)
theorem dX5_closes_74 : decode cX5_closes 74 = .ok (.iconst 0, 1) := dk_3 (dk_at dksX5_closes_3 2 rfl rfl)
theorem dX5_closes_75 : decode cX5_closes 75 = .ok (.invokevirtual 217, 3) := dk_182 0 217 (dk_at dksX5_closes_3 3 rfl rfl)
theorem dX5_closes_78 : decode cX5_closes 78 = .ok (.goto (-78), 3) := dk_167 255 178 (dk_at dksX5_closes_3 6 rfl rfl)
theorem dX5_closes_81 : decode cX5_closes 81 = .ok (.return_, 1) := dk_177 (dk_at dksX5_closes_3 9 rfl rfl)
abbrev cX5_readStones : ByteArray := prog_17_method_39_code
def yX5_readStones : MethodName := ⟨RX5, "readStones", "(I)V"⟩
def dkwX5_readStones_13 : List UInt8 := [167, 0, 10, 42, 180, 0, 29, 21, 8, 46, 79, 132, 8, 1, 167, 255, 130, 177]
abbrev dktX5_readStones_13 : List UInt8 := dkwX5_readStones_13 ++ []
def dkwX5_readStones_12 : List UInt8 := [153, 0, 7, 4, 167, 0, 4, 3, 54, 9, 42, 180, 0, 29, 21, 8, 21, 9, 153, 0, 7, 29]
abbrev dktX5_readStones_12 : List UInt8 := dkwX5_readStones_12 ++ dktX5_readStones_13
def dkwX5_readStones_11 : List UInt8 := [21, 5, 167, 0, 5, 21, 7, 21, 5, 21, 7, 162, 0, 8, 21, 7, 167, 0, 5, 21, 5, 184, 0, 100]
abbrev dktX5_readStones_11 : List UInt8 := dkwX5_readStones_11 ++ dktX5_readStones_12
def dkwX5_readStones_10 : List UInt8 := [167, 0, 5, 21, 4, 184, 0, 100, 153, 0, 46, 21, 8, 16, 12, 108, 21, 5, 21, 7, 162, 0, 8]
abbrev dktX5_readStones_10 : List UInt8 := dkwX5_readStones_10 ++ dktX5_readStones_11
def dkwX5_readStones_9 : List UInt8 := [112, 21, 4, 21, 6, 162, 0, 8, 21, 4, 167, 0, 5, 21, 6, 21, 4, 21, 6, 162, 0, 8, 21, 6]
abbrev dktX5_readStones_9 : List UInt8 := dkwX5_readStones_9 ++ dktX5_readStones_10
def dkwX5_readStones_8 : List UInt8 := [54, 7, 3, 54, 8, 21, 8, 17, 0, 144, 162, 0, 124, 42, 182, 0, 149, 153, 0, 117, 21, 8, 16, 12]
abbrev dktX5_readStones_8 : List UInt8 := dkwX5_readStones_8 ++ dktX5_readStones_9
def dkwX5_readStones_7 : List UInt8 := [160, 0, 25, 42, 182, 0, 163, 42, 3, 16, 11, 182, 0, 202, 54, 6, 42, 3, 16, 11, 182, 0, 202]
abbrev dktX5_readStones_7 : List UInt8 := dkwX5_readStones_7 ++ dktX5_readStones_8
def dkwX5_readStones_6 : List UInt8 := [42, 182, 0, 149, 153, 0, 43, 42, 182, 0, 160, 16, 116, 16, 111, 3, 3, 3, 3, 184, 0, 194]
abbrev dktX5_readStones_6 : List UInt8 := dkwX5_readStones_6 ++ dktX5_readStones_7
def dkwX5_readStones_5 : List UInt8 := [16, 11, 182, 0, 202, 54, 4, 42, 3, 16, 11, 182, 0, 202, 54, 5, 21, 4, 54, 6, 21, 5, 54, 7]
abbrev dktX5_readStones_5 : List UInt8 := dkwX5_readStones_5 ++ dktX5_readStones_6
def dkwX5_readStones_4 : List UInt8 := [159, 0, 7, 4, 167, 0, 4, 3, 27, 16, 16, 160, 0, 7, 4, 167, 0, 4, 3, 182, 0, 198, 42, 3]
abbrev dktX5_readStones_4 : List UInt8 := dkwX5_readStones_4 ++ dktX5_readStones_5
def dkwX5_readStones_3 : List UInt8 := [16, 97, 16, 114, 16, 101, 3, 3, 184, 0, 194, 160, 0, 7, 3, 167, 0, 4, 2, 62, 42, 29, 2]
abbrev dktX5_readStones_3 : List UInt8 := dkwX5_readStones_3 ++ dktX5_readStones_4
def dkwX5_readStones_2 : List UInt8 := [28, 16, 115, 16, 105, 16, 103, 16, 110, 3, 3, 184, 0, 194, 160, 0, 7, 6, 167, 0, 25, 28, 16, 98]
abbrev dktX5_readStones_2 : List UInt8 := dkwX5_readStones_2 ++ dktX5_readStones_3
def dkwX5_readStones_1 : List UInt8 := [167, 0, 67, 28, 16, 115, 16, 110, 16, 111, 16, 119, 3, 3, 184, 0, 194, 160, 0, 7, 5, 167, 0, 46]
abbrev dktX5_readStones_1 : List UInt8 := dkwX5_readStones_1 ++ dktX5_readStones_2
def dkwX5_readStones_0 : List UInt8 := [42, 182, 0, 160, 61, 28, 16, 115, 16, 116, 16, 111, 16, 110, 16, 101, 3, 184, 0, 194, 160, 0, 7, 4]
abbrev dktX5_readStones_0 : List UInt8 := dkwX5_readStones_0 ++ dktX5_readStones_1
theorem dksX5_readStones_0 : cX5_readStones.data.toList.drop 0 = dktX5_readStones_0 := by decide +kernel
theorem dksX5_readStones_1 : cX5_readStones.data.toList.drop 24 = dktX5_readStones_1 := dk_seg dksX5_readStones_0 24 rfl rfl
theorem dksX5_readStones_2 : cX5_readStones.data.toList.drop 48 = dktX5_readStones_2 := dk_seg dksX5_readStones_1 24 rfl rfl
theorem dksX5_readStones_3 : cX5_readStones.data.toList.drop 72 = dktX5_readStones_3 := dk_seg dksX5_readStones_2 24 rfl rfl
theorem dksX5_readStones_4 : cX5_readStones.data.toList.drop 95 = dktX5_readStones_4 := dk_seg dksX5_readStones_3 23 rfl rfl
theorem dksX5_readStones_5 : cX5_readStones.data.toList.drop 119 = dktX5_readStones_5 := dk_seg dksX5_readStones_4 24 rfl rfl
theorem dksX5_readStones_6 : cX5_readStones.data.toList.drop 143 = dktX5_readStones_6 := dk_seg dksX5_readStones_5 24 rfl rfl
theorem dksX5_readStones_7 : cX5_readStones.data.toList.drop 165 = dktX5_readStones_7 := dk_seg dksX5_readStones_6 22 rfl rfl
theorem dksX5_readStones_8 : cX5_readStones.data.toList.drop 188 = dktX5_readStones_8 := dk_seg dksX5_readStones_7 23 rfl rfl
theorem dksX5_readStones_9 : cX5_readStones.data.toList.drop 212 = dktX5_readStones_9 := dk_seg dksX5_readStones_8 24 rfl rfl
theorem dksX5_readStones_10 : cX5_readStones.data.toList.drop 236 = dktX5_readStones_10 := dk_seg dksX5_readStones_9 24 rfl rfl
theorem dksX5_readStones_11 : cX5_readStones.data.toList.drop 259 = dktX5_readStones_11 := dk_seg dksX5_readStones_10 23 rfl rfl
theorem dksX5_readStones_12 : cX5_readStones.data.toList.drop 283 = dktX5_readStones_12 := dk_seg dksX5_readStones_11 24 rfl rfl
theorem dksX5_readStones_13 : cX5_readStones.data.toList.drop 305 = dktX5_readStones_13 := dk_seg dksX5_readStones_12 22 rfl rfl
theorem dX5_readStones_0 : decode cX5_readStones 0 = .ok (.aload_n 0, 1) := dk_42 (dk_at dksX5_readStones_0 0 rfl rfl)
theorem dX5_readStones_1 : decode cX5_readStones 1 = .ok (.invokevirtual 160, 3) := dk_182 0 160 (dk_at dksX5_readStones_0 1 rfl rfl)
theorem dX5_readStones_4 : decode cX5_readStones 4 = .ok (.istore_n 2, 1) := dk_61 (dk_at dksX5_readStones_0 4 rfl rfl)
theorem dX5_readStones_5 : decode cX5_readStones 5 = .ok (.iload_n 2, 1) := dk_28 (dk_at dksX5_readStones_0 5 rfl rfl)
theorem dX5_readStones_6 : decode cX5_readStones 6 = .ok (.bipush 115, 2) := dk_16 115 (dk_at dksX5_readStones_0 6 rfl rfl)
theorem dX5_readStones_8 : decode cX5_readStones 8 = .ok (.bipush 116, 2) := dk_16 116 (dk_at dksX5_readStones_0 8 rfl rfl)
theorem dX5_readStones_10 : decode cX5_readStones 10 = .ok (.bipush 111, 2) := dk_16 111 (dk_at dksX5_readStones_0 10 rfl rfl)
theorem dX5_readStones_12 : decode cX5_readStones 12 = .ok (.bipush 110, 2) := dk_16 110 (dk_at dksX5_readStones_0 12 rfl rfl)
theorem dX5_readStones_14 : decode cX5_readStones 14 = .ok (.bipush 101, 2) := dk_16 101 (dk_at dksX5_readStones_0 14 rfl rfl)
theorem dX5_readStones_16 : decode cX5_readStones 16 = .ok (.iconst 0, 1) := dk_3 (dk_at dksX5_readStones_0 16 rfl rfl)
theorem dX5_readStones_17 : decode cX5_readStones 17 = .ok (.invokestatic 194, 3) := dk_184 0 194 (dk_at dksX5_readStones_0 17 rfl rfl)
theorem dX5_readStones_20 : decode cX5_readStones 20 = .ok (.if_icmp .ne 7, 3) := dk_160 0 7 (dk_at dksX5_readStones_0 20 rfl rfl)
theorem dX5_readStones_23 : decode cX5_readStones 23 = .ok (.iconst 1, 1) := dk_4 (dk_at dksX5_readStones_0 23 rfl rfl)
theorem dX5_readStones_24 : decode cX5_readStones 24 = .ok (.goto 67, 3) := dk_167 0 67 (dk_at dksX5_readStones_1 0 rfl rfl)
theorem dX5_readStones_27 : decode cX5_readStones 27 = .ok (.iload_n 2, 1) := dk_28 (dk_at dksX5_readStones_1 3 rfl rfl)
theorem dX5_readStones_28 : decode cX5_readStones 28 = .ok (.bipush 115, 2) := dk_16 115 (dk_at dksX5_readStones_1 4 rfl rfl)
theorem dX5_readStones_30 : decode cX5_readStones 30 = .ok (.bipush 110, 2) := dk_16 110 (dk_at dksX5_readStones_1 6 rfl rfl)
theorem dX5_readStones_32 : decode cX5_readStones 32 = .ok (.bipush 111, 2) := dk_16 111 (dk_at dksX5_readStones_1 8 rfl rfl)
theorem dX5_readStones_34 : decode cX5_readStones 34 = .ok (.bipush 119, 2) := dk_16 119 (dk_at dksX5_readStones_1 10 rfl rfl)
theorem dX5_readStones_36 : decode cX5_readStones 36 = .ok (.iconst 0, 1) := dk_3 (dk_at dksX5_readStones_1 12 rfl rfl)
theorem dX5_readStones_37 : decode cX5_readStones 37 = .ok (.iconst 0, 1) := dk_3 (dk_at dksX5_readStones_1 13 rfl rfl)
theorem dX5_readStones_38 : decode cX5_readStones 38 = .ok (.invokestatic 194, 3) := dk_184 0 194 (dk_at dksX5_readStones_1 14 rfl rfl)
theorem dX5_readStones_41 : decode cX5_readStones 41 = .ok (.if_icmp .ne 7, 3) := dk_160 0 7 (dk_at dksX5_readStones_1 17 rfl rfl)
theorem dX5_readStones_44 : decode cX5_readStones 44 = .ok (.iconst 2, 1) := dk_5 (dk_at dksX5_readStones_1 20 rfl rfl)
theorem dX5_readStones_45 : decode cX5_readStones 45 = .ok (.goto 46, 3) := dk_167 0 46 (dk_at dksX5_readStones_1 21 rfl rfl)
theorem dX5_readStones_48 : decode cX5_readStones 48 = .ok (.iload_n 2, 1) := dk_28 (dk_at dksX5_readStones_2 0 rfl rfl)
theorem dX5_readStones_49 : decode cX5_readStones 49 = .ok (.bipush 115, 2) := dk_16 115 (dk_at dksX5_readStones_2 1 rfl rfl)
theorem dX5_readStones_51 : decode cX5_readStones 51 = .ok (.bipush 105, 2) := dk_16 105 (dk_at dksX5_readStones_2 3 rfl rfl)
theorem dX5_readStones_53 : decode cX5_readStones 53 = .ok (.bipush 103, 2) := dk_16 103 (dk_at dksX5_readStones_2 5 rfl rfl)
theorem dX5_readStones_55 : decode cX5_readStones 55 = .ok (.bipush 110, 2) := dk_16 110 (dk_at dksX5_readStones_2 7 rfl rfl)
theorem dX5_readStones_57 : decode cX5_readStones 57 = .ok (.iconst 0, 1) := dk_3 (dk_at dksX5_readStones_2 9 rfl rfl)
theorem dX5_readStones_58 : decode cX5_readStones 58 = .ok (.iconst 0, 1) := dk_3 (dk_at dksX5_readStones_2 10 rfl rfl)
theorem dX5_readStones_59 : decode cX5_readStones 59 = .ok (.invokestatic 194, 3) := dk_184 0 194 (dk_at dksX5_readStones_2 11 rfl rfl)
theorem dX5_readStones_62 : decode cX5_readStones 62 = .ok (.if_icmp .ne 7, 3) := dk_160 0 7 (dk_at dksX5_readStones_2 14 rfl rfl)
theorem dX5_readStones_65 : decode cX5_readStones 65 = .ok (.iconst 3, 1) := dk_6 (dk_at dksX5_readStones_2 17 rfl rfl)
theorem dX5_readStones_66 : decode cX5_readStones 66 = .ok (.goto 25, 3) := dk_167 0 25 (dk_at dksX5_readStones_2 18 rfl rfl)
theorem dX5_readStones_69 : decode cX5_readStones 69 = .ok (.iload_n 2, 1) := dk_28 (dk_at dksX5_readStones_2 21 rfl rfl)
theorem dX5_readStones_70 : decode cX5_readStones 70 = .ok (.bipush 98, 2) := dk_16 98 (dk_at dksX5_readStones_2 22 rfl rfl)
theorem dX5_readStones_72 : decode cX5_readStones 72 = .ok (.bipush 97, 2) := dk_16 97 (dk_at dksX5_readStones_3 0 rfl rfl)
theorem dX5_readStones_74 : decode cX5_readStones 74 = .ok (.bipush 114, 2) := dk_16 114 (dk_at dksX5_readStones_3 2 rfl rfl)
theorem dX5_readStones_76 : decode cX5_readStones 76 = .ok (.bipush 101, 2) := dk_16 101 (dk_at dksX5_readStones_3 4 rfl rfl)
theorem dX5_readStones_78 : decode cX5_readStones 78 = .ok (.iconst 0, 1) := dk_3 (dk_at dksX5_readStones_3 6 rfl rfl)
theorem dX5_readStones_79 : decode cX5_readStones 79 = .ok (.iconst 0, 1) := dk_3 (dk_at dksX5_readStones_3 7 rfl rfl)
theorem dX5_readStones_80 : decode cX5_readStones 80 = .ok (.invokestatic 194, 3) := dk_184 0 194 (dk_at dksX5_readStones_3 8 rfl rfl)
theorem dX5_readStones_83 : decode cX5_readStones 83 = .ok (.if_icmp .ne 7, 3) := dk_160 0 7 (dk_at dksX5_readStones_3 11 rfl rfl)
theorem dX5_readStones_86 : decode cX5_readStones 86 = .ok (.iconst 0, 1) := dk_3 (dk_at dksX5_readStones_3 14 rfl rfl)
theorem dX5_readStones_87 : decode cX5_readStones 87 = .ok (.goto 4, 3) := dk_167 0 4 (dk_at dksX5_readStones_3 15 rfl rfl)
theorem dX5_readStones_90 : decode cX5_readStones 90 = .ok (.iconst (-1), 1) := dk_2 (dk_at dksX5_readStones_3 18 rfl rfl)
theorem dX5_readStones_91 : decode cX5_readStones 91 = .ok (.istore_n 3, 1) := dk_62 (dk_at dksX5_readStones_3 19 rfl rfl)
theorem dX5_readStones_92 : decode cX5_readStones 92 = .ok (.aload_n 0, 1) := dk_42 (dk_at dksX5_readStones_3 20 rfl rfl)
theorem dX5_readStones_93 : decode cX5_readStones 93 = .ok (.iload_n 3, 1) := dk_29 (dk_at dksX5_readStones_3 21 rfl rfl)
theorem dX5_readStones_94 : decode cX5_readStones 94 = .ok (.iconst (-1), 1) := dk_2 (dk_at dksX5_readStones_3 22 rfl rfl)
theorem dX5_readStones_95 : decode cX5_readStones 95 = .ok (.if_icmp .eq 7, 3) := dk_159 0 7 (dk_at dksX5_readStones_4 0 rfl rfl)
theorem dX5_readStones_98 : decode cX5_readStones 98 = .ok (.iconst 1, 1) := dk_4 (dk_at dksX5_readStones_4 3 rfl rfl)
theorem dX5_readStones_99 : decode cX5_readStones 99 = .ok (.goto 4, 3) := dk_167 0 4 (dk_at dksX5_readStones_4 4 rfl rfl)
theorem dX5_readStones_102 : decode cX5_readStones 102 = .ok (.iconst 0, 1) := dk_3 (dk_at dksX5_readStones_4 7 rfl rfl)
theorem dX5_readStones_103 : decode cX5_readStones 103 = .ok (.iload_n 1, 1) := dk_27 (dk_at dksX5_readStones_4 8 rfl rfl)
theorem dX5_readStones_104 : decode cX5_readStones 104 = .ok (.bipush 16, 2) := dk_16 16 (dk_at dksX5_readStones_4 9 rfl rfl)
theorem dX5_readStones_106 : decode cX5_readStones 106 = .ok (.if_icmp .ne 7, 3) := dk_160 0 7 (dk_at dksX5_readStones_4 11 rfl rfl)
theorem dX5_readStones_109 : decode cX5_readStones 109 = .ok (.iconst 1, 1) := dk_4 (dk_at dksX5_readStones_4 14 rfl rfl)
theorem dX5_readStones_110 : decode cX5_readStones 110 = .ok (.goto 4, 3) := dk_167 0 4 (dk_at dksX5_readStones_4 15 rfl rfl)
theorem dX5_readStones_113 : decode cX5_readStones 113 = .ok (.iconst 0, 1) := dk_3 (dk_at dksX5_readStones_4 18 rfl rfl)
theorem dX5_readStones_114 : decode cX5_readStones 114 = .ok (.invokevirtual 198, 3) := dk_182 0 198 (dk_at dksX5_readStones_4 19 rfl rfl)
theorem dX5_readStones_117 : decode cX5_readStones 117 = .ok (.aload_n 0, 1) := dk_42 (dk_at dksX5_readStones_4 22 rfl rfl)
theorem dX5_readStones_118 : decode cX5_readStones 118 = .ok (.iconst 0, 1) := dk_3 (dk_at dksX5_readStones_4 23 rfl rfl)
theorem dX5_readStones_119 : decode cX5_readStones 119 = .ok (.bipush 11, 2) := dk_16 11 (dk_at dksX5_readStones_5 0 rfl rfl)
theorem dX5_readStones_121 : decode cX5_readStones 121 = .ok (.invokevirtual 202, 3) := dk_182 0 202 (dk_at dksX5_readStones_5 2 rfl rfl)
theorem dX5_readStones_124 : decode cX5_readStones 124 = .ok (.istore 4, 2) := dk_54 4 (dk_at dksX5_readStones_5 5 rfl rfl)
theorem dX5_readStones_126 : decode cX5_readStones 126 = .ok (.aload_n 0, 1) := dk_42 (dk_at dksX5_readStones_5 7 rfl rfl)
theorem dX5_readStones_127 : decode cX5_readStones 127 = .ok (.iconst 0, 1) := dk_3 (dk_at dksX5_readStones_5 8 rfl rfl)
theorem dX5_readStones_128 : decode cX5_readStones 128 = .ok (.bipush 11, 2) := dk_16 11 (dk_at dksX5_readStones_5 9 rfl rfl)
theorem dX5_readStones_130 : decode cX5_readStones 130 = .ok (.invokevirtual 202, 3) := dk_182 0 202 (dk_at dksX5_readStones_5 11 rfl rfl)
theorem dX5_readStones_133 : decode cX5_readStones 133 = .ok (.istore 5, 2) := dk_54 5 (dk_at dksX5_readStones_5 14 rfl rfl)
theorem dX5_readStones_135 : decode cX5_readStones 135 = .ok (.iload 4, 2) := dk_21 4 (dk_at dksX5_readStones_5 16 rfl rfl)
theorem dX5_readStones_137 : decode cX5_readStones 137 = .ok (.istore 6, 2) := dk_54 6 (dk_at dksX5_readStones_5 18 rfl rfl)
theorem dX5_readStones_139 : decode cX5_readStones 139 = .ok (.iload 5, 2) := dk_21 5 (dk_at dksX5_readStones_5 20 rfl rfl)
theorem dX5_readStones_141 : decode cX5_readStones 141 = .ok (.istore 7, 2) := dk_54 7 (dk_at dksX5_readStones_5 22 rfl rfl)
theorem dX5_readStones_143 : decode cX5_readStones 143 = .ok (.aload_n 0, 1) := dk_42 (dk_at dksX5_readStones_6 0 rfl rfl)
theorem dX5_readStones_144 : decode cX5_readStones 144 = .ok (.invokevirtual 149, 3) := dk_182 0 149 (dk_at dksX5_readStones_6 1 rfl rfl)
theorem dX5_readStones_147 : decode cX5_readStones 147 = .ok (.ifCond .eq 43, 3) := dk_153 0 43 (dk_at dksX5_readStones_6 4 rfl rfl)
theorem dX5_readStones_150 : decode cX5_readStones 150 = .ok (.aload_n 0, 1) := dk_42 (dk_at dksX5_readStones_6 7 rfl rfl)
theorem dX5_readStones_151 : decode cX5_readStones 151 = .ok (.invokevirtual 160, 3) := dk_182 0 160 (dk_at dksX5_readStones_6 8 rfl rfl)
theorem dX5_readStones_154 : decode cX5_readStones 154 = .ok (.bipush 116, 2) := dk_16 116 (dk_at dksX5_readStones_6 11 rfl rfl)
theorem dX5_readStones_156 : decode cX5_readStones 156 = .ok (.bipush 111, 2) := dk_16 111 (dk_at dksX5_readStones_6 13 rfl rfl)
theorem dX5_readStones_158 : decode cX5_readStones 158 = .ok (.iconst 0, 1) := dk_3 (dk_at dksX5_readStones_6 15 rfl rfl)
theorem dX5_readStones_159 : decode cX5_readStones 159 = .ok (.iconst 0, 1) := dk_3 (dk_at dksX5_readStones_6 16 rfl rfl)
theorem dX5_readStones_160 : decode cX5_readStones 160 = .ok (.iconst 0, 1) := dk_3 (dk_at dksX5_readStones_6 17 rfl rfl)
theorem dX5_readStones_161 : decode cX5_readStones 161 = .ok (.iconst 0, 1) := dk_3 (dk_at dksX5_readStones_6 18 rfl rfl)
theorem dX5_readStones_162 : decode cX5_readStones 162 = .ok (.invokestatic 194, 3) := dk_184 0 194 (dk_at dksX5_readStones_6 19 rfl rfl)
theorem dX5_readStones_165 : decode cX5_readStones 165 = .ok (.if_icmp .ne 25, 3) := dk_160 0 25 (dk_at dksX5_readStones_7 0 rfl rfl)
theorem dX5_readStones_168 : decode cX5_readStones 168 = .ok (.aload_n 0, 1) := dk_42 (dk_at dksX5_readStones_7 3 rfl rfl)
theorem dX5_readStones_169 : decode cX5_readStones 169 = .ok (.invokevirtual 163, 3) := dk_182 0 163 (dk_at dksX5_readStones_7 4 rfl rfl)
theorem dX5_readStones_172 : decode cX5_readStones 172 = .ok (.aload_n 0, 1) := dk_42 (dk_at dksX5_readStones_7 7 rfl rfl)
theorem dX5_readStones_173 : decode cX5_readStones 173 = .ok (.iconst 0, 1) := dk_3 (dk_at dksX5_readStones_7 8 rfl rfl)
theorem dX5_readStones_174 : decode cX5_readStones 174 = .ok (.bipush 11, 2) := dk_16 11 (dk_at dksX5_readStones_7 9 rfl rfl)
theorem dX5_readStones_176 : decode cX5_readStones 176 = .ok (.invokevirtual 202, 3) := dk_182 0 202 (dk_at dksX5_readStones_7 11 rfl rfl)
theorem dX5_readStones_179 : decode cX5_readStones 179 = .ok (.istore 6, 2) := dk_54 6 (dk_at dksX5_readStones_7 14 rfl rfl)
theorem dX5_readStones_181 : decode cX5_readStones 181 = .ok (.aload_n 0, 1) := dk_42 (dk_at dksX5_readStones_7 16 rfl rfl)
theorem dX5_readStones_182 : decode cX5_readStones 182 = .ok (.iconst 0, 1) := dk_3 (dk_at dksX5_readStones_7 17 rfl rfl)
theorem dX5_readStones_183 : decode cX5_readStones 183 = .ok (.bipush 11, 2) := dk_16 11 (dk_at dksX5_readStones_7 18 rfl rfl)
theorem dX5_readStones_185 : decode cX5_readStones 185 = .ok (.invokevirtual 202, 3) := dk_182 0 202 (dk_at dksX5_readStones_7 20 rfl rfl)
theorem dX5_readStones_188 : decode cX5_readStones 188 = .ok (.istore 7, 2) := dk_54 7 (dk_at dksX5_readStones_8 0 rfl rfl)
theorem dX5_readStones_190 : decode cX5_readStones 190 = .ok (.iconst 0, 1) := dk_3 (dk_at dksX5_readStones_8 2 rfl rfl)
theorem dX5_readStones_191 : decode cX5_readStones 191 = .ok (.istore 8, 2) := dk_54 8 (dk_at dksX5_readStones_8 3 rfl rfl)
theorem dX5_readStones_193 : decode cX5_readStones 193 = .ok (.iload 8, 2) := dk_21 8 (dk_at dksX5_readStones_8 5 rfl rfl)
theorem dX5_readStones_195 : decode cX5_readStones 195 = .ok (.sipush 144, 3) := dk_17 0 144 (dk_at dksX5_readStones_8 7 rfl rfl)
theorem dX5_readStones_198 : decode cX5_readStones 198 = .ok (.if_icmp .ge 124, 3) := dk_162 0 124 (dk_at dksX5_readStones_8 10 rfl rfl)
theorem dX5_readStones_201 : decode cX5_readStones 201 = .ok (.aload_n 0, 1) := dk_42 (dk_at dksX5_readStones_8 13 rfl rfl)
theorem dX5_readStones_202 : decode cX5_readStones 202 = .ok (.invokevirtual 149, 3) := dk_182 0 149 (dk_at dksX5_readStones_8 14 rfl rfl)
theorem dX5_readStones_205 : decode cX5_readStones 205 = .ok (.ifCond .eq 117, 3) := dk_153 0 117 (dk_at dksX5_readStones_8 17 rfl rfl)
theorem dX5_readStones_208 : decode cX5_readStones 208 = .ok (.iload 8, 2) := dk_21 8 (dk_at dksX5_readStones_8 20 rfl rfl)
theorem dX5_readStones_210 : decode cX5_readStones 210 = .ok (.bipush 12, 2) := dk_16 12 (dk_at dksX5_readStones_8 22 rfl rfl)
theorem dX5_readStones_212 : decode cX5_readStones 212 = .ok (.irem, 1) := dk_112 (dk_at dksX5_readStones_9 0 rfl rfl)
theorem dX5_readStones_213 : decode cX5_readStones 213 = .ok (.iload 4, 2) := dk_21 4 (dk_at dksX5_readStones_9 1 rfl rfl)
theorem dX5_readStones_215 : decode cX5_readStones 215 = .ok (.iload 6, 2) := dk_21 6 (dk_at dksX5_readStones_9 3 rfl rfl)
theorem dX5_readStones_217 : decode cX5_readStones 217 = .ok (.if_icmp .ge 8, 3) := dk_162 0 8 (dk_at dksX5_readStones_9 5 rfl rfl)
theorem dX5_readStones_220 : decode cX5_readStones 220 = .ok (.iload 4, 2) := dk_21 4 (dk_at dksX5_readStones_9 8 rfl rfl)
theorem dX5_readStones_222 : decode cX5_readStones 222 = .ok (.goto 5, 3) := dk_167 0 5 (dk_at dksX5_readStones_9 10 rfl rfl)
theorem dX5_readStones_225 : decode cX5_readStones 225 = .ok (.iload 6, 2) := dk_21 6 (dk_at dksX5_readStones_9 13 rfl rfl)
theorem dX5_readStones_227 : decode cX5_readStones 227 = .ok (.iload 4, 2) := dk_21 4 (dk_at dksX5_readStones_9 15 rfl rfl)
theorem dX5_readStones_229 : decode cX5_readStones 229 = .ok (.iload 6, 2) := dk_21 6 (dk_at dksX5_readStones_9 17 rfl rfl)
theorem dX5_readStones_231 : decode cX5_readStones 231 = .ok (.if_icmp .ge 8, 3) := dk_162 0 8 (dk_at dksX5_readStones_9 19 rfl rfl)
theorem dX5_readStones_234 : decode cX5_readStones 234 = .ok (.iload 6, 2) := dk_21 6 (dk_at dksX5_readStones_9 22 rfl rfl)
theorem dX5_readStones_236 : decode cX5_readStones 236 = .ok (.goto 5, 3) := dk_167 0 5 (dk_at dksX5_readStones_10 0 rfl rfl)
theorem dX5_readStones_239 : decode cX5_readStones 239 = .ok (.iload 4, 2) := dk_21 4 (dk_at dksX5_readStones_10 3 rfl rfl)
theorem dX5_readStones_241 : decode cX5_readStones 241 = .ok (.invokestatic 100, 3) := dk_184 0 100 (dk_at dksX5_readStones_10 5 rfl rfl)
theorem dX5_readStones_244 : decode cX5_readStones 244 = .ok (.ifCond .eq 46, 3) := dk_153 0 46 (dk_at dksX5_readStones_10 8 rfl rfl)
theorem dX5_readStones_247 : decode cX5_readStones 247 = .ok (.iload 8, 2) := dk_21 8 (dk_at dksX5_readStones_10 11 rfl rfl)
theorem dX5_readStones_249 : decode cX5_readStones 249 = .ok (.bipush 12, 2) := dk_16 12 (dk_at dksX5_readStones_10 13 rfl rfl)
theorem dX5_readStones_251 : decode cX5_readStones 251 = .ok (.idiv, 1) := dk_108 (dk_at dksX5_readStones_10 15 rfl rfl)
theorem dX5_readStones_252 : decode cX5_readStones 252 = .ok (.iload 5, 2) := dk_21 5 (dk_at dksX5_readStones_10 16 rfl rfl)
theorem dX5_readStones_254 : decode cX5_readStones 254 = .ok (.iload 7, 2) := dk_21 7 (dk_at dksX5_readStones_10 18 rfl rfl)
theorem dX5_readStones_256 : decode cX5_readStones 256 = .ok (.if_icmp .ge 8, 3) := dk_162 0 8 (dk_at dksX5_readStones_10 20 rfl rfl)
theorem dX5_readStones_259 : decode cX5_readStones 259 = .ok (.iload 5, 2) := dk_21 5 (dk_at dksX5_readStones_11 0 rfl rfl)
theorem dX5_readStones_261 : decode cX5_readStones 261 = .ok (.goto 5, 3) := dk_167 0 5 (dk_at dksX5_readStones_11 2 rfl rfl)
theorem dX5_readStones_264 : decode cX5_readStones 264 = .ok (.iload 7, 2) := dk_21 7 (dk_at dksX5_readStones_11 5 rfl rfl)
theorem dX5_readStones_266 : decode cX5_readStones 266 = .ok (.iload 5, 2) := dk_21 5 (dk_at dksX5_readStones_11 7 rfl rfl)
theorem dX5_readStones_268 : decode cX5_readStones 268 = .ok (.iload 7, 2) := dk_21 7 (dk_at dksX5_readStones_11 9 rfl rfl)
theorem dX5_readStones_270 : decode cX5_readStones 270 = .ok (.if_icmp .ge 8, 3) := dk_162 0 8 (dk_at dksX5_readStones_11 11 rfl rfl)
theorem dX5_readStones_273 : decode cX5_readStones 273 = .ok (.iload 7, 2) := dk_21 7 (dk_at dksX5_readStones_11 14 rfl rfl)
theorem dX5_readStones_275 : decode cX5_readStones 275 = .ok (.goto 5, 3) := dk_167 0 5 (dk_at dksX5_readStones_11 16 rfl rfl)
theorem dX5_readStones_278 : decode cX5_readStones 278 = .ok (.iload 5, 2) := dk_21 5 (dk_at dksX5_readStones_11 19 rfl rfl)
theorem dX5_readStones_280 : decode cX5_readStones 280 = .ok (.invokestatic 100, 3) := dk_184 0 100 (dk_at dksX5_readStones_11 21 rfl rfl)
theorem dX5_readStones_283 : decode cX5_readStones 283 = .ok (.ifCond .eq 7, 3) := dk_153 0 7 (dk_at dksX5_readStones_12 0 rfl rfl)
theorem dX5_readStones_286 : decode cX5_readStones 286 = .ok (.iconst 1, 1) := dk_4 (dk_at dksX5_readStones_12 3 rfl rfl)
theorem dX5_readStones_287 : decode cX5_readStones 287 = .ok (.goto 4, 3) := dk_167 0 4 (dk_at dksX5_readStones_12 4 rfl rfl)
theorem dX5_readStones_290 : decode cX5_readStones 290 = .ok (.iconst 0, 1) := dk_3 (dk_at dksX5_readStones_12 7 rfl rfl)
theorem dX5_readStones_291 : decode cX5_readStones 291 = .ok (.istore 9, 2) := dk_54 9 (dk_at dksX5_readStones_12 8 rfl rfl)
theorem dX5_readStones_293 : decode cX5_readStones 293 = .ok (.aload_n 0, 1) := dk_42 (dk_at dksX5_readStones_12 10 rfl rfl)
theorem dX5_readStones_294 : decode cX5_readStones 294 = .ok (.getfield 29, 3) := dk_180 0 29 (dk_at dksX5_readStones_12 11 rfl rfl)
theorem dX5_readStones_297 : decode cX5_readStones 297 = .ok (.iload 8, 2) := dk_21 8 (dk_at dksX5_readStones_12 14 rfl rfl)
theorem dX5_readStones_299 : decode cX5_readStones 299 = .ok (.iload 9, 2) := dk_21 9 (dk_at dksX5_readStones_12 16 rfl rfl)
theorem dX5_readStones_301 : decode cX5_readStones 301 = .ok (.ifCond .eq 7, 3) := dk_153 0 7 (dk_at dksX5_readStones_12 18 rfl rfl)
theorem dX5_readStones_304 : decode cX5_readStones 304 = .ok (.iload_n 3, 1) := dk_29 (dk_at dksX5_readStones_12 21 rfl rfl)
theorem dX5_readStones_305 : decode cX5_readStones 305 = .ok (.goto 10, 3) := dk_167 0 10 (dk_at dksX5_readStones_13 0 rfl rfl)
theorem dX5_readStones_308 : decode cX5_readStones 308 = .ok (.aload_n 0, 1) := dk_42 (dk_at dksX5_readStones_13 3 rfl rfl)
theorem dX5_readStones_309 : decode cX5_readStones 309 = .ok (.getfield 29, 3) := dk_180 0 29 (dk_at dksX5_readStones_13 4 rfl rfl)
theorem dX5_readStones_312 : decode cX5_readStones 312 = .ok (.iload 8, 2) := dk_21 8 (dk_at dksX5_readStones_13 7 rfl rfl)
theorem dX5_readStones_314 : decode cX5_readStones 314 = .ok (.iaload, 1) := dk_46 (dk_at dksX5_readStones_13 9 rfl rfl)
theorem dX5_readStones_315 : decode cX5_readStones 315 = .ok (.iastore, 1) := dk_79 (dk_at dksX5_readStones_13 10 rfl rfl)
theorem dX5_readStones_316 : decode cX5_readStones 316 = .ok (.iinc 8 1, 3) := dk_132 8 1 (dk_at dksX5_readStones_13 11 rfl rfl)
theorem dX5_readStones_319 : decode cX5_readStones 319 = .ok (.goto (-126), 3) := dk_167 255 130 (dk_at dksX5_readStones_13 14 rfl rfl)
theorem dX5_readStones_322 : decode cX5_readStones 322 = .ok (.return_, 1) := dk_177 (dk_at dksX5_readStones_13 17 rfl rfl)
abbrev cX5_readWay : ByteArray := prog_17_method_41_code
def yX5_readWay : MethodName := ⟨RX5, "readWay", "(I)V"⟩
def dkwX5_readWay_8 : List UInt8 := [182, 0, 149, 153, 0, 11, 42, 180, 0, 29, 29, 21, 4, 79, 177]
abbrev dktX5_readWay_8 : List UInt8 := dkwX5_readWay_8 ++ []
def dkwX5_readWay_7 : List UInt8 := [42, 180, 0, 29, 29, 5, 96, 5, 21, 4, 104, 96, 21, 6, 79, 132, 4, 1, 167, 255, 142, 42]
abbrev dktX5_readWay_7 : List UInt8 := dkwX5_readWay_7 ++ dktX5_readWay_8
def dkwX5_readWay_6 : List UInt8 := [182, 0, 149, 154, 0, 6, 167, 0, 39, 42, 180, 0, 29, 29, 4, 96, 5, 21, 4, 104, 96, 21, 5, 79]
abbrev dktX5_readWay_6 : List UInt8 := dkwX5_readWay_6 ++ dktX5_readWay_7
def dkwX5_readWay_5 : List UInt8 := [182, 0, 198, 21, 5, 6, 162, 0, 7, 4, 167, 0, 10, 42, 4, 16, 11, 182, 0, 202, 54, 6, 42]
abbrev dktX5_readWay_5 : List UInt8 := dkwX5_readWay_5 ++ dktX5_readWay_6
def dkwX5_readWay_4 : List UInt8 := [42, 21, 5, 2, 159, 0, 7, 4, 167, 0, 4, 3, 21, 4, 16, 12, 160, 0, 7, 4, 167, 0, 4, 3]
abbrev dktX5_readWay_4 : List UInt8 := dkwX5_readWay_4 ++ dktX5_readWay_5
def dkwX5_readWay_3 : List UInt8 := [182, 0, 149, 153, 0, 113, 42, 182, 0, 138, 16, 59, 159, 0, 104, 42, 182, 0, 160, 184, 0, 205, 54, 5]
abbrev dktX5_readWay_3 : List UInt8 := dkwX5_readWay_3 ++ dktX5_readWay_4
def dkwX5_readWay_2 : List UInt8 := [17, 3, 172, 46, 4, 100, 182, 0, 202, 61, 17, 7, 133, 16, 25, 28, 104, 96, 62, 3, 54, 4, 42]
abbrev dktX5_readWay_2 : List UInt8 := dkwX5_readWay_2 ++ dktX5_readWay_3
def dkwX5_readWay_1 : List UInt8 := [167, 0, 4, 3, 27, 16, 16, 160, 0, 7, 4, 167, 0, 4, 3, 182, 0, 198, 42, 3, 42, 180, 0, 9]
abbrev dktX5_readWay_1 : List UInt8 := dkwX5_readWay_1 ++ dktX5_readWay_2
def dkwX5_readWay_0 : List UInt8 := [42, 42, 182, 0, 160, 16, 119, 16, 97, 16, 108, 16, 107, 16, 101, 16, 114, 184, 0, 194, 160, 0, 7, 4]
abbrev dktX5_readWay_0 : List UInt8 := dkwX5_readWay_0 ++ dktX5_readWay_1
theorem dksX5_readWay_0 : cX5_readWay.data.toList.drop 0 = dktX5_readWay_0 := by decide +kernel
theorem dksX5_readWay_1 : cX5_readWay.data.toList.drop 24 = dktX5_readWay_1 := dk_seg dksX5_readWay_0 24 rfl rfl
theorem dksX5_readWay_2 : cX5_readWay.data.toList.drop 48 = dktX5_readWay_2 := dk_seg dksX5_readWay_1 24 rfl rfl
theorem dksX5_readWay_3 : cX5_readWay.data.toList.drop 71 = dktX5_readWay_3 := dk_seg dksX5_readWay_2 23 rfl rfl
theorem dksX5_readWay_4 : cX5_readWay.data.toList.drop 95 = dktX5_readWay_4 := dk_seg dksX5_readWay_3 24 rfl rfl
theorem dksX5_readWay_5 : cX5_readWay.data.toList.drop 119 = dktX5_readWay_5 := dk_seg dksX5_readWay_4 24 rfl rfl
theorem dksX5_readWay_6 : cX5_readWay.data.toList.drop 142 = dktX5_readWay_6 := dk_seg dksX5_readWay_5 23 rfl rfl
theorem dksX5_readWay_7 : cX5_readWay.data.toList.drop 166 = dktX5_readWay_7 := dk_seg dksX5_readWay_6 24 rfl rfl
theorem dksX5_readWay_8 : cX5_readWay.data.toList.drop 188 = dktX5_readWay_8 := dk_seg dksX5_readWay_7 22 rfl rfl
theorem dX5_readWay_0 : decode cX5_readWay 0 = .ok (.aload_n 0, 1) := dk_42 (dk_at dksX5_readWay_0 0 rfl rfl)
theorem dX5_readWay_1 : decode cX5_readWay 1 = .ok (.aload_n 0, 1) := dk_42 (dk_at dksX5_readWay_0 1 rfl rfl)
theorem dX5_readWay_2 : decode cX5_readWay 2 = .ok (.invokevirtual 160, 3) := dk_182 0 160 (dk_at dksX5_readWay_0 2 rfl rfl)
theorem dX5_readWay_5 : decode cX5_readWay 5 = .ok (.bipush 119, 2) := dk_16 119 (dk_at dksX5_readWay_0 5 rfl rfl)
theorem dX5_readWay_7 : decode cX5_readWay 7 = .ok (.bipush 97, 2) := dk_16 97 (dk_at dksX5_readWay_0 7 rfl rfl)
theorem dX5_readWay_9 : decode cX5_readWay 9 = .ok (.bipush 108, 2) := dk_16 108 (dk_at dksX5_readWay_0 9 rfl rfl)
theorem dX5_readWay_11 : decode cX5_readWay 11 = .ok (.bipush 107, 2) := dk_16 107 (dk_at dksX5_readWay_0 11 rfl rfl)
theorem dX5_readWay_13 : decode cX5_readWay 13 = .ok (.bipush 101, 2) := dk_16 101 (dk_at dksX5_readWay_0 13 rfl rfl)
theorem dX5_readWay_15 : decode cX5_readWay 15 = .ok (.bipush 114, 2) := dk_16 114 (dk_at dksX5_readWay_0 15 rfl rfl)
theorem dX5_readWay_17 : decode cX5_readWay 17 = .ok (.invokestatic 194, 3) := dk_184 0 194 (dk_at dksX5_readWay_0 17 rfl rfl)
theorem dX5_readWay_20 : decode cX5_readWay 20 = .ok (.if_icmp .ne 7, 3) := dk_160 0 7 (dk_at dksX5_readWay_0 20 rfl rfl)
theorem dX5_readWay_23 : decode cX5_readWay 23 = .ok (.iconst 1, 1) := dk_4 (dk_at dksX5_readWay_0 23 rfl rfl)
theorem dX5_readWay_24 : decode cX5_readWay 24 = .ok (.goto 4, 3) := dk_167 0 4 (dk_at dksX5_readWay_1 0 rfl rfl)
theorem dX5_readWay_27 : decode cX5_readWay 27 = .ok (.iconst 0, 1) := dk_3 (dk_at dksX5_readWay_1 3 rfl rfl)
theorem dX5_readWay_28 : decode cX5_readWay 28 = .ok (.iload_n 1, 1) := dk_27 (dk_at dksX5_readWay_1 4 rfl rfl)
theorem dX5_readWay_29 : decode cX5_readWay 29 = .ok (.bipush 16, 2) := dk_16 16 (dk_at dksX5_readWay_1 5 rfl rfl)
theorem dX5_readWay_31 : decode cX5_readWay 31 = .ok (.if_icmp .ne 7, 3) := dk_160 0 7 (dk_at dksX5_readWay_1 7 rfl rfl)
theorem dX5_readWay_34 : decode cX5_readWay 34 = .ok (.iconst 1, 1) := dk_4 (dk_at dksX5_readWay_1 10 rfl rfl)
theorem dX5_readWay_35 : decode cX5_readWay 35 = .ok (.goto 4, 3) := dk_167 0 4 (dk_at dksX5_readWay_1 11 rfl rfl)
theorem dX5_readWay_38 : decode cX5_readWay 38 = .ok (.iconst 0, 1) := dk_3 (dk_at dksX5_readWay_1 14 rfl rfl)
theorem dX5_readWay_39 : decode cX5_readWay 39 = .ok (.invokevirtual 198, 3) := dk_182 0 198 (dk_at dksX5_readWay_1 15 rfl rfl)
theorem dX5_readWay_42 : decode cX5_readWay 42 = .ok (.aload_n 0, 1) := dk_42 (dk_at dksX5_readWay_1 18 rfl rfl)
theorem dX5_readWay_43 : decode cX5_readWay 43 = .ok (.iconst 0, 1) := dk_3 (dk_at dksX5_readWay_1 19 rfl rfl)
theorem dX5_readWay_44 : decode cX5_readWay 44 = .ok (.aload_n 0, 1) := dk_42 (dk_at dksX5_readWay_1 20 rfl rfl)
theorem dX5_readWay_45 : decode cX5_readWay 45 = .ok (.getfield 9, 3) := dk_180 0 9 (dk_at dksX5_readWay_1 21 rfl rfl)
theorem dX5_readWay_48 : decode cX5_readWay 48 = .ok (.sipush 940, 3) := dk_17 3 172 (dk_at dksX5_readWay_2 0 rfl rfl)
theorem dX5_readWay_51 : decode cX5_readWay 51 = .ok (.iaload, 1) := dk_46 (dk_at dksX5_readWay_2 3 rfl rfl)
theorem dX5_readWay_52 : decode cX5_readWay 52 = .ok (.iconst 1, 1) := dk_4 (dk_at dksX5_readWay_2 4 rfl rfl)
theorem dX5_readWay_53 : decode cX5_readWay 53 = .ok (.isub, 1) := dk_100 (dk_at dksX5_readWay_2 5 rfl rfl)
theorem dX5_readWay_54 : decode cX5_readWay 54 = .ok (.invokevirtual 202, 3) := dk_182 0 202 (dk_at dksX5_readWay_2 6 rfl rfl)
theorem dX5_readWay_57 : decode cX5_readWay 57 = .ok (.istore_n 2, 1) := dk_61 (dk_at dksX5_readWay_2 9 rfl rfl)
theorem dX5_readWay_58 : decode cX5_readWay 58 = .ok (.sipush 1925, 3) := dk_17 7 133 (dk_at dksX5_readWay_2 10 rfl rfl)
theorem dX5_readWay_61 : decode cX5_readWay 61 = .ok (.bipush 25, 2) := dk_16 25 (dk_at dksX5_readWay_2 13 rfl rfl)
theorem dX5_readWay_63 : decode cX5_readWay 63 = .ok (.iload_n 2, 1) := dk_28 (dk_at dksX5_readWay_2 15 rfl rfl)
theorem dX5_readWay_64 : decode cX5_readWay 64 = .ok (.imul, 1) := dk_104 (dk_at dksX5_readWay_2 16 rfl rfl)
theorem dX5_readWay_65 : decode cX5_readWay 65 = .ok (.iadd, 1) := dk_96 (dk_at dksX5_readWay_2 17 rfl rfl)
theorem dX5_readWay_66 : decode cX5_readWay 66 = .ok (.istore_n 3, 1) := dk_62 (dk_at dksX5_readWay_2 18 rfl rfl)
theorem dX5_readWay_67 : decode cX5_readWay 67 = .ok (.iconst 0, 1) := dk_3 (dk_at dksX5_readWay_2 19 rfl rfl)
theorem dX5_readWay_68 : decode cX5_readWay 68 = .ok (.istore 4, 2) := dk_54 4 (dk_at dksX5_readWay_2 20 rfl rfl)
theorem dX5_readWay_70 : decode cX5_readWay 70 = .ok (.aload_n 0, 1) := dk_42 (dk_at dksX5_readWay_2 22 rfl rfl)
theorem dX5_readWay_71 : decode cX5_readWay 71 = .ok (.invokevirtual 149, 3) := dk_182 0 149 (dk_at dksX5_readWay_3 0 rfl rfl)
theorem dX5_readWay_74 : decode cX5_readWay 74 = .ok (.ifCond .eq 113, 3) := dk_153 0 113 (dk_at dksX5_readWay_3 3 rfl rfl)
theorem dX5_readWay_77 : decode cX5_readWay 77 = .ok (.aload_n 0, 1) := dk_42 (dk_at dksX5_readWay_3 6 rfl rfl)
theorem dX5_readWay_78 : decode cX5_readWay 78 = .ok (.invokevirtual 138, 3) := dk_182 0 138 (dk_at dksX5_readWay_3 7 rfl rfl)
theorem dX5_readWay_81 : decode cX5_readWay 81 = .ok (.bipush 59, 2) := dk_16 59 (dk_at dksX5_readWay_3 10 rfl rfl)
theorem dX5_readWay_83 : decode cX5_readWay 83 = .ok (.if_icmp .eq 104, 3) := dk_159 0 104 (dk_at dksX5_readWay_3 12 rfl rfl)
theorem dX5_readWay_86 : decode cX5_readWay 86 = .ok (.aload_n 0, 1) := dk_42 (dk_at dksX5_readWay_3 15 rfl rfl)
theorem dX5_readWay_87 : decode cX5_readWay 87 = .ok (.invokevirtual 160, 3) := dk_182 0 160 (dk_at dksX5_readWay_3 16 rfl rfl)
theorem dX5_readWay_90 : decode cX5_readWay 90 = .ok (.invokestatic 205, 3) := dk_184 0 205 (dk_at dksX5_readWay_3 19 rfl rfl)
theorem dX5_readWay_93 : decode cX5_readWay 93 = .ok (.istore 5, 2) := dk_54 5 (dk_at dksX5_readWay_3 22 rfl rfl)
theorem dX5_readWay_95 : decode cX5_readWay 95 = .ok (.aload_n 0, 1) := dk_42 (dk_at dksX5_readWay_4 0 rfl rfl)
theorem dX5_readWay_96 : decode cX5_readWay 96 = .ok (.iload 5, 2) := dk_21 5 (dk_at dksX5_readWay_4 1 rfl rfl)
theorem dX5_readWay_98 : decode cX5_readWay 98 = .ok (.iconst (-1), 1) := dk_2 (dk_at dksX5_readWay_4 3 rfl rfl)
theorem dX5_readWay_99 : decode cX5_readWay 99 = .ok (.if_icmp .eq 7, 3) := dk_159 0 7 (dk_at dksX5_readWay_4 4 rfl rfl)
theorem dX5_readWay_102 : decode cX5_readWay 102 = .ok (.iconst 1, 1) := dk_4 (dk_at dksX5_readWay_4 7 rfl rfl)
theorem dX5_readWay_103 : decode cX5_readWay 103 = .ok (.goto 4, 3) := dk_167 0 4 (dk_at dksX5_readWay_4 8 rfl rfl)
theorem dX5_readWay_106 : decode cX5_readWay 106 = .ok (.iconst 0, 1) := dk_3 (dk_at dksX5_readWay_4 11 rfl rfl)
theorem dX5_readWay_107 : decode cX5_readWay 107 = .ok (.iload 4, 2) := dk_21 4 (dk_at dksX5_readWay_4 12 rfl rfl)
theorem dX5_readWay_109 : decode cX5_readWay 109 = .ok (.bipush 12, 2) := dk_16 12 (dk_at dksX5_readWay_4 14 rfl rfl)
theorem dX5_readWay_111 : decode cX5_readWay 111 = .ok (.if_icmp .ne 7, 3) := dk_160 0 7 (dk_at dksX5_readWay_4 16 rfl rfl)
theorem dX5_readWay_114 : decode cX5_readWay 114 = .ok (.iconst 1, 1) := dk_4 (dk_at dksX5_readWay_4 19 rfl rfl)
theorem dX5_readWay_115 : decode cX5_readWay 115 = .ok (.goto 4, 3) := dk_167 0 4 (dk_at dksX5_readWay_4 20 rfl rfl)
theorem dX5_readWay_118 : decode cX5_readWay 118 = .ok (.iconst 0, 1) := dk_3 (dk_at dksX5_readWay_4 23 rfl rfl)
theorem dX5_readWay_119 : decode cX5_readWay 119 = .ok (.invokevirtual 198, 3) := dk_182 0 198 (dk_at dksX5_readWay_5 0 rfl rfl)
theorem dX5_readWay_122 : decode cX5_readWay 122 = .ok (.iload 5, 2) := dk_21 5 (dk_at dksX5_readWay_5 3 rfl rfl)
theorem dX5_readWay_124 : decode cX5_readWay 124 = .ok (.iconst 3, 1) := dk_6 (dk_at dksX5_readWay_5 5 rfl rfl)
theorem dX5_readWay_125 : decode cX5_readWay 125 = .ok (.if_icmp .ge 7, 3) := dk_162 0 7 (dk_at dksX5_readWay_5 6 rfl rfl)
theorem dX5_readWay_128 : decode cX5_readWay 128 = .ok (.iconst 1, 1) := dk_4 (dk_at dksX5_readWay_5 9 rfl rfl)
theorem dX5_readWay_129 : decode cX5_readWay 129 = .ok (.goto 10, 3) := dk_167 0 10 (dk_at dksX5_readWay_5 10 rfl rfl)
theorem dX5_readWay_132 : decode cX5_readWay 132 = .ok (.aload_n 0, 1) := dk_42 (dk_at dksX5_readWay_5 13 rfl rfl)
theorem dX5_readWay_133 : decode cX5_readWay 133 = .ok (.iconst 1, 1) := dk_4 (dk_at dksX5_readWay_5 14 rfl rfl)
theorem dX5_readWay_134 : decode cX5_readWay 134 = .ok (.bipush 11, 2) := dk_16 11 (dk_at dksX5_readWay_5 15 rfl rfl)
theorem dX5_readWay_136 : decode cX5_readWay 136 = .ok (.invokevirtual 202, 3) := dk_182 0 202 (dk_at dksX5_readWay_5 17 rfl rfl)
theorem dX5_readWay_139 : decode cX5_readWay 139 = .ok (.istore 6, 2) := dk_54 6 (dk_at dksX5_readWay_5 20 rfl rfl)
theorem dX5_readWay_141 : decode cX5_readWay 141 = .ok (.aload_n 0, 1) := dk_42 (dk_at dksX5_readWay_5 22 rfl rfl)
theorem dX5_readWay_142 : decode cX5_readWay 142 = .ok (.invokevirtual 149, 3) := dk_182 0 149 (dk_at dksX5_readWay_6 0 rfl rfl)
theorem dX5_readWay_145 : decode cX5_readWay 145 = .ok (.ifCond .ne 6, 3) := dk_154 0 6 (dk_at dksX5_readWay_6 3 rfl rfl)
theorem dX5_readWay_148 : decode cX5_readWay 148 = .ok (.goto 39, 3) := dk_167 0 39 (dk_at dksX5_readWay_6 6 rfl rfl)
theorem dX5_readWay_151 : decode cX5_readWay 151 = .ok (.aload_n 0, 1) := dk_42 (dk_at dksX5_readWay_6 9 rfl rfl)
theorem dX5_readWay_152 : decode cX5_readWay 152 = .ok (.getfield 29, 3) := dk_180 0 29 (dk_at dksX5_readWay_6 10 rfl rfl)
theorem dX5_readWay_155 : decode cX5_readWay 155 = .ok (.iload_n 3, 1) := dk_29 (dk_at dksX5_readWay_6 13 rfl rfl)
theorem dX5_readWay_156 : decode cX5_readWay 156 = .ok (.iconst 1, 1) := dk_4 (dk_at dksX5_readWay_6 14 rfl rfl)
theorem dX5_readWay_157 : decode cX5_readWay 157 = .ok (.iadd, 1) := dk_96 (dk_at dksX5_readWay_6 15 rfl rfl)
theorem dX5_readWay_158 : decode cX5_readWay 158 = .ok (.iconst 2, 1) := dk_5 (dk_at dksX5_readWay_6 16 rfl rfl)
theorem dX5_readWay_159 : decode cX5_readWay 159 = .ok (.iload 4, 2) := dk_21 4 (dk_at dksX5_readWay_6 17 rfl rfl)
theorem dX5_readWay_161 : decode cX5_readWay 161 = .ok (.imul, 1) := dk_104 (dk_at dksX5_readWay_6 19 rfl rfl)
theorem dX5_readWay_162 : decode cX5_readWay 162 = .ok (.iadd, 1) := dk_96 (dk_at dksX5_readWay_6 20 rfl rfl)
theorem dX5_readWay_163 : decode cX5_readWay 163 = .ok (.iload 5, 2) := dk_21 5 (dk_at dksX5_readWay_6 21 rfl rfl)
theorem dX5_readWay_165 : decode cX5_readWay 165 = .ok (.iastore, 1) := dk_79 (dk_at dksX5_readWay_6 23 rfl rfl)
theorem dX5_readWay_166 : decode cX5_readWay 166 = .ok (.aload_n 0, 1) := dk_42 (dk_at dksX5_readWay_7 0 rfl rfl)
theorem dX5_readWay_167 : decode cX5_readWay 167 = .ok (.getfield 29, 3) := dk_180 0 29 (dk_at dksX5_readWay_7 1 rfl rfl)
theorem dX5_readWay_170 : decode cX5_readWay 170 = .ok (.iload_n 3, 1) := dk_29 (dk_at dksX5_readWay_7 4 rfl rfl)
theorem dX5_readWay_171 : decode cX5_readWay 171 = .ok (.iconst 2, 1) := dk_5 (dk_at dksX5_readWay_7 5 rfl rfl)
theorem dX5_readWay_172 : decode cX5_readWay 172 = .ok (.iadd, 1) := dk_96 (dk_at dksX5_readWay_7 6 rfl rfl)
theorem dX5_readWay_173 : decode cX5_readWay 173 = .ok (.iconst 2, 1) := dk_5 (dk_at dksX5_readWay_7 7 rfl rfl)
theorem dX5_readWay_174 : decode cX5_readWay 174 = .ok (.iload 4, 2) := dk_21 4 (dk_at dksX5_readWay_7 8 rfl rfl)
theorem dX5_readWay_176 : decode cX5_readWay 176 = .ok (.imul, 1) := dk_104 (dk_at dksX5_readWay_7 10 rfl rfl)
theorem dX5_readWay_177 : decode cX5_readWay 177 = .ok (.iadd, 1) := dk_96 (dk_at dksX5_readWay_7 11 rfl rfl)
theorem dX5_readWay_178 : decode cX5_readWay 178 = .ok (.iload 6, 2) := dk_21 6 (dk_at dksX5_readWay_7 12 rfl rfl)
theorem dX5_readWay_180 : decode cX5_readWay 180 = .ok (.iastore, 1) := dk_79 (dk_at dksX5_readWay_7 14 rfl rfl)
theorem dX5_readWay_181 : decode cX5_readWay 181 = .ok (.iinc 4 1, 3) := dk_132 4 1 (dk_at dksX5_readWay_7 15 rfl rfl)
theorem dX5_readWay_184 : decode cX5_readWay 184 = .ok (.goto (-114), 3) := dk_167 255 142 (dk_at dksX5_readWay_7 18 rfl rfl)
theorem dX5_readWay_187 : decode cX5_readWay 187 = .ok (.aload_n 0, 1) := dk_42 (dk_at dksX5_readWay_7 21 rfl rfl)
theorem dX5_readWay_188 : decode cX5_readWay 188 = .ok (.invokevirtual 149, 3) := dk_182 0 149 (dk_at dksX5_readWay_8 0 rfl rfl)
theorem dX5_readWay_191 : decode cX5_readWay 191 = .ok (.ifCond .eq 11, 3) := dk_153 0 11 (dk_at dksX5_readWay_8 3 rfl rfl)
theorem dX5_readWay_194 : decode cX5_readWay 194 = .ok (.aload_n 0, 1) := dk_42 (dk_at dksX5_readWay_8 6 rfl rfl)
theorem dX5_readWay_195 : decode cX5_readWay 195 = .ok (.getfield 29, 3) := dk_180 0 29 (dk_at dksX5_readWay_8 7 rfl rfl)
theorem dX5_readWay_198 : decode cX5_readWay 198 = .ok (.iload_n 3, 1) := dk_29 (dk_at dksX5_readWay_8 10 rfl rfl)
theorem dX5_readWay_199 : decode cX5_readWay 199 = .ok (.iload 4, 2) := dk_21 4 (dk_at dksX5_readWay_8 11 rfl rfl)
theorem dX5_readWay_201 : decode cX5_readWay 201 = .ok (.iastore, 1) := dk_79 (dk_at dksX5_readWay_8 13 rfl rfl)
theorem dX5_readWay_202 : decode cX5_readWay 202 = .ok (.return_, 1) := dk_177 (dk_at dksX5_readWay_8 14 rfl rfl)
abbrev cX5_wayWord : ByteArray := prog_17_method_40_code
def yX5_wayWord : MethodName := ⟨RX5, "wayWord", "(I)I"⟩
def dkwX5_wayWord_4 : List UInt8 := [3, 3, 184, 0, 194, 160, 0, 7, 7, 167, 0, 4, 2, 172]
abbrev dktX5_wayWord_4 : List UInt8 := dkwX5_wayWord_4 ++ []
def dkwX5_wayWord_3 : List UInt8 := [16, 97, 16, 100, 3, 184, 0, 194, 160, 0, 7, 6, 167, 0, 25, 26, 16, 119, 16, 97, 16, 105, 16, 116]
abbrev dktX5_wayWord_3 : List UInt8 := dkwX5_wayWord_3 ++ dktX5_wayWord_4
def dkwX5_wayWord_2 : List UInt8 := [16, 99, 16, 107, 3, 3, 184, 0, 194, 160, 0, 7, 5, 167, 0, 47, 26, 16, 97, 16, 104, 16, 101]
abbrev dktX5_wayWord_2 : List UInt8 := dkwX5_wayWord_2 ++ dktX5_wayWord_3
def dkwX5_wayWord_1 : List UInt8 := [16, 105, 16, 103, 16, 104, 16, 116, 3, 184, 0, 194, 160, 0, 7, 4, 167, 0, 68, 26, 16, 98, 16, 97]
abbrev dktX5_wayWord_1 : List UInt8 := dkwX5_wayWord_1 ++ dktX5_wayWord_2
def dkwX5_wayWord_0 : List UInt8 := [26, 16, 108, 16, 101, 16, 102, 16, 116, 3, 3, 184, 0, 194, 160, 0, 7, 3, 167, 0, 90, 26, 16, 114]
abbrev dktX5_wayWord_0 : List UInt8 := dkwX5_wayWord_0 ++ dktX5_wayWord_1
theorem dksX5_wayWord_0 : cX5_wayWord.data.toList.drop 0 = dktX5_wayWord_0 := by decide +kernel
theorem dksX5_wayWord_1 : cX5_wayWord.data.toList.drop 24 = dktX5_wayWord_1 := dk_seg dksX5_wayWord_0 24 rfl rfl
theorem dksX5_wayWord_2 : cX5_wayWord.data.toList.drop 48 = dktX5_wayWord_2 := dk_seg dksX5_wayWord_1 24 rfl rfl
theorem dksX5_wayWord_3 : cX5_wayWord.data.toList.drop 71 = dktX5_wayWord_3 := dk_seg dksX5_wayWord_2 23 rfl rfl
theorem dksX5_wayWord_4 : cX5_wayWord.data.toList.drop 95 = dktX5_wayWord_4 := dk_seg dksX5_wayWord_3 24 rfl rfl
theorem dX5_wayWord_0 : decode cX5_wayWord 0 = .ok (.iload_n 0, 1) := dk_26 (dk_at dksX5_wayWord_0 0 rfl rfl)
theorem dX5_wayWord_1 : decode cX5_wayWord 1 = .ok (.bipush 108, 2) := dk_16 108 (dk_at dksX5_wayWord_0 1 rfl rfl)
theorem dX5_wayWord_3 : decode cX5_wayWord 3 = .ok (.bipush 101, 2) := dk_16 101 (dk_at dksX5_wayWord_0 3 rfl rfl)
theorem dX5_wayWord_5 : decode cX5_wayWord 5 = .ok (.bipush 102, 2) := dk_16 102 (dk_at dksX5_wayWord_0 5 rfl rfl)
theorem dX5_wayWord_7 : decode cX5_wayWord 7 = .ok (.bipush 116, 2) := dk_16 116 (dk_at dksX5_wayWord_0 7 rfl rfl)
theorem dX5_wayWord_9 : decode cX5_wayWord 9 = .ok (.iconst 0, 1) := dk_3 (dk_at dksX5_wayWord_0 9 rfl rfl)
theorem dX5_wayWord_10 : decode cX5_wayWord 10 = .ok (.iconst 0, 1) := dk_3 (dk_at dksX5_wayWord_0 10 rfl rfl)
theorem dX5_wayWord_11 : decode cX5_wayWord 11 = .ok (.invokestatic 194, 3) := dk_184 0 194 (dk_at dksX5_wayWord_0 11 rfl rfl)
theorem dX5_wayWord_14 : decode cX5_wayWord 14 = .ok (.if_icmp .ne 7, 3) := dk_160 0 7 (dk_at dksX5_wayWord_0 14 rfl rfl)
theorem dX5_wayWord_17 : decode cX5_wayWord 17 = .ok (.iconst 0, 1) := dk_3 (dk_at dksX5_wayWord_0 17 rfl rfl)
theorem dX5_wayWord_18 : decode cX5_wayWord 18 = .ok (.goto 90, 3) := dk_167 0 90 (dk_at dksX5_wayWord_0 18 rfl rfl)
theorem dX5_wayWord_21 : decode cX5_wayWord 21 = .ok (.iload_n 0, 1) := dk_26 (dk_at dksX5_wayWord_0 21 rfl rfl)
theorem dX5_wayWord_22 : decode cX5_wayWord 22 = .ok (.bipush 114, 2) := dk_16 114 (dk_at dksX5_wayWord_0 22 rfl rfl)
theorem dX5_wayWord_24 : decode cX5_wayWord 24 = .ok (.bipush 105, 2) := dk_16 105 (dk_at dksX5_wayWord_1 0 rfl rfl)
theorem dX5_wayWord_26 : decode cX5_wayWord 26 = .ok (.bipush 103, 2) := dk_16 103 (dk_at dksX5_wayWord_1 2 rfl rfl)
theorem dX5_wayWord_28 : decode cX5_wayWord 28 = .ok (.bipush 104, 2) := dk_16 104 (dk_at dksX5_wayWord_1 4 rfl rfl)
theorem dX5_wayWord_30 : decode cX5_wayWord 30 = .ok (.bipush 116, 2) := dk_16 116 (dk_at dksX5_wayWord_1 6 rfl rfl)
theorem dX5_wayWord_32 : decode cX5_wayWord 32 = .ok (.iconst 0, 1) := dk_3 (dk_at dksX5_wayWord_1 8 rfl rfl)
theorem dX5_wayWord_33 : decode cX5_wayWord 33 = .ok (.invokestatic 194, 3) := dk_184 0 194 (dk_at dksX5_wayWord_1 9 rfl rfl)
theorem dX5_wayWord_36 : decode cX5_wayWord 36 = .ok (.if_icmp .ne 7, 3) := dk_160 0 7 (dk_at dksX5_wayWord_1 12 rfl rfl)
theorem dX5_wayWord_39 : decode cX5_wayWord 39 = .ok (.iconst 1, 1) := dk_4 (dk_at dksX5_wayWord_1 15 rfl rfl)
theorem dX5_wayWord_40 : decode cX5_wayWord 40 = .ok (.goto 68, 3) := dk_167 0 68 (dk_at dksX5_wayWord_1 16 rfl rfl)
theorem dX5_wayWord_43 : decode cX5_wayWord 43 = .ok (.iload_n 0, 1) := dk_26 (dk_at dksX5_wayWord_1 19 rfl rfl)
theorem dX5_wayWord_44 : decode cX5_wayWord 44 = .ok (.bipush 98, 2) := dk_16 98 (dk_at dksX5_wayWord_1 20 rfl rfl)
theorem dX5_wayWord_46 : decode cX5_wayWord 46 = .ok (.bipush 97, 2) := dk_16 97 (dk_at dksX5_wayWord_1 22 rfl rfl)
theorem dX5_wayWord_48 : decode cX5_wayWord 48 = .ok (.bipush 99, 2) := dk_16 99 (dk_at dksX5_wayWord_2 0 rfl rfl)
theorem dX5_wayWord_50 : decode cX5_wayWord 50 = .ok (.bipush 107, 2) := dk_16 107 (dk_at dksX5_wayWord_2 2 rfl rfl)
theorem dX5_wayWord_52 : decode cX5_wayWord 52 = .ok (.iconst 0, 1) := dk_3 (dk_at dksX5_wayWord_2 4 rfl rfl)
theorem dX5_wayWord_53 : decode cX5_wayWord 53 = .ok (.iconst 0, 1) := dk_3 (dk_at dksX5_wayWord_2 5 rfl rfl)
theorem dX5_wayWord_54 : decode cX5_wayWord 54 = .ok (.invokestatic 194, 3) := dk_184 0 194 (dk_at dksX5_wayWord_2 6 rfl rfl)
theorem dX5_wayWord_57 : decode cX5_wayWord 57 = .ok (.if_icmp .ne 7, 3) := dk_160 0 7 (dk_at dksX5_wayWord_2 9 rfl rfl)
theorem dX5_wayWord_60 : decode cX5_wayWord 60 = .ok (.iconst 2, 1) := dk_5 (dk_at dksX5_wayWord_2 12 rfl rfl)
theorem dX5_wayWord_61 : decode cX5_wayWord 61 = .ok (.goto 47, 3) := dk_167 0 47 (dk_at dksX5_wayWord_2 13 rfl rfl)
theorem dX5_wayWord_64 : decode cX5_wayWord 64 = .ok (.iload_n 0, 1) := dk_26 (dk_at dksX5_wayWord_2 16 rfl rfl)
theorem dX5_wayWord_65 : decode cX5_wayWord 65 = .ok (.bipush 97, 2) := dk_16 97 (dk_at dksX5_wayWord_2 17 rfl rfl)
theorem dX5_wayWord_67 : decode cX5_wayWord 67 = .ok (.bipush 104, 2) := dk_16 104 (dk_at dksX5_wayWord_2 19 rfl rfl)
theorem dX5_wayWord_69 : decode cX5_wayWord 69 = .ok (.bipush 101, 2) := dk_16 101 (dk_at dksX5_wayWord_2 21 rfl rfl)
theorem dX5_wayWord_71 : decode cX5_wayWord 71 = .ok (.bipush 97, 2) := dk_16 97 (dk_at dksX5_wayWord_3 0 rfl rfl)
theorem dX5_wayWord_73 : decode cX5_wayWord 73 = .ok (.bipush 100, 2) := dk_16 100 (dk_at dksX5_wayWord_3 2 rfl rfl)
theorem dX5_wayWord_75 : decode cX5_wayWord 75 = .ok (.iconst 0, 1) := dk_3 (dk_at dksX5_wayWord_3 4 rfl rfl)
theorem dX5_wayWord_76 : decode cX5_wayWord 76 = .ok (.invokestatic 194, 3) := dk_184 0 194 (dk_at dksX5_wayWord_3 5 rfl rfl)
theorem dX5_wayWord_79 : decode cX5_wayWord 79 = .ok (.if_icmp .ne 7, 3) := dk_160 0 7 (dk_at dksX5_wayWord_3 8 rfl rfl)
theorem dX5_wayWord_82 : decode cX5_wayWord 82 = .ok (.iconst 3, 1) := dk_6 (dk_at dksX5_wayWord_3 11 rfl rfl)
theorem dX5_wayWord_83 : decode cX5_wayWord 83 = .ok (.goto 25, 3) := dk_167 0 25 (dk_at dksX5_wayWord_3 12 rfl rfl)
theorem dX5_wayWord_86 : decode cX5_wayWord 86 = .ok (.iload_n 0, 1) := dk_26 (dk_at dksX5_wayWord_3 15 rfl rfl)
theorem dX5_wayWord_87 : decode cX5_wayWord 87 = .ok (.bipush 119, 2) := dk_16 119 (dk_at dksX5_wayWord_3 16 rfl rfl)
theorem dX5_wayWord_89 : decode cX5_wayWord 89 = .ok (.bipush 97, 2) := dk_16 97 (dk_at dksX5_wayWord_3 18 rfl rfl)
theorem dX5_wayWord_91 : decode cX5_wayWord 91 = .ok (.bipush 105, 2) := dk_16 105 (dk_at dksX5_wayWord_3 20 rfl rfl)
theorem dX5_wayWord_93 : decode cX5_wayWord 93 = .ok (.bipush 116, 2) := dk_16 116 (dk_at dksX5_wayWord_3 22 rfl rfl)
theorem dX5_wayWord_95 : decode cX5_wayWord 95 = .ok (.iconst 0, 1) := dk_3 (dk_at dksX5_wayWord_4 0 rfl rfl)
theorem dX5_wayWord_96 : decode cX5_wayWord 96 = .ok (.iconst 0, 1) := dk_3 (dk_at dksX5_wayWord_4 1 rfl rfl)
theorem dX5_wayWord_97 : decode cX5_wayWord 97 = .ok (.invokestatic 194, 3) := dk_184 0 194 (dk_at dksX5_wayWord_4 2 rfl rfl)
theorem dX5_wayWord_100 : decode cX5_wayWord 100 = .ok (.if_icmp .ne 7, 3) := dk_160 0 7 (dk_at dksX5_wayWord_4 5 rfl rfl)
theorem dX5_wayWord_103 : decode cX5_wayWord 103 = .ok (.iconst 4, 1) := dk_7 (dk_at dksX5_wayWord_4 8 rfl rfl)
theorem dX5_wayWord_104 : decode cX5_wayWord 104 = .ok (.goto 4, 3) := dk_167 0 4 (dk_at dksX5_wayWord_4 9 rfl rfl)
theorem dX5_wayWord_107 : decode cX5_wayWord 107 = .ok (.iconst (-1), 1) := dk_2 (dk_at dksX5_wayWord_4 12 rfl rfl)
theorem dX5_wayWord_108 : decode cX5_wayWord 108 = .ok (.ireturn, 1) := dk_172 (dk_at dksX5_wayWord_4 13 rfl rfl)
abbrev cX5_readHour : ByteArray := prog_17_method_42_code
def yX5_readHour : MethodName := ⟨RX5, "readHour", "(I)V"⟩
def dkwX5_readHour_8 : List UInt8 := [5, 27, 104, 96, 4, 96, 21, 4, 79, 177]
abbrev dktX5_readHour_8 : List UInt8 := dkwX5_readHour_8 ++ []
def dkwX5_readHour_7 : List UInt8 := [154, 0, 4, 177, 42, 180, 0, 29, 17, 9, 21, 5, 27, 104, 96, 28, 79, 42, 180, 0, 29, 17, 9, 21]
abbrev dktX5_readHour_7 : List UInt8 := dkwX5_readHour_7 ++ dktX5_readHour_8
def dkwX5_readHour_6 : List UInt8 := [184, 0, 194, 160, 0, 13, 42, 4, 16, 9, 182, 0, 202, 167, 0, 4, 3, 54, 4, 42, 182, 0, 149]
abbrev dktX5_readHour_6 : List UInt8 := dkwX5_readHour_6 ++ dktX5_readHour_7
def dkwX5_readHour_5 : List UInt8 := [42, 182, 0, 149, 154, 0, 4, 177, 42, 182, 0, 163, 29, 16, 119, 16, 97, 16, 116, 16, 99, 16, 104, 3]
abbrev dktX5_readHour_5 : List UInt8 := dkwX5_readHour_5 ++ dktX5_readHour_6
def dkwX5_readHour_4 : List UInt8 := [16, 108, 16, 105, 16, 110, 16, 100, 3, 184, 0, 194, 159, 0, 12, 42, 4, 42, 180, 0, 132, 182, 0, 156]
abbrev dktX5_readHour_4 : List UInt8 := dkwX5_readHour_4 ++ dktX5_readHour_5
def dkwX5_readHour_3 : List UInt8 := [153, 0, 48, 29, 16, 119, 16, 97, 16, 116, 16, 99, 16, 104, 3, 184, 0, 194, 159, 0, 30, 29, 16, 98]
abbrev dktX5_readHour_3 : List UInt8 := dkwX5_readHour_3 ++ dktX5_readHour_4
def dkwX5_readHour_2 : List UInt8 := [182, 0, 202, 61, 42, 182, 0, 149, 153, 0, 10, 42, 182, 0, 160, 167, 0, 4, 3, 62, 42, 182, 0, 149]
abbrev dktX5_readHour_2 : List UInt8 := dkwX5_readHour_2 ++ dktX5_readHour_3
def dkwX5_readHour_1 : List UInt8 := [167, 0, 4, 3, 27, 16, 16, 160, 0, 7, 4, 167, 0, 4, 3, 182, 0, 198, 42, 3, 17, 3, 231]
abbrev dktX5_readHour_1 : List UInt8 := dkwX5_readHour_1 ++ dktX5_readHour_2
def dkwX5_readHour_0 : List UInt8 := [42, 42, 182, 0, 160, 16, 102, 16, 114, 16, 111, 16, 109, 3, 3, 184, 0, 194, 160, 0, 7, 4]
abbrev dktX5_readHour_0 : List UInt8 := dkwX5_readHour_0 ++ dktX5_readHour_1
theorem dksX5_readHour_0 : cX5_readHour.data.toList.drop 0 = dktX5_readHour_0 := by decide +kernel
theorem dksX5_readHour_1 : cX5_readHour.data.toList.drop 22 = dktX5_readHour_1 := dk_seg dksX5_readHour_0 22 rfl rfl
theorem dksX5_readHour_2 : cX5_readHour.data.toList.drop 45 = dktX5_readHour_2 := dk_seg dksX5_readHour_1 23 rfl rfl
theorem dksX5_readHour_3 : cX5_readHour.data.toList.drop 69 = dktX5_readHour_3 := dk_seg dksX5_readHour_2 24 rfl rfl
theorem dksX5_readHour_4 : cX5_readHour.data.toList.drop 93 = dktX5_readHour_4 := dk_seg dksX5_readHour_3 24 rfl rfl
theorem dksX5_readHour_5 : cX5_readHour.data.toList.drop 117 = dktX5_readHour_5 := dk_seg dksX5_readHour_4 24 rfl rfl
theorem dksX5_readHour_6 : cX5_readHour.data.toList.drop 141 = dktX5_readHour_6 := dk_seg dksX5_readHour_5 24 rfl rfl
theorem dksX5_readHour_7 : cX5_readHour.data.toList.drop 164 = dktX5_readHour_7 := dk_seg dksX5_readHour_6 23 rfl rfl
theorem dksX5_readHour_8 : cX5_readHour.data.toList.drop 188 = dktX5_readHour_8 := dk_seg dksX5_readHour_7 24 rfl rfl
theorem dX5_readHour_0 : decode cX5_readHour 0 = .ok (.aload_n 0, 1) := dk_42 (dk_at dksX5_readHour_0 0 rfl rfl)
theorem dX5_readHour_1 : decode cX5_readHour 1 = .ok (.aload_n 0, 1) := dk_42 (dk_at dksX5_readHour_0 1 rfl rfl)
theorem dX5_readHour_2 : decode cX5_readHour 2 = .ok (.invokevirtual 160, 3) := dk_182 0 160 (dk_at dksX5_readHour_0 2 rfl rfl)
theorem dX5_readHour_5 : decode cX5_readHour 5 = .ok (.bipush 102, 2) := dk_16 102 (dk_at dksX5_readHour_0 5 rfl rfl)
theorem dX5_readHour_7 : decode cX5_readHour 7 = .ok (.bipush 114, 2) := dk_16 114 (dk_at dksX5_readHour_0 7 rfl rfl)
theorem dX5_readHour_9 : decode cX5_readHour 9 = .ok (.bipush 111, 2) := dk_16 111 (dk_at dksX5_readHour_0 9 rfl rfl)
theorem dX5_readHour_11 : decode cX5_readHour 11 = .ok (.bipush 109, 2) := dk_16 109 (dk_at dksX5_readHour_0 11 rfl rfl)
theorem dX5_readHour_13 : decode cX5_readHour 13 = .ok (.iconst 0, 1) := dk_3 (dk_at dksX5_readHour_0 13 rfl rfl)
theorem dX5_readHour_14 : decode cX5_readHour 14 = .ok (.iconst 0, 1) := dk_3 (dk_at dksX5_readHour_0 14 rfl rfl)
theorem dX5_readHour_15 : decode cX5_readHour 15 = .ok (.invokestatic 194, 3) := dk_184 0 194 (dk_at dksX5_readHour_0 15 rfl rfl)
theorem dX5_readHour_18 : decode cX5_readHour 18 = .ok (.if_icmp .ne 7, 3) := dk_160 0 7 (dk_at dksX5_readHour_0 18 rfl rfl)
theorem dX5_readHour_21 : decode cX5_readHour 21 = .ok (.iconst 1, 1) := dk_4 (dk_at dksX5_readHour_0 21 rfl rfl)
theorem dX5_readHour_22 : decode cX5_readHour 22 = .ok (.goto 4, 3) := dk_167 0 4 (dk_at dksX5_readHour_1 0 rfl rfl)
theorem dX5_readHour_25 : decode cX5_readHour 25 = .ok (.iconst 0, 1) := dk_3 (dk_at dksX5_readHour_1 3 rfl rfl)
theorem dX5_readHour_26 : decode cX5_readHour 26 = .ok (.iload_n 1, 1) := dk_27 (dk_at dksX5_readHour_1 4 rfl rfl)
theorem dX5_readHour_27 : decode cX5_readHour 27 = .ok (.bipush 16, 2) := dk_16 16 (dk_at dksX5_readHour_1 5 rfl rfl)
theorem dX5_readHour_29 : decode cX5_readHour 29 = .ok (.if_icmp .ne 7, 3) := dk_160 0 7 (dk_at dksX5_readHour_1 7 rfl rfl)
theorem dX5_readHour_32 : decode cX5_readHour 32 = .ok (.iconst 1, 1) := dk_4 (dk_at dksX5_readHour_1 10 rfl rfl)
theorem dX5_readHour_33 : decode cX5_readHour 33 = .ok (.goto 4, 3) := dk_167 0 4 (dk_at dksX5_readHour_1 11 rfl rfl)
theorem dX5_readHour_36 : decode cX5_readHour 36 = .ok (.iconst 0, 1) := dk_3 (dk_at dksX5_readHour_1 14 rfl rfl)
theorem dX5_readHour_37 : decode cX5_readHour 37 = .ok (.invokevirtual 198, 3) := dk_182 0 198 (dk_at dksX5_readHour_1 15 rfl rfl)
theorem dX5_readHour_40 : decode cX5_readHour 40 = .ok (.aload_n 0, 1) := dk_42 (dk_at dksX5_readHour_1 18 rfl rfl)
theorem dX5_readHour_41 : decode cX5_readHour 41 = .ok (.iconst 0, 1) := dk_3 (dk_at dksX5_readHour_1 19 rfl rfl)
theorem dX5_readHour_42 : decode cX5_readHour 42 = .ok (.sipush 999, 3) := dk_17 3 231 (dk_at dksX5_readHour_1 20 rfl rfl)
theorem dX5_readHour_45 : decode cX5_readHour 45 = .ok (.invokevirtual 202, 3) := dk_182 0 202 (dk_at dksX5_readHour_2 0 rfl rfl)
theorem dX5_readHour_48 : decode cX5_readHour 48 = .ok (.istore_n 2, 1) := dk_61 (dk_at dksX5_readHour_2 3 rfl rfl)
theorem dX5_readHour_49 : decode cX5_readHour 49 = .ok (.aload_n 0, 1) := dk_42 (dk_at dksX5_readHour_2 4 rfl rfl)
theorem dX5_readHour_50 : decode cX5_readHour 50 = .ok (.invokevirtual 149, 3) := dk_182 0 149 (dk_at dksX5_readHour_2 5 rfl rfl)
theorem dX5_readHour_53 : decode cX5_readHour 53 = .ok (.ifCond .eq 10, 3) := dk_153 0 10 (dk_at dksX5_readHour_2 8 rfl rfl)
theorem dX5_readHour_56 : decode cX5_readHour 56 = .ok (.aload_n 0, 1) := dk_42 (dk_at dksX5_readHour_2 11 rfl rfl)
theorem dX5_readHour_57 : decode cX5_readHour 57 = .ok (.invokevirtual 160, 3) := dk_182 0 160 (dk_at dksX5_readHour_2 12 rfl rfl)
theorem dX5_readHour_60 : decode cX5_readHour 60 = .ok (.goto 4, 3) := dk_167 0 4 (dk_at dksX5_readHour_2 15 rfl rfl)
theorem dX5_readHour_63 : decode cX5_readHour 63 = .ok (.iconst 0, 1) := dk_3 (dk_at dksX5_readHour_2 18 rfl rfl)
theorem dX5_readHour_64 : decode cX5_readHour 64 = .ok (.istore_n 3, 1) := dk_62 (dk_at dksX5_readHour_2 19 rfl rfl)
theorem dX5_readHour_65 : decode cX5_readHour 65 = .ok (.aload_n 0, 1) := dk_42 (dk_at dksX5_readHour_2 20 rfl rfl)
theorem dX5_readHour_66 : decode cX5_readHour 66 = .ok (.invokevirtual 149, 3) := dk_182 0 149 (dk_at dksX5_readHour_2 21 rfl rfl)
theorem dX5_readHour_69 : decode cX5_readHour 69 = .ok (.ifCond .eq 48, 3) := dk_153 0 48 (dk_at dksX5_readHour_3 0 rfl rfl)
theorem dX5_readHour_72 : decode cX5_readHour 72 = .ok (.iload_n 3, 1) := dk_29 (dk_at dksX5_readHour_3 3 rfl rfl)
theorem dX5_readHour_73 : decode cX5_readHour 73 = .ok (.bipush 119, 2) := dk_16 119 (dk_at dksX5_readHour_3 4 rfl rfl)
theorem dX5_readHour_75 : decode cX5_readHour 75 = .ok (.bipush 97, 2) := dk_16 97 (dk_at dksX5_readHour_3 6 rfl rfl)
theorem dX5_readHour_77 : decode cX5_readHour 77 = .ok (.bipush 116, 2) := dk_16 116 (dk_at dksX5_readHour_3 8 rfl rfl)
theorem dX5_readHour_79 : decode cX5_readHour 79 = .ok (.bipush 99, 2) := dk_16 99 (dk_at dksX5_readHour_3 10 rfl rfl)
theorem dX5_readHour_81 : decode cX5_readHour 81 = .ok (.bipush 104, 2) := dk_16 104 (dk_at dksX5_readHour_3 12 rfl rfl)
theorem dX5_readHour_83 : decode cX5_readHour 83 = .ok (.iconst 0, 1) := dk_3 (dk_at dksX5_readHour_3 14 rfl rfl)
theorem dX5_readHour_84 : decode cX5_readHour 84 = .ok (.invokestatic 194, 3) := dk_184 0 194 (dk_at dksX5_readHour_3 15 rfl rfl)
theorem dX5_readHour_87 : decode cX5_readHour 87 = .ok (.if_icmp .eq 30, 3) := dk_159 0 30 (dk_at dksX5_readHour_3 18 rfl rfl)
theorem dX5_readHour_90 : decode cX5_readHour 90 = .ok (.iload_n 3, 1) := dk_29 (dk_at dksX5_readHour_3 21 rfl rfl)
theorem dX5_readHour_91 : decode cX5_readHour 91 = .ok (.bipush 98, 2) := dk_16 98 (dk_at dksX5_readHour_3 22 rfl rfl)
theorem dX5_readHour_93 : decode cX5_readHour 93 = .ok (.bipush 108, 2) := dk_16 108 (dk_at dksX5_readHour_4 0 rfl rfl)
theorem dX5_readHour_95 : decode cX5_readHour 95 = .ok (.bipush 105, 2) := dk_16 105 (dk_at dksX5_readHour_4 2 rfl rfl)
theorem dX5_readHour_97 : decode cX5_readHour 97 = .ok (.bipush 110, 2) := dk_16 110 (dk_at dksX5_readHour_4 4 rfl rfl)
theorem dX5_readHour_99 : decode cX5_readHour 99 = .ok (.bipush 100, 2) := dk_16 100 (dk_at dksX5_readHour_4 6 rfl rfl)
theorem dX5_readHour_101 : decode cX5_readHour 101 = .ok (.iconst 0, 1) := dk_3 (dk_at dksX5_readHour_4 8 rfl rfl)
theorem dX5_readHour_102 : decode cX5_readHour 102 = .ok (.invokestatic 194, 3) := dk_184 0 194 (dk_at dksX5_readHour_4 9 rfl rfl)
theorem dX5_readHour_105 : decode cX5_readHour 105 = .ok (.if_icmp .eq 12, 3) := dk_159 0 12 (dk_at dksX5_readHour_4 12 rfl rfl)
theorem dX5_readHour_108 : decode cX5_readHour 108 = .ok (.aload_n 0, 1) := dk_42 (dk_at dksX5_readHour_4 15 rfl rfl)
theorem dX5_readHour_109 : decode cX5_readHour 109 = .ok (.iconst 1, 1) := dk_4 (dk_at dksX5_readHour_4 16 rfl rfl)
theorem dX5_readHour_110 : decode cX5_readHour 110 = .ok (.aload_n 0, 1) := dk_42 (dk_at dksX5_readHour_4 17 rfl rfl)
theorem dX5_readHour_111 : decode cX5_readHour 111 = .ok (.getfield 132, 3) := dk_180 0 132 (dk_at dksX5_readHour_4 18 rfl rfl)
theorem dX5_readHour_114 : decode cX5_readHour 114 = .ok (.invokevirtual 156, 3) := dk_182 0 156 (dk_at dksX5_readHour_4 21 rfl rfl)
theorem dX5_readHour_117 : decode cX5_readHour 117 = .ok (.aload_n 0, 1) := dk_42 (dk_at dksX5_readHour_5 0 rfl rfl)
theorem dX5_readHour_118 : decode cX5_readHour 118 = .ok (.invokevirtual 149, 3) := dk_182 0 149 (dk_at dksX5_readHour_5 1 rfl rfl)
theorem dX5_readHour_121 : decode cX5_readHour 121 = .ok (.ifCond .ne 4, 3) := dk_154 0 4 (dk_at dksX5_readHour_5 4 rfl rfl)
theorem dX5_readHour_124 : decode cX5_readHour 124 = .ok (.return_, 1) := dk_177 (dk_at dksX5_readHour_5 7 rfl rfl)
theorem dX5_readHour_125 : decode cX5_readHour 125 = .ok (.aload_n 0, 1) := dk_42 (dk_at dksX5_readHour_5 8 rfl rfl)
theorem dX5_readHour_126 : decode cX5_readHour 126 = .ok (.invokevirtual 163, 3) := dk_182 0 163 (dk_at dksX5_readHour_5 9 rfl rfl)
theorem dX5_readHour_129 : decode cX5_readHour 129 = .ok (.iload_n 3, 1) := dk_29 (dk_at dksX5_readHour_5 12 rfl rfl)
theorem dX5_readHour_130 : decode cX5_readHour 130 = .ok (.bipush 119, 2) := dk_16 119 (dk_at dksX5_readHour_5 13 rfl rfl)
theorem dX5_readHour_132 : decode cX5_readHour 132 = .ok (.bipush 97, 2) := dk_16 97 (dk_at dksX5_readHour_5 15 rfl rfl)
theorem dX5_readHour_134 : decode cX5_readHour 134 = .ok (.bipush 116, 2) := dk_16 116 (dk_at dksX5_readHour_5 17 rfl rfl)
theorem dX5_readHour_136 : decode cX5_readHour 136 = .ok (.bipush 99, 2) := dk_16 99 (dk_at dksX5_readHour_5 19 rfl rfl)
theorem dX5_readHour_138 : decode cX5_readHour 138 = .ok (.bipush 104, 2) := dk_16 104 (dk_at dksX5_readHour_5 21 rfl rfl)
theorem dX5_readHour_140 : decode cX5_readHour 140 = .ok (.iconst 0, 1) := dk_3 (dk_at dksX5_readHour_5 23 rfl rfl)
theorem dX5_readHour_141 : decode cX5_readHour 141 = .ok (.invokestatic 194, 3) := dk_184 0 194 (dk_at dksX5_readHour_6 0 rfl rfl)
theorem dX5_readHour_144 : decode cX5_readHour 144 = .ok (.if_icmp .ne 13, 3) := dk_160 0 13 (dk_at dksX5_readHour_6 3 rfl rfl)
theorem dX5_readHour_147 : decode cX5_readHour 147 = .ok (.aload_n 0, 1) := dk_42 (dk_at dksX5_readHour_6 6 rfl rfl)
theorem dX5_readHour_148 : decode cX5_readHour 148 = .ok (.iconst 1, 1) := dk_4 (dk_at dksX5_readHour_6 7 rfl rfl)
theorem dX5_readHour_149 : decode cX5_readHour 149 = .ok (.bipush 9, 2) := dk_16 9 (dk_at dksX5_readHour_6 8 rfl rfl)
theorem dX5_readHour_151 : decode cX5_readHour 151 = .ok (.invokevirtual 202, 3) := dk_182 0 202 (dk_at dksX5_readHour_6 10 rfl rfl)
theorem dX5_readHour_154 : decode cX5_readHour 154 = .ok (.goto 4, 3) := dk_167 0 4 (dk_at dksX5_readHour_6 13 rfl rfl)
theorem dX5_readHour_157 : decode cX5_readHour 157 = .ok (.iconst 0, 1) := dk_3 (dk_at dksX5_readHour_6 16 rfl rfl)
theorem dX5_readHour_158 : decode cX5_readHour 158 = .ok (.istore 4, 2) := dk_54 4 (dk_at dksX5_readHour_6 17 rfl rfl)
theorem dX5_readHour_160 : decode cX5_readHour 160 = .ok (.aload_n 0, 1) := dk_42 (dk_at dksX5_readHour_6 19 rfl rfl)
theorem dX5_readHour_161 : decode cX5_readHour 161 = .ok (.invokevirtual 149, 3) := dk_182 0 149 (dk_at dksX5_readHour_6 20 rfl rfl)
theorem dX5_readHour_164 : decode cX5_readHour 164 = .ok (.ifCond .ne 4, 3) := dk_154 0 4 (dk_at dksX5_readHour_7 0 rfl rfl)
theorem dX5_readHour_167 : decode cX5_readHour 167 = .ok (.return_, 1) := dk_177 (dk_at dksX5_readHour_7 3 rfl rfl)
theorem dX5_readHour_168 : decode cX5_readHour 168 = .ok (.aload_n 0, 1) := dk_42 (dk_at dksX5_readHour_7 4 rfl rfl)
theorem dX5_readHour_169 : decode cX5_readHour 169 = .ok (.getfield 29, 3) := dk_180 0 29 (dk_at dksX5_readHour_7 5 rfl rfl)
theorem dX5_readHour_172 : decode cX5_readHour 172 = .ok (.sipush 2325, 3) := dk_17 9 21 (dk_at dksX5_readHour_7 8 rfl rfl)
theorem dX5_readHour_175 : decode cX5_readHour 175 = .ok (.iconst 2, 1) := dk_5 (dk_at dksX5_readHour_7 11 rfl rfl)
theorem dX5_readHour_176 : decode cX5_readHour 176 = .ok (.iload_n 1, 1) := dk_27 (dk_at dksX5_readHour_7 12 rfl rfl)
theorem dX5_readHour_177 : decode cX5_readHour 177 = .ok (.imul, 1) := dk_104 (dk_at dksX5_readHour_7 13 rfl rfl)
theorem dX5_readHour_178 : decode cX5_readHour 178 = .ok (.iadd, 1) := dk_96 (dk_at dksX5_readHour_7 14 rfl rfl)
theorem dX5_readHour_179 : decode cX5_readHour 179 = .ok (.iload_n 2, 1) := dk_28 (dk_at dksX5_readHour_7 15 rfl rfl)
theorem dX5_readHour_180 : decode cX5_readHour 180 = .ok (.iastore, 1) := dk_79 (dk_at dksX5_readHour_7 16 rfl rfl)
theorem dX5_readHour_181 : decode cX5_readHour 181 = .ok (.aload_n 0, 1) := dk_42 (dk_at dksX5_readHour_7 17 rfl rfl)
theorem dX5_readHour_182 : decode cX5_readHour 182 = .ok (.getfield 29, 3) := dk_180 0 29 (dk_at dksX5_readHour_7 18 rfl rfl)
theorem dX5_readHour_185 : decode cX5_readHour 185 = .ok (.sipush 2325, 3) := dk_17 9 21 (dk_at dksX5_readHour_7 21 rfl rfl)
theorem dX5_readHour_188 : decode cX5_readHour 188 = .ok (.iconst 2, 1) := dk_5 (dk_at dksX5_readHour_8 0 rfl rfl)
theorem dX5_readHour_189 : decode cX5_readHour 189 = .ok (.iload_n 1, 1) := dk_27 (dk_at dksX5_readHour_8 1 rfl rfl)
theorem dX5_readHour_190 : decode cX5_readHour 190 = .ok (.imul, 1) := dk_104 (dk_at dksX5_readHour_8 2 rfl rfl)
theorem dX5_readHour_191 : decode cX5_readHour 191 = .ok (.iadd, 1) := dk_96 (dk_at dksX5_readHour_8 3 rfl rfl)
theorem dX5_readHour_192 : decode cX5_readHour 192 = .ok (.iconst 1, 1) := dk_4 (dk_at dksX5_readHour_8 4 rfl rfl)
theorem dX5_readHour_193 : decode cX5_readHour 193 = .ok (.iadd, 1) := dk_96 (dk_at dksX5_readHour_8 5 rfl rfl)
theorem dX5_readHour_194 : decode cX5_readHour 194 = .ok (.iload 4, 2) := dk_21 4 (dk_at dksX5_readHour_8 6 rfl rfl)
theorem dX5_readHour_196 : decode cX5_readHour 196 = .ok (.iastore, 1) := dk_79 (dk_at dksX5_readHour_8 8 rfl rfl)
theorem dX5_readHour_197 : decode cX5_readHour 197 = .ok (.return_, 1) := dk_177 (dk_at dksX5_readHour_8 9 rfl rfl)
