set_option maxRecDepth 100000
/-! WindingSquare -/
def RX0 : String := "WindingSquare"
def TX0 : u_T := fun k => match k with
  | 0 => ("WindingSquare", "tape", "[B", true)
  | 1 => ("WindingSquare", "taped", "I", false)
  | 2 => ("WindingSquare", "faultKind", "I", false)
  | 3 => ("WindingSquare", "faultPlace", "I", false)
  | 4 => ("WindingSquare", "square", "LWindingSquare$Square;", true)
  | 5 => ("WindingSquare", "kept", "LWindingSquare$Square;", true)
  | 6 => ("WindingSquare", "thought", "LWindingSquare$Square;", true)
  | 7 => ("WindingSquare", "back", "[LWindingSquare$Square;", true)
  | 8 => ("WindingSquare", "backMany", "I", false)
  | 9 => ("WindingSquare", "hasImage", "Z", false)
  | 10 => ("WindingSquare", "costAt", "[I", true)
  | 11 => ("WindingSquare", "queue", "[I", true)
  | 12 => ("WindingSquare", "queued", "I", false)
  | 13 => ("WindingSquare", "waysAt", "[[[I", false)
  | 14 => ("WindingSquare", "waysThen", "[[[I", false)
  | 15 => ("WindingSquare", "stoodOn", "[I", true)
  | 16 => ("WindingSquare", "pacesTo", "[I", true)
  | 17 => ("WindingSquare", "paced", "[I", true)
  | 18 => ("WindingSquare", "pacedMany", "I", false)
  | 19 => ("WindingSquare", "laid", "[Z", true)
  | 20 => ("WindingSquare", "laidUp", "[J", true)
  | 21 => ("WindingSquare", "cameFrom", "[I", true)
  | 22 => ("WindingSquare", "wentTo", "[I", true)
  | 23 => ("WindingSquare", "triedIn", "[Z", true)
  | 24 => ("WindingSquare", "triedOut", "[Z", true)
  | 25 => ("WindingSquare", "hedgeTo", "[I", true)
  | 26 => ("WindingSquare", "hedgeThen", "[I", true)
  | 27 => ("WindingSquare", "one", "LWindingSquare$Walker;", true)
  | 28 => ("WindingSquare", "other", "LWindingSquare$Walker;", true)
  | _ => ("WindingSquare", "nims", "[I", true)
def tyX0 : Nat → FieldType := fun k => match k with
  | 0 => .array .byte
  | 1 => .int
  | 2 => .int
  | 3 => .int
  | 4 => .object "WindingSquare$Square"
  | 5 => .object "WindingSquare$Square"
  | 6 => .object "WindingSquare$Square"
  | 7 => .array (.object "WindingSquare$Square")
  | 8 => .int
  | 9 => .boolean
  | 10 => .array .int
  | 11 => .array .int
  | 12 => .int
  | 13 => .array (.array (.array .int))
  | 14 => .array (.array (.array .int))
  | 15 => .array .int
  | 16 => .array .int
  | 17 => .array .int
  | 18 => .int
  | 19 => .array .boolean
  | 20 => .array .long
  | 21 => .array .int
  | 22 => .array .int
  | 23 => .array .boolean
  | 24 => .array .boolean
  | 25 => .array .int
  | 26 => .array .int
  | 27 => .object "WindingSquare$Walker"
  | 28 => .object "WindingSquare$Walker"
  | _ => .array .int
abbrev wsX00 : List Cond := u_ws RX0 TX0 30
set_option maxRecDepth 100000 in
theorem nmX0 : ∀ a, a < 30 → ∀ b, b < 30 → a ≠ b → (TX0 a).2.1 ≠ (TX0 b).2.1 := by decide +kernel
set_option maxRecDepth 100000 in
theorem tyX0_ok : ∀ k, k < 30 → parseFieldDescriptor (TX0 k).2.2.1 = some (tyX0 k) := by decide +kernel
abbrev cX0_init : ByteArray := prog_1_method_1_code
def yX0_init : MethodName := ⟨RX0, "<init>", "()V"⟩
def dkwX0_init_11 : List UInt8 := [187, 0, 88, 89, 183, 0, 90, 181, 0, 95, 42, 17, 14, 137, 188, 10, 181, 0, 98, 177]
abbrev dktX0_init_11 : List UInt8 := dkwX0_init_11 ++ []
def dkwX0_init_10 : List UInt8 := [181, 0, 82, 42, 16, 31, 188, 10, 181, 0, 85, 42, 187, 0, 88, 89, 183, 0, 90, 181, 0, 91, 42]
abbrev dktX0_init_10 : List UInt8 := dkwX0_init_10 ++ dktX0_init_11
def dkwX0_init_9 : List UInt8 := [17, 0, 144, 188, 4, 181, 0, 76, 42, 17, 0, 144, 188, 4, 181, 0, 79, 42, 16, 31, 188, 10]
abbrev dktX0_init_9 : List UInt8 := dkwX0_init_9 ++ dktX0_init_10
def dkwX0_init_8 : List UInt8 := [181, 0, 66, 42, 17, 0, 144, 188, 10, 181, 0, 70, 42, 17, 0, 144, 188, 10, 181, 0, 73, 42]
abbrev dktX0_init_8 : List UInt8 := dkwX0_init_8 ++ dktX0_init_9
def dkwX0_init_7 : List UInt8 := [17, 57, 49, 188, 10, 181, 0, 59, 42, 17, 57, 49, 188, 4, 181, 0, 62, 42, 16, 41, 188, 11]
abbrev dktX0_init_7 : List UInt8 := dkwX0_init_7 ++ dktX0_init_8
def dkwX0_init_6 : List UInt8 := [181, 0, 50, 42, 17, 9, 97, 188, 10, 181, 0, 53, 42, 17, 57, 49, 188, 10, 181, 0, 56, 42]
abbrev dktX0_init_6 : List UInt8 := dkwX0_init_6 ++ dktX0_init_7
def dkwX0_init_5 : List UInt8 := [16, 7, 17, 2, 64, 197, 0, 45, 3, 181, 0, 47, 42, 6, 16, 7, 17, 2, 64, 197, 0, 45, 3]
abbrev dktX0_init_5 : List UInt8 := dkwX0_init_5 ++ dktX0_init_6
def dkwX0_init_4 : List UInt8 := [167, 255, 234, 42, 17, 15, 192, 188, 10, 181, 0, 38, 42, 17, 15, 192, 188, 10, 181, 0, 42, 42, 6]
abbrev dktX0_init_4 : List UInt8 := dkwX0_init_4 ++ dktX0_init_5
def dkwX0_init_3 : List UInt8 := [60, 27, 16, 6, 162, 0, 22, 42, 180, 0, 30, 27, 187, 0, 17, 89, 183, 0, 19, 83, 132, 1, 1]
abbrev dktX0_init_3 : List UInt8 := dkwX0_init_3 ++ dktX0_init_4
def dkwX0_init_2 : List UInt8 := [183, 0, 19, 181, 0, 27, 42, 16, 6, 189, 0, 17, 181, 0, 30, 42, 180, 0, 27, 4, 181, 0, 34, 3]
abbrev dktX0_init_2 : List UInt8 := dkwX0_init_2 ++ dktX0_init_3
def dkwX0_init_1 : List UInt8 := [183, 0, 19, 181, 0, 20, 42, 187, 0, 17, 89, 183, 0, 19, 181, 0, 24, 42, 187, 0, 17, 89]
abbrev dktX0_init_1 : List UInt8 := dkwX0_init_1 ++ dktX0_init_2
def dkwX0_init_0 : List UInt8 := [42, 183, 0, 1, 42, 17, 1, 144, 188, 8, 181, 0, 9, 42, 2, 181, 0, 13, 42, 187, 0, 17, 89]
abbrev dktX0_init_0 : List UInt8 := dkwX0_init_0 ++ dktX0_init_1
theorem dksX0_init_0 : cX0_init.data.toList.drop 0 = dktX0_init_0 := by decide +kernel
theorem dksX0_init_1 : cX0_init.data.toList.drop 23 = dktX0_init_1 := dk_seg dksX0_init_0 23 rfl rfl
theorem dksX0_init_2 : cX0_init.data.toList.drop 45 = dktX0_init_2 := dk_seg dksX0_init_1 22 rfl rfl
theorem dksX0_init_3 : cX0_init.data.toList.drop 69 = dktX0_init_3 := dk_seg dksX0_init_2 24 rfl rfl
theorem dksX0_init_4 : cX0_init.data.toList.drop 92 = dktX0_init_4 := dk_seg dksX0_init_3 23 rfl rfl
theorem dksX0_init_5 : cX0_init.data.toList.drop 115 = dktX0_init_5 := dk_seg dksX0_init_4 23 rfl rfl
theorem dksX0_init_6 : cX0_init.data.toList.drop 138 = dktX0_init_6 := dk_seg dksX0_init_5 23 rfl rfl
theorem dksX0_init_7 : cX0_init.data.toList.drop 160 = dktX0_init_7 := dk_seg dksX0_init_6 22 rfl rfl
theorem dksX0_init_8 : cX0_init.data.toList.drop 182 = dktX0_init_8 := dk_seg dksX0_init_7 22 rfl rfl
theorem dksX0_init_9 : cX0_init.data.toList.drop 204 = dktX0_init_9 := dk_seg dksX0_init_8 22 rfl rfl
theorem dksX0_init_10 : cX0_init.data.toList.drop 226 = dktX0_init_10 := dk_seg dksX0_init_9 22 rfl rfl
theorem dksX0_init_11 : cX0_init.data.toList.drop 249 = dktX0_init_11 := dk_seg dksX0_init_10 23 rfl rfl
theorem dX0_init_0 : decode cX0_init 0 = .ok (.aload_n 0, 1) := dk_42 (dk_at dksX0_init_0 0 rfl rfl)
theorem dX0_init_1 : decode cX0_init 1 = .ok (.invokespecial 1, 3) := dk_183 0 1 (dk_at dksX0_init_0 1 rfl rfl)
theorem dX0_init_4 : decode cX0_init 4 = .ok (.aload_n 0, 1) := dk_42 (dk_at dksX0_init_0 4 rfl rfl)
theorem dX0_init_5 : decode cX0_init 5 = .ok (.sipush 400, 3) := dk_17 1 144 (dk_at dksX0_init_0 5 rfl rfl)
theorem dX0_init_8 : decode cX0_init 8 = .ok (.newarray .byte, 2) := dk_188_8 (dk_at dksX0_init_0 8 rfl rfl)
theorem dX0_init_10 : decode cX0_init 10 = .ok (.putfield 9, 3) := dk_181 0 9 (dk_at dksX0_init_0 10 rfl rfl)
theorem dX0_init_13 : decode cX0_init 13 = .ok (.aload_n 0, 1) := dk_42 (dk_at dksX0_init_0 13 rfl rfl)
theorem dX0_init_14 : decode cX0_init 14 = .ok (.iconst (-1), 1) := dk_2 (dk_at dksX0_init_0 14 rfl rfl)
theorem dX0_init_15 : decode cX0_init 15 = .ok (.putfield 13, 3) := dk_181 0 13 (dk_at dksX0_init_0 15 rfl rfl)
theorem dX0_init_18 : decode cX0_init 18 = .ok (.aload_n 0, 1) := dk_42 (dk_at dksX0_init_0 18 rfl rfl)
theorem dX0_init_19 : decode cX0_init 19 = .ok (.new 17, 3) := dk_187 0 17 (dk_at dksX0_init_0 19 rfl rfl)
theorem dX0_init_22 : decode cX0_init 22 = .ok (.dup, 1) := dk_89 (dk_at dksX0_init_0 22 rfl rfl)
theorem dX0_init_23 : decode cX0_init 23 = .ok (.invokespecial 19, 3) := dk_183 0 19 (dk_at dksX0_init_1 0 rfl rfl)
theorem dX0_init_26 : decode cX0_init 26 = .ok (.putfield 20, 3) := dk_181 0 20 (dk_at dksX0_init_1 3 rfl rfl)
theorem dX0_init_29 : decode cX0_init 29 = .ok (.aload_n 0, 1) := dk_42 (dk_at dksX0_init_1 6 rfl rfl)
theorem dX0_init_30 : decode cX0_init 30 = .ok (.new 17, 3) := dk_187 0 17 (dk_at dksX0_init_1 7 rfl rfl)
theorem dX0_init_33 : decode cX0_init 33 = .ok (.dup, 1) := dk_89 (dk_at dksX0_init_1 10 rfl rfl)
theorem dX0_init_34 : decode cX0_init 34 = .ok (.invokespecial 19, 3) := dk_183 0 19 (dk_at dksX0_init_1 11 rfl rfl)
theorem dX0_init_37 : decode cX0_init 37 = .ok (.putfield 24, 3) := dk_181 0 24 (dk_at dksX0_init_1 14 rfl rfl)
theorem dX0_init_40 : decode cX0_init 40 = .ok (.aload_n 0, 1) := dk_42 (dk_at dksX0_init_1 17 rfl rfl)
theorem dX0_init_41 : decode cX0_init 41 = .ok (.new 17, 3) := dk_187 0 17 (dk_at dksX0_init_1 18 rfl rfl)
theorem dX0_init_44 : decode cX0_init 44 = .ok (.dup, 1) := dk_89 (dk_at dksX0_init_1 21 rfl rfl)
theorem dX0_init_45 : decode cX0_init 45 = .ok (.invokespecial 19, 3) := dk_183 0 19 (dk_at dksX0_init_2 0 rfl rfl)
theorem dX0_init_48 : decode cX0_init 48 = .ok (.putfield 27, 3) := dk_181 0 27 (dk_at dksX0_init_2 3 rfl rfl)
theorem dX0_init_51 : decode cX0_init 51 = .ok (.aload_n 0, 1) := dk_42 (dk_at dksX0_init_2 6 rfl rfl)
theorem dX0_init_52 : decode cX0_init 52 = .ok (.bipush 6, 2) := dk_16 6 (dk_at dksX0_init_2 7 rfl rfl)
theorem dX0_init_54 : decode cX0_init 54 = .ok (.anewarray 17, 3) := dk_189 0 17 (dk_at dksX0_init_2 9 rfl rfl)
theorem dX0_init_57 : decode cX0_init 57 = .ok (.putfield 30, 3) := dk_181 0 30 (dk_at dksX0_init_2 12 rfl rfl)
theorem dX0_init_60 : decode cX0_init 60 = .ok (.aload_n 0, 1) := dk_42 (dk_at dksX0_init_2 15 rfl rfl)
theorem dX0_init_61 : decode cX0_init 61 = .ok (.getfield 27, 3) := dk_180 0 27 (dk_at dksX0_init_2 16 rfl rfl)
theorem dX0_init_64 : decode cX0_init 64 = .ok (.iconst 1, 1) := dk_4 (dk_at dksX0_init_2 19 rfl rfl)
theorem dX0_init_65 : decode cX0_init 65 = .ok (.putfield 34, 3) := dk_181 0 34 (dk_at dksX0_init_2 20 rfl rfl)
theorem dX0_init_68 : decode cX0_init 68 = .ok (.iconst 0, 1) := dk_3 (dk_at dksX0_init_2 23 rfl rfl)
theorem dX0_init_69 : decode cX0_init 69 = .ok (.istore_n 1, 1) := dk_60 (dk_at dksX0_init_3 0 rfl rfl)
theorem dX0_init_70 : decode cX0_init 70 = .ok (.iload_n 1, 1) := dk_27 (dk_at dksX0_init_3 1 rfl rfl)
theorem dX0_init_71 : decode cX0_init 71 = .ok (.bipush 6, 2) := dk_16 6 (dk_at dksX0_init_3 2 rfl rfl)
theorem dX0_init_73 : decode cX0_init 73 = .ok (.if_icmp .ge 22, 3) := dk_162 0 22 (dk_at dksX0_init_3 4 rfl rfl)
theorem dX0_init_76 : decode cX0_init 76 = .ok (.aload_n 0, 1) := dk_42 (dk_at dksX0_init_3 7 rfl rfl)
theorem dX0_init_77 : decode cX0_init 77 = .ok (.getfield 30, 3) := dk_180 0 30 (dk_at dksX0_init_3 8 rfl rfl)
theorem dX0_init_80 : decode cX0_init 80 = .ok (.iload_n 1, 1) := dk_27 (dk_at dksX0_init_3 11 rfl rfl)
theorem dX0_init_81 : decode cX0_init 81 = .ok (.new 17, 3) := dk_187 0 17 (dk_at dksX0_init_3 12 rfl rfl)
theorem dX0_init_84 : decode cX0_init 84 = .ok (.dup, 1) := dk_89 (dk_at dksX0_init_3 15 rfl rfl)
theorem dX0_init_85 : decode cX0_init 85 = .ok (.invokespecial 19, 3) := dk_183 0 19 (dk_at dksX0_init_3 16 rfl rfl)
theorem dX0_init_88 : decode cX0_init 88 = .ok (.aastore, 1) := dk_83 (dk_at dksX0_init_3 19 rfl rfl)
theorem dX0_init_89 : decode cX0_init 89 = .ok (.iinc 1 1, 3) := dk_132 1 1 (dk_at dksX0_init_3 20 rfl rfl)
theorem dX0_init_92 : decode cX0_init 92 = .ok (.goto (-22), 3) := dk_167 255 234 (dk_at dksX0_init_4 0 rfl rfl)
theorem dX0_init_95 : decode cX0_init 95 = .ok (.aload_n 0, 1) := dk_42 (dk_at dksX0_init_4 3 rfl rfl)
theorem dX0_init_96 : decode cX0_init 96 = .ok (.sipush 4032, 3) := dk_17 15 192 (dk_at dksX0_init_4 4 rfl rfl)
theorem dX0_init_99 : decode cX0_init 99 = .ok (.newarray .int, 2) := dk_188_10 (dk_at dksX0_init_4 7 rfl rfl)
theorem dX0_init_101 : decode cX0_init 101 = .ok (.putfield 38, 3) := dk_181 0 38 (dk_at dksX0_init_4 9 rfl rfl)
theorem dX0_init_104 : decode cX0_init 104 = .ok (.aload_n 0, 1) := dk_42 (dk_at dksX0_init_4 12 rfl rfl)
theorem dX0_init_105 : decode cX0_init 105 = .ok (.sipush 4032, 3) := dk_17 15 192 (dk_at dksX0_init_4 13 rfl rfl)
theorem dX0_init_108 : decode cX0_init 108 = .ok (.newarray .int, 2) := dk_188_10 (dk_at dksX0_init_4 16 rfl rfl)
theorem dX0_init_110 : decode cX0_init 110 = .ok (.putfield 42, 3) := dk_181 0 42 (dk_at dksX0_init_4 18 rfl rfl)
theorem dX0_init_113 : decode cX0_init 113 = .ok (.aload_n 0, 1) := dk_42 (dk_at dksX0_init_4 21 rfl rfl)
theorem dX0_init_114 : decode cX0_init 114 = .ok (.iconst 3, 1) := dk_6 (dk_at dksX0_init_4 22 rfl rfl)
theorem dX0_init_115 : decode cX0_init 115 = .ok (.bipush 7, 2) := dk_16 7 (dk_at dksX0_init_5 0 rfl rfl)
theorem dX0_init_117 : decode cX0_init 117 = .ok (.sipush 576, 3) := dk_17 2 64 (dk_at dksX0_init_5 2 rfl rfl)
theorem dX0_init_120 : decode cX0_init 120 = .ok (.multianewarray 45 3, 4) := by decide +kernel
theorem dX0_init_124 : decode cX0_init 124 = .ok (.putfield 47, 3) := dk_181 0 47 (dk_at dksX0_init_5 9 rfl rfl)
theorem dX0_init_127 : decode cX0_init 127 = .ok (.aload_n 0, 1) := dk_42 (dk_at dksX0_init_5 12 rfl rfl)
theorem dX0_init_128 : decode cX0_init 128 = .ok (.iconst 3, 1) := dk_6 (dk_at dksX0_init_5 13 rfl rfl)
theorem dX0_init_129 : decode cX0_init 129 = .ok (.bipush 7, 2) := dk_16 7 (dk_at dksX0_init_5 14 rfl rfl)
theorem dX0_init_131 : decode cX0_init 131 = .ok (.sipush 576, 3) := dk_17 2 64 (dk_at dksX0_init_5 16 rfl rfl)
theorem dX0_init_134 : decode cX0_init 134 = .ok (.multianewarray 45 3, 4) := by decide +kernel
theorem dX0_init_138 : decode cX0_init 138 = .ok (.putfield 50, 3) := dk_181 0 50 (dk_at dksX0_init_6 0 rfl rfl)
theorem dX0_init_141 : decode cX0_init 141 = .ok (.aload_n 0, 1) := dk_42 (dk_at dksX0_init_6 3 rfl rfl)
theorem dX0_init_142 : decode cX0_init 142 = .ok (.sipush 2401, 3) := dk_17 9 97 (dk_at dksX0_init_6 4 rfl rfl)
theorem dX0_init_145 : decode cX0_init 145 = .ok (.newarray .int, 2) := dk_188_10 (dk_at dksX0_init_6 7 rfl rfl)
theorem dX0_init_147 : decode cX0_init 147 = .ok (.putfield 53, 3) := dk_181 0 53 (dk_at dksX0_init_6 9 rfl rfl)
theorem dX0_init_150 : decode cX0_init 150 = .ok (.aload_n 0, 1) := dk_42 (dk_at dksX0_init_6 12 rfl rfl)
theorem dX0_init_151 : decode cX0_init 151 = .ok (.sipush 14641, 3) := dk_17 57 49 (dk_at dksX0_init_6 13 rfl rfl)
theorem dX0_init_154 : decode cX0_init 154 = .ok (.newarray .int, 2) := dk_188_10 (dk_at dksX0_init_6 16 rfl rfl)
theorem dX0_init_156 : decode cX0_init 156 = .ok (.putfield 56, 3) := dk_181 0 56 (dk_at dksX0_init_6 18 rfl rfl)
theorem dX0_init_159 : decode cX0_init 159 = .ok (.aload_n 0, 1) := dk_42 (dk_at dksX0_init_6 21 rfl rfl)
theorem dX0_init_160 : decode cX0_init 160 = .ok (.sipush 14641, 3) := dk_17 57 49 (dk_at dksX0_init_7 0 rfl rfl)
theorem dX0_init_163 : decode cX0_init 163 = .ok (.newarray .int, 2) := dk_188_10 (dk_at dksX0_init_7 3 rfl rfl)
theorem dX0_init_165 : decode cX0_init 165 = .ok (.putfield 59, 3) := dk_181 0 59 (dk_at dksX0_init_7 5 rfl rfl)
theorem dX0_init_168 : decode cX0_init 168 = .ok (.aload_n 0, 1) := dk_42 (dk_at dksX0_init_7 8 rfl rfl)
theorem dX0_init_169 : decode cX0_init 169 = .ok (.sipush 14641, 3) := dk_17 57 49 (dk_at dksX0_init_7 9 rfl rfl)
theorem dX0_init_172 : decode cX0_init 172 = .ok (.newarray .boolean, 2) := dk_188_4 (dk_at dksX0_init_7 12 rfl rfl)
theorem dX0_init_174 : decode cX0_init 174 = .ok (.putfield 62, 3) := dk_181 0 62 (dk_at dksX0_init_7 14 rfl rfl)
theorem dX0_init_177 : decode cX0_init 177 = .ok (.aload_n 0, 1) := dk_42 (dk_at dksX0_init_7 17 rfl rfl)
theorem dX0_init_178 : decode cX0_init 178 = .ok (.bipush 41, 2) := dk_16 41 (dk_at dksX0_init_7 18 rfl rfl)
theorem dX0_init_180 : decode cX0_init 180 = .ok (.newarray .long, 2) := dk_188_11 (dk_at dksX0_init_7 20 rfl rfl)
theorem dX0_init_182 : decode cX0_init 182 = .ok (.putfield 66, 3) := dk_181 0 66 (dk_at dksX0_init_8 0 rfl rfl)
theorem dX0_init_185 : decode cX0_init 185 = .ok (.aload_n 0, 1) := dk_42 (dk_at dksX0_init_8 3 rfl rfl)
theorem dX0_init_186 : decode cX0_init 186 = .ok (.sipush 144, 3) := dk_17 0 144 (dk_at dksX0_init_8 4 rfl rfl)
theorem dX0_init_189 : decode cX0_init 189 = .ok (.newarray .int, 2) := dk_188_10 (dk_at dksX0_init_8 7 rfl rfl)
theorem dX0_init_191 : decode cX0_init 191 = .ok (.putfield 70, 3) := dk_181 0 70 (dk_at dksX0_init_8 9 rfl rfl)
theorem dX0_init_194 : decode cX0_init 194 = .ok (.aload_n 0, 1) := dk_42 (dk_at dksX0_init_8 12 rfl rfl)
theorem dX0_init_195 : decode cX0_init 195 = .ok (.sipush 144, 3) := dk_17 0 144 (dk_at dksX0_init_8 13 rfl rfl)
theorem dX0_init_198 : decode cX0_init 198 = .ok (.newarray .int, 2) := dk_188_10 (dk_at dksX0_init_8 16 rfl rfl)
theorem dX0_init_200 : decode cX0_init 200 = .ok (.putfield 73, 3) := dk_181 0 73 (dk_at dksX0_init_8 18 rfl rfl)
theorem dX0_init_203 : decode cX0_init 203 = .ok (.aload_n 0, 1) := dk_42 (dk_at dksX0_init_8 21 rfl rfl)
theorem dX0_init_204 : decode cX0_init 204 = .ok (.sipush 144, 3) := dk_17 0 144 (dk_at dksX0_init_9 0 rfl rfl)
theorem dX0_init_207 : decode cX0_init 207 = .ok (.newarray .boolean, 2) := dk_188_4 (dk_at dksX0_init_9 3 rfl rfl)
theorem dX0_init_209 : decode cX0_init 209 = .ok (.putfield 76, 3) := dk_181 0 76 (dk_at dksX0_init_9 5 rfl rfl)
theorem dX0_init_212 : decode cX0_init 212 = .ok (.aload_n 0, 1) := dk_42 (dk_at dksX0_init_9 8 rfl rfl)
theorem dX0_init_213 : decode cX0_init 213 = .ok (.sipush 144, 3) := dk_17 0 144 (dk_at dksX0_init_9 9 rfl rfl)
theorem dX0_init_216 : decode cX0_init 216 = .ok (.newarray .boolean, 2) := dk_188_4 (dk_at dksX0_init_9 12 rfl rfl)
theorem dX0_init_218 : decode cX0_init 218 = .ok (.putfield 79, 3) := dk_181 0 79 (dk_at dksX0_init_9 14 rfl rfl)
theorem dX0_init_221 : decode cX0_init 221 = .ok (.aload_n 0, 1) := dk_42 (dk_at dksX0_init_9 17 rfl rfl)
theorem dX0_init_222 : decode cX0_init 222 = .ok (.bipush 31, 2) := dk_16 31 (dk_at dksX0_init_9 18 rfl rfl)
theorem dX0_init_224 : decode cX0_init 224 = .ok (.newarray .int, 2) := dk_188_10 (dk_at dksX0_init_9 20 rfl rfl)
theorem dX0_init_226 : decode cX0_init 226 = .ok (.putfield 82, 3) := dk_181 0 82 (dk_at dksX0_init_10 0 rfl rfl)
theorem dX0_init_229 : decode cX0_init 229 = .ok (.aload_n 0, 1) := dk_42 (dk_at dksX0_init_10 3 rfl rfl)
theorem dX0_init_230 : decode cX0_init 230 = .ok (.bipush 31, 2) := dk_16 31 (dk_at dksX0_init_10 4 rfl rfl)
theorem dX0_init_232 : decode cX0_init 232 = .ok (.newarray .int, 2) := dk_188_10 (dk_at dksX0_init_10 6 rfl rfl)
theorem dX0_init_234 : decode cX0_init 234 = .ok (.putfield 85, 3) := dk_181 0 85 (dk_at dksX0_init_10 8 rfl rfl)
theorem dX0_init_237 : decode cX0_init 237 = .ok (.aload_n 0, 1) := dk_42 (dk_at dksX0_init_10 11 rfl rfl)
theorem dX0_init_238 : decode cX0_init 238 = .ok (.new 88, 3) := dk_187 0 88 (dk_at dksX0_init_10 12 rfl rfl)
theorem dX0_init_241 : decode cX0_init 241 = .ok (.dup, 1) := dk_89 (dk_at dksX0_init_10 15 rfl rfl)
theorem dX0_init_242 : decode cX0_init 242 = .ok (.invokespecial 90, 3) := dk_183 0 90 (dk_at dksX0_init_10 16 rfl rfl)
theorem dX0_init_245 : decode cX0_init 245 = .ok (.putfield 91, 3) := dk_181 0 91 (dk_at dksX0_init_10 19 rfl rfl)
theorem dX0_init_248 : decode cX0_init 248 = .ok (.aload_n 0, 1) := dk_42 (dk_at dksX0_init_10 22 rfl rfl)
theorem dX0_init_249 : decode cX0_init 249 = .ok (.new 88, 3) := dk_187 0 88 (dk_at dksX0_init_11 0 rfl rfl)
theorem dX0_init_252 : decode cX0_init 252 = .ok (.dup, 1) := dk_89 (dk_at dksX0_init_11 3 rfl rfl)
theorem dX0_init_253 : decode cX0_init 253 = .ok (.invokespecial 90, 3) := dk_183 0 90 (dk_at dksX0_init_11 4 rfl rfl)
theorem dX0_init_256 : decode cX0_init 256 = .ok (.putfield 95, 3) := dk_181 0 95 (dk_at dksX0_init_11 7 rfl rfl)
theorem dX0_init_259 : decode cX0_init 259 = .ok (.aload_n 0, 1) := dk_42 (dk_at dksX0_init_11 10 rfl rfl)
theorem dX0_init_260 : decode cX0_init 260 = .ok (.sipush 3721, 3) := dk_17 14 137 (dk_at dksX0_init_11 11 rfl rfl)
theorem dX0_init_263 : decode cX0_init 263 = .ok (.newarray .int, 2) := dk_188_10 (dk_at dksX0_init_11 14 rfl rfl)
theorem dX0_init_265 : decode cX0_init 265 = .ok (.putfield 98, 3) := dk_181 0 98 (dk_at dksX0_init_11 16 rfl rfl)
theorem dX0_init_268 : decode cX0_init 268 = .ok (.return_, 1) := dk_177 (dk_at dksX0_init_11 19 rfl rfl)
abbrev cX0_feed : ByteArray := prog_1_method_8_code
def yX0_feed : MethodName := ⟨RX0, "feed", "(IIIII)I"⟩
def dkwX0_feed_2 : List UInt8 := [172]
abbrev dktX0_feed_2 : List UInt8 := dkwX0_feed_2 ++ []
def dkwX0_feed_1 : List UInt8 := [182, 0, 128, 42, 29, 182, 0, 128, 42, 21, 4, 182, 0, 128, 42, 21, 5, 182, 0, 128, 42, 180, 0, 125]
abbrev dktX0_feed_1 : List UInt8 := dkwX0_feed_1 ++ dktX0_feed_2
def dkwX0_feed_0 : List UInt8 := [42, 180, 0, 125, 16, 20, 96, 17, 1, 144, 164, 0, 5, 2, 172, 42, 27, 182, 0, 128, 42, 28]
abbrev dktX0_feed_0 : List UInt8 := dkwX0_feed_0 ++ dktX0_feed_1
theorem dksX0_feed_0 : cX0_feed.data.toList.drop 0 = dktX0_feed_0 := by decide +kernel
theorem dksX0_feed_1 : cX0_feed.data.toList.drop 22 = dktX0_feed_1 := dk_seg dksX0_feed_0 22 rfl rfl
theorem dksX0_feed_2 : cX0_feed.data.toList.drop 46 = dktX0_feed_2 := dk_seg dksX0_feed_1 24 rfl rfl
theorem dX0_feed_0 : decode cX0_feed 0 = .ok (.aload_n 0, 1) := dk_42 (dk_at dksX0_feed_0 0 rfl rfl)
theorem dX0_feed_1 : decode cX0_feed 1 = .ok (.getfield 125, 3) := dk_180 0 125 (dk_at dksX0_feed_0 1 rfl rfl)
theorem dX0_feed_4 : decode cX0_feed 4 = .ok (.bipush 20, 2) := dk_16 20 (dk_at dksX0_feed_0 4 rfl rfl)
theorem dX0_feed_6 : decode cX0_feed 6 = .ok (.iadd, 1) := dk_96 (dk_at dksX0_feed_0 6 rfl rfl)
theorem dX0_feed_7 : decode cX0_feed 7 = .ok (.sipush 400, 3) := dk_17 1 144 (dk_at dksX0_feed_0 7 rfl rfl)
theorem dX0_feed_10 : decode cX0_feed 10 = .ok (.if_icmp .le 5, 3) := dk_164 0 5 (dk_at dksX0_feed_0 10 rfl rfl)
theorem dX0_feed_13 : decode cX0_feed 13 = .ok (.iconst (-1), 1) := dk_2 (dk_at dksX0_feed_0 13 rfl rfl)
theorem dX0_feed_14 : decode cX0_feed 14 = .ok (.ireturn, 1) := dk_172 (dk_at dksX0_feed_0 14 rfl rfl)
theorem dX0_feed_15 : decode cX0_feed 15 = .ok (.aload_n 0, 1) := dk_42 (dk_at dksX0_feed_0 15 rfl rfl)
theorem dX0_feed_16 : decode cX0_feed 16 = .ok (.iload_n 1, 1) := dk_27 (dk_at dksX0_feed_0 16 rfl rfl)
theorem dX0_feed_17 : decode cX0_feed 17 = .ok (.invokevirtual 128, 3) := dk_182 0 128 (dk_at dksX0_feed_0 17 rfl rfl)
theorem dX0_feed_20 : decode cX0_feed 20 = .ok (.aload_n 0, 1) := dk_42 (dk_at dksX0_feed_0 20 rfl rfl)
theorem dX0_feed_21 : decode cX0_feed 21 = .ok (.iload_n 2, 1) := dk_28 (dk_at dksX0_feed_0 21 rfl rfl)
theorem dX0_feed_22 : decode cX0_feed 22 = .ok (.invokevirtual 128, 3) := dk_182 0 128 (dk_at dksX0_feed_1 0 rfl rfl)
theorem dX0_feed_25 : decode cX0_feed 25 = .ok (.aload_n 0, 1) := dk_42 (dk_at dksX0_feed_1 3 rfl rfl)
theorem dX0_feed_26 : decode cX0_feed 26 = .ok (.iload_n 3, 1) := dk_29 (dk_at dksX0_feed_1 4 rfl rfl)
theorem dX0_feed_27 : decode cX0_feed 27 = .ok (.invokevirtual 128, 3) := dk_182 0 128 (dk_at dksX0_feed_1 5 rfl rfl)
theorem dX0_feed_30 : decode cX0_feed 30 = .ok (.aload_n 0, 1) := dk_42 (dk_at dksX0_feed_1 8 rfl rfl)
theorem dX0_feed_31 : decode cX0_feed 31 = .ok (.iload 4, 2) := dk_21 4 (dk_at dksX0_feed_1 9 rfl rfl)
theorem dX0_feed_33 : decode cX0_feed 33 = .ok (.invokevirtual 128, 3) := dk_182 0 128 (dk_at dksX0_feed_1 11 rfl rfl)
theorem dX0_feed_36 : decode cX0_feed 36 = .ok (.aload_n 0, 1) := dk_42 (dk_at dksX0_feed_1 14 rfl rfl)
theorem dX0_feed_37 : decode cX0_feed 37 = .ok (.iload 5, 2) := dk_21 5 (dk_at dksX0_feed_1 15 rfl rfl)
theorem dX0_feed_39 : decode cX0_feed 39 = .ok (.invokevirtual 128, 3) := dk_182 0 128 (dk_at dksX0_feed_1 17 rfl rfl)
theorem dX0_feed_42 : decode cX0_feed 42 = .ok (.aload_n 0, 1) := dk_42 (dk_at dksX0_feed_1 20 rfl rfl)
theorem dX0_feed_43 : decode cX0_feed 43 = .ok (.getfield 125, 3) := dk_180 0 125 (dk_at dksX0_feed_1 21 rfl rfl)
theorem dX0_feed_46 : decode cX0_feed 46 = .ok (.ireturn, 1) := dk_172 (dk_at dksX0_feed_2 0 rfl rfl)
abbrev cX0_word : ByteArray := prog_1_method_9_code
def yX0_word : MethodName := ⟨RX0, "word", "(I)V"⟩
def dkwX0_word_1 : List UInt8 := [180, 0, 125, 4, 96, 181, 0, 125, 132, 2, 248, 167, 255, 226, 177]
abbrev dktX0_word_1 : List UInt8 := dkwX0_word_1 ++ []
def dkwX0_word_0 : List UInt8 := [16, 24, 61, 28, 155, 0, 32, 42, 180, 0, 9, 42, 180, 0, 125, 27, 28, 122, 145, 84, 42, 89]
abbrev dktX0_word_0 : List UInt8 := dkwX0_word_0 ++ dktX0_word_1
theorem dksX0_word_0 : cX0_word.data.toList.drop 0 = dktX0_word_0 := by decide +kernel
theorem dksX0_word_1 : cX0_word.data.toList.drop 22 = dktX0_word_1 := dk_seg dksX0_word_0 22 rfl rfl
theorem dX0_word_0 : decode cX0_word 0 = .ok (.bipush 24, 2) := dk_16 24 (dk_at dksX0_word_0 0 rfl rfl)
theorem dX0_word_2 : decode cX0_word 2 = .ok (.istore_n 2, 1) := dk_61 (dk_at dksX0_word_0 2 rfl rfl)
theorem dX0_word_3 : decode cX0_word 3 = .ok (.iload_n 2, 1) := dk_28 (dk_at dksX0_word_0 3 rfl rfl)
theorem dX0_word_4 : decode cX0_word 4 = .ok (.ifCond .lt 32, 3) := dk_155 0 32 (dk_at dksX0_word_0 4 rfl rfl)
theorem dX0_word_7 : decode cX0_word 7 = .ok (.aload_n 0, 1) := dk_42 (dk_at dksX0_word_0 7 rfl rfl)
theorem dX0_word_8 : decode cX0_word 8 = .ok (.getfield 9, 3) := dk_180 0 9 (dk_at dksX0_word_0 8 rfl rfl)
theorem dX0_word_11 : decode cX0_word 11 = .ok (.aload_n 0, 1) := dk_42 (dk_at dksX0_word_0 11 rfl rfl)
theorem dX0_word_12 : decode cX0_word 12 = .ok (.getfield 125, 3) := dk_180 0 125 (dk_at dksX0_word_0 12 rfl rfl)
theorem dX0_word_15 : decode cX0_word 15 = .ok (.iload_n 1, 1) := dk_27 (dk_at dksX0_word_0 15 rfl rfl)
theorem dX0_word_16 : decode cX0_word 16 = .ok (.iload_n 2, 1) := dk_28 (dk_at dksX0_word_0 16 rfl rfl)
theorem dX0_word_17 : decode cX0_word 17 = .ok (.ishr, 1) := dk_122 (dk_at dksX0_word_0 17 rfl rfl)
theorem dX0_word_18 : decode cX0_word 18 = .ok (.i2b, 1) := dk_145 (dk_at dksX0_word_0 18 rfl rfl)
theorem dX0_word_19 : decode cX0_word 19 = .ok (.bastore, 1) := dk_84 (dk_at dksX0_word_0 19 rfl rfl)
theorem dX0_word_20 : decode cX0_word 20 = .ok (.aload_n 0, 1) := dk_42 (dk_at dksX0_word_0 20 rfl rfl)
theorem dX0_word_21 : decode cX0_word 21 = .ok (.dup, 1) := dk_89 (dk_at dksX0_word_0 21 rfl rfl)
theorem dX0_word_22 : decode cX0_word 22 = .ok (.getfield 125, 3) := dk_180 0 125 (dk_at dksX0_word_1 0 rfl rfl)
theorem dX0_word_25 : decode cX0_word 25 = .ok (.iconst 1, 1) := dk_4 (dk_at dksX0_word_1 3 rfl rfl)
theorem dX0_word_26 : decode cX0_word 26 = .ok (.iadd, 1) := dk_96 (dk_at dksX0_word_1 4 rfl rfl)
theorem dX0_word_27 : decode cX0_word 27 = .ok (.putfield 125, 3) := dk_181 0 125 (dk_at dksX0_word_1 5 rfl rfl)
theorem dX0_word_30 : decode cX0_word 30 = .ok (.iinc 2 (-8), 3) := dk_132 2 248 (dk_at dksX0_word_1 8 rfl rfl)
theorem dX0_word_33 : decode cX0_word 33 = .ok (.goto (-30), 3) := dk_167 255 226 (dk_at dksX0_word_1 11 rfl rfl)
theorem dX0_word_36 : decode cX0_word 36 = .ok (.return_, 1) := dk_177 (dk_at dksX0_word_1 14 rfl rfl)
abbrev cX0_end : ByteArray := prog_1_method_10_code
def yX0_end : MethodName := ⟨RX0, "end", "(I)Z"⟩
def dkwX0_end_0 : List UInt8 := [27, 3, 42, 180, 0, 125, 184, 0, 110, 154, 0, 5, 3, 172, 42, 27, 181, 0, 125, 4, 172]
abbrev dktX0_end_0 : List UInt8 := dkwX0_end_0 ++ []
theorem dksX0_end_0 : cX0_end.data.toList.drop 0 = dktX0_end_0 := by decide +kernel
theorem dX0_end_0 : decode cX0_end 0 = .ok (.iload_n 1, 1) := dk_27 (dk_at dksX0_end_0 0 rfl rfl)
theorem dX0_end_1 : decode cX0_end 1 = .ok (.iconst 0, 1) := dk_3 (dk_at dksX0_end_0 1 rfl rfl)
theorem dX0_end_2 : decode cX0_end 2 = .ok (.aload_n 0, 1) := dk_42 (dk_at dksX0_end_0 2 rfl rfl)
theorem dX0_end_3 : decode cX0_end 3 = .ok (.getfield 125, 3) := dk_180 0 125 (dk_at dksX0_end_0 3 rfl rfl)
theorem dX0_end_6 : decode cX0_end 6 = .ok (.invokestatic 110, 3) := dk_184 0 110 (dk_at dksX0_end_0 6 rfl rfl)
theorem dX0_end_9 : decode cX0_end 9 = .ok (.ifCond .ne 5, 3) := dk_154 0 5 (dk_at dksX0_end_0 9 rfl rfl)
theorem dX0_end_12 : decode cX0_end 12 = .ok (.iconst 0, 1) := dk_3 (dk_at dksX0_end_0 12 rfl rfl)
theorem dX0_end_13 : decode cX0_end 13 = .ok (.ireturn, 1) := dk_172 (dk_at dksX0_end_0 13 rfl rfl)
theorem dX0_end_14 : decode cX0_end 14 = .ok (.aload_n 0, 1) := dk_42 (dk_at dksX0_end_0 14 rfl rfl)
theorem dX0_end_15 : decode cX0_end 15 = .ok (.iload_n 1, 1) := dk_27 (dk_at dksX0_end_0 15 rfl rfl)
theorem dX0_end_16 : decode cX0_end 16 = .ok (.putfield 125, 3) := dk_181 0 125 (dk_at dksX0_end_0 16 rfl rfl)
theorem dX0_end_19 : decode cX0_end 19 = .ok (.iconst 1, 1) := dk_4 (dk_at dksX0_end_0 19 rfl rfl)
theorem dX0_end_20 : decode cX0_end 20 = .ok (.ireturn, 1) := dk_172 (dk_at dksX0_end_0 20 rfl rfl)
abbrev cX0_isIn : ByteArray := prog_1_method_2_code
def yX0_isIn : MethodName := ⟨RX0, "isIn", "(III)Z"⟩
def dkwX0_isIn_0 : List UInt8 := [26, 27, 161, 0, 12, 26, 28, 163, 0, 7, 4, 167, 0, 4, 3, 172]
abbrev dktX0_isIn_0 : List UInt8 := dkwX0_isIn_0 ++ []
theorem dksX0_isIn_0 : cX0_isIn.data.toList.drop 0 = dktX0_isIn_0 := by decide +kernel
theorem dX0_isIn_0 : decode cX0_isIn 0 = .ok (.iload_n 0, 1) := dk_26 (dk_at dksX0_isIn_0 0 rfl rfl)
theorem dX0_isIn_1 : decode cX0_isIn 1 = .ok (.iload_n 1, 1) := dk_27 (dk_at dksX0_isIn_0 1 rfl rfl)
theorem dX0_isIn_2 : decode cX0_isIn 2 = .ok (.if_icmp .lt 12, 3) := dk_161 0 12 (dk_at dksX0_isIn_0 2 rfl rfl)
theorem dX0_isIn_5 : decode cX0_isIn 5 = .ok (.iload_n 0, 1) := dk_26 (dk_at dksX0_isIn_0 5 rfl rfl)
theorem dX0_isIn_6 : decode cX0_isIn 6 = .ok (.iload_n 2, 1) := dk_28 (dk_at dksX0_isIn_0 6 rfl rfl)
theorem dX0_isIn_7 : decode cX0_isIn 7 = .ok (.if_icmp .gt 7, 3) := dk_163 0 7 (dk_at dksX0_isIn_0 7 rfl rfl)
theorem dX0_isIn_10 : decode cX0_isIn 10 = .ok (.iconst 1, 1) := dk_4 (dk_at dksX0_isIn_0 10 rfl rfl)
theorem dX0_isIn_11 : decode cX0_isIn 11 = .ok (.goto 4, 3) := dk_167 0 4 (dk_at dksX0_isIn_0 11 rfl rfl)
theorem dX0_isIn_14 : decode cX0_isIn 14 = .ok (.iconst 0, 1) := dk_3 (dk_at dksX0_isIn_0 14 rfl rfl)
theorem dX0_isIn_15 : decode cX0_isIn 15 = .ok (.ireturn, 1) := dk_172 (dk_at dksX0_isIn_0 15 rfl rfl)
abbrev cX0_text : ByteArray := prog_1_method_12_code
def yX0_text : MethodName := ⟨RX0, "text", "(I)I"⟩
def dkwX0_text_3 : List UInt8 := [191]
abbrev dktX0_text_3 : List UInt8 := dkwX0_text_3 ++ []
def dkwX0_text_2 : List UInt8 := [180, 0, 200, 181, 0, 13, 2, 62, 42, 3, 181, 0, 125, 29, 172, 58, 4, 42, 3, 181, 0, 125, 25, 4]
abbrev dktX0_text_2 : List UInt8 := dkwX0_text_2 ++ dktX0_text_3
def dkwX0_text_1 : List UInt8 := [167, 0, 4, 2, 61, 42, 3, 181, 0, 125, 28, 172, 77, 42, 44, 180, 0, 197, 181, 0, 189, 42, 44]
abbrev dktX0_text_1 : List UInt8 := dkwX0_text_1 ++ dktX0_text_2
def dkwX0_text_0 : List UInt8 := [42, 3, 181, 0, 189, 42, 2, 181, 0, 13, 27, 3, 6, 184, 0, 110, 153, 0, 11, 42, 27, 182, 0, 192]
abbrev dktX0_text_0 : List UInt8 := dkwX0_text_0 ++ dktX0_text_1
theorem dksX0_text_0 : cX0_text.data.toList.drop 0 = dktX0_text_0 := by decide +kernel
theorem dksX0_text_1 : cX0_text.data.toList.drop 24 = dktX0_text_1 := dk_seg dksX0_text_0 24 rfl rfl
theorem dksX0_text_2 : cX0_text.data.toList.drop 47 = dktX0_text_2 := dk_seg dksX0_text_1 23 rfl rfl
theorem dksX0_text_3 : cX0_text.data.toList.drop 71 = dktX0_text_3 := dk_seg dksX0_text_2 24 rfl rfl
theorem dX0_text_0 : decode cX0_text 0 = .ok (.aload_n 0, 1) := dk_42 (dk_at dksX0_text_0 0 rfl rfl)
theorem dX0_text_1 : decode cX0_text 1 = .ok (.iconst 0, 1) := dk_3 (dk_at dksX0_text_0 1 rfl rfl)
theorem dX0_text_2 : decode cX0_text 2 = .ok (.putfield 189, 3) := dk_181 0 189 (dk_at dksX0_text_0 2 rfl rfl)
theorem dX0_text_5 : decode cX0_text 5 = .ok (.aload_n 0, 1) := dk_42 (dk_at dksX0_text_0 5 rfl rfl)
theorem dX0_text_6 : decode cX0_text 6 = .ok (.iconst (-1), 1) := dk_2 (dk_at dksX0_text_0 6 rfl rfl)
theorem dX0_text_7 : decode cX0_text 7 = .ok (.putfield 13, 3) := dk_181 0 13 (dk_at dksX0_text_0 7 rfl rfl)
theorem dX0_text_10 : decode cX0_text 10 = .ok (.iload_n 1, 1) := dk_27 (dk_at dksX0_text_0 10 rfl rfl)
theorem dX0_text_11 : decode cX0_text 11 = .ok (.iconst 0, 1) := dk_3 (dk_at dksX0_text_0 11 rfl rfl)
theorem dX0_text_12 : decode cX0_text 12 = .ok (.iconst 3, 1) := dk_6 (dk_at dksX0_text_0 12 rfl rfl)
theorem dX0_text_13 : decode cX0_text 13 = .ok (.invokestatic 110, 3) := dk_184 0 110 (dk_at dksX0_text_0 13 rfl rfl)
theorem dX0_text_16 : decode cX0_text 16 = .ok (.ifCond .eq 11, 3) := dk_153 0 11 (dk_at dksX0_text_0 16 rfl rfl)
theorem dX0_text_19 : decode cX0_text 19 = .ok (.aload_n 0, 1) := dk_42 (dk_at dksX0_text_0 19 rfl rfl)
theorem dX0_text_20 : decode cX0_text 20 = .ok (.iload_n 1, 1) := dk_27 (dk_at dksX0_text_0 20 rfl rfl)
theorem dX0_text_21 : decode cX0_text 21 = .ok (.invokevirtual 192, 3) := dk_182 0 192 (dk_at dksX0_text_0 21 rfl rfl)
theorem dX0_text_24 : decode cX0_text 24 = .ok (.goto 4, 3) := dk_167 0 4 (dk_at dksX0_text_1 0 rfl rfl)
theorem dX0_text_27 : decode cX0_text 27 = .ok (.iconst (-1), 1) := dk_2 (dk_at dksX0_text_1 3 rfl rfl)
theorem dX0_text_28 : decode cX0_text 28 = .ok (.istore_n 2, 1) := dk_61 (dk_at dksX0_text_1 4 rfl rfl)
theorem dX0_text_29 : decode cX0_text 29 = .ok (.aload_n 0, 1) := dk_42 (dk_at dksX0_text_1 5 rfl rfl)
theorem dX0_text_30 : decode cX0_text 30 = .ok (.iconst 0, 1) := dk_3 (dk_at dksX0_text_1 6 rfl rfl)
theorem dX0_text_31 : decode cX0_text 31 = .ok (.putfield 125, 3) := dk_181 0 125 (dk_at dksX0_text_1 7 rfl rfl)
theorem dX0_text_34 : decode cX0_text 34 = .ok (.iload_n 2, 1) := dk_28 (dk_at dksX0_text_1 10 rfl rfl)
theorem dX0_text_35 : decode cX0_text 35 = .ok (.ireturn, 1) := dk_172 (dk_at dksX0_text_1 11 rfl rfl)
theorem dX0_text_36 : decode cX0_text 36 = .ok (.astore_n 2, 1) := dk_77 (dk_at dksX0_text_1 12 rfl rfl)
theorem dX0_text_37 : decode cX0_text 37 = .ok (.aload_n 0, 1) := dk_42 (dk_at dksX0_text_1 13 rfl rfl)
theorem dX0_text_38 : decode cX0_text 38 = .ok (.aload_n 2, 1) := dk_44 (dk_at dksX0_text_1 14 rfl rfl)
theorem dX0_text_39 : decode cX0_text 39 = .ok (.getfield 197, 3) := dk_180 0 197 (dk_at dksX0_text_1 15 rfl rfl)
theorem dX0_text_42 : decode cX0_text 42 = .ok (.putfield 189, 3) := dk_181 0 189 (dk_at dksX0_text_1 18 rfl rfl)
theorem dX0_text_45 : decode cX0_text 45 = .ok (.aload_n 0, 1) := dk_42 (dk_at dksX0_text_1 21 rfl rfl)
theorem dX0_text_46 : decode cX0_text 46 = .ok (.aload_n 2, 1) := dk_44 (dk_at dksX0_text_1 22 rfl rfl)
theorem dX0_text_47 : decode cX0_text 47 = .ok (.getfield 200, 3) := dk_180 0 200 (dk_at dksX0_text_2 0 rfl rfl)
theorem dX0_text_50 : decode cX0_text 50 = .ok (.putfield 13, 3) := dk_181 0 13 (dk_at dksX0_text_2 3 rfl rfl)
theorem dX0_text_53 : decode cX0_text 53 = .ok (.iconst (-1), 1) := dk_2 (dk_at dksX0_text_2 6 rfl rfl)
theorem dX0_text_54 : decode cX0_text 54 = .ok (.istore_n 3, 1) := dk_62 (dk_at dksX0_text_2 7 rfl rfl)
theorem dX0_text_55 : decode cX0_text 55 = .ok (.aload_n 0, 1) := dk_42 (dk_at dksX0_text_2 8 rfl rfl)
theorem dX0_text_56 : decode cX0_text 56 = .ok (.iconst 0, 1) := dk_3 (dk_at dksX0_text_2 9 rfl rfl)
theorem dX0_text_57 : decode cX0_text 57 = .ok (.putfield 125, 3) := dk_181 0 125 (dk_at dksX0_text_2 10 rfl rfl)
theorem dX0_text_60 : decode cX0_text 60 = .ok (.iload_n 3, 1) := dk_29 (dk_at dksX0_text_2 13 rfl rfl)
theorem dX0_text_61 : decode cX0_text 61 = .ok (.ireturn, 1) := dk_172 (dk_at dksX0_text_2 14 rfl rfl)
theorem dX0_text_62 : decode cX0_text 62 = .ok (.astore 4, 2) := dk_58 4 (dk_at dksX0_text_2 15 rfl rfl)
theorem dX0_text_64 : decode cX0_text 64 = .ok (.aload_n 0, 1) := dk_42 (dk_at dksX0_text_2 17 rfl rfl)
theorem dX0_text_65 : decode cX0_text 65 = .ok (.iconst 0, 1) := dk_3 (dk_at dksX0_text_2 18 rfl rfl)
theorem dX0_text_66 : decode cX0_text 66 = .ok (.putfield 125, 3) := dk_181 0 125 (dk_at dksX0_text_2 19 rfl rfl)
theorem dX0_text_69 : decode cX0_text 69 = .ok (.aload 4, 2) := dk_25 4 (dk_at dksX0_text_2 22 rfl rfl)
theorem dX0_text_71 : decode cX0_text 71 = .ok (.athrow, 1) := dk_191 (dk_at dksX0_text_3 0 rfl rfl)
abbrev cX0_reads : ByteArray := prog_1_method_11_code
def yX0_reads : MethodName := ⟨RX0, "reads", "(I)I"⟩
def dkwX0_reads_7 : List UInt8 := [180, 0, 20, 180, 0, 183, 182, 0, 144, 62, 42, 182, 0, 185, 87, 29, 172]
abbrev dktX0_reads_7 : List UInt8 := dkwX0_reads_7 ++ []
def dkwX0_reads_6 : List UInt8 := [182, 0, 177, 132, 4, 1, 167, 255, 233, 167, 0, 25, 42, 180, 0, 20, 44, 182, 0, 180, 181, 0, 183, 42]
abbrev dktX0_reads_6 : List UInt8 := dkwX0_reads_6 ++ dktX0_reads_7
def dkwX0_reads_5 : List UInt8 := [181, 0, 170, 3, 54, 4, 21, 4, 16, 16, 162, 0, 22, 42, 180, 0, 20, 180, 0, 173, 21, 4, 50]
abbrev dktX0_reads_5 : List UInt8 := dkwX0_reads_5 ++ dktX0_reads_6
def dkwX0_reads_4 : List UInt8 := [167, 0, 81, 42, 180, 0, 20, 44, 182, 0, 164, 181, 0, 167, 44, 180, 0, 158, 62, 42, 180, 0, 20, 29]
abbrev dktX0_reads_4 : List UInt8 := dkwX0_reads_4 ++ dktX0_reads_5
def dkwX0_reads_3 : List UInt8 := [180, 0, 20, 44, 182, 0, 150, 182, 0, 154, 44, 180, 0, 158, 62, 42, 180, 0, 20, 29, 181, 0, 161]
abbrev dktX0_reads_3 : List UInt8 := dkwX0_reads_3 ++ dktX0_reads_4
def dkwX0_reads_2 : List UInt8 := [42, 180, 0, 20, 44, 182, 0, 137, 181, 0, 141, 42, 180, 0, 20, 180, 0, 141, 182, 0, 144, 172, 42]
abbrev dktX0_reads_2 : List UInt8 := dkwX0_reads_2 ++ dktX0_reads_3
def dkwX0_reads_1 : List UInt8 := [170, 0, 0, 0, 130, 0, 0, 0, 0, 0, 0, 0, 2, 0, 0, 0, 25, 0, 0, 0, 47, 0, 0, 0, 74]
abbrev dktX0_reads_1 : List UInt8 := dkwX0_reads_1 ++ dktX0_reads_2
def dkwX0_reads_0 : List UInt8 := [187, 0, 132, 89, 42, 27, 183, 0, 134, 77, 27]
abbrev dktX0_reads_0 : List UInt8 := dkwX0_reads_0 ++ dktX0_reads_1
theorem dksX0_reads_0 : cX0_reads.data.toList.drop 0 = dktX0_reads_0 := by decide +kernel
theorem dksX0_reads_1 : cX0_reads.data.toList.drop 11 = dktX0_reads_1 := dk_seg dksX0_reads_0 11 rfl rfl
theorem dksX0_reads_2 : cX0_reads.data.toList.drop 36 = dktX0_reads_2 := dk_seg dksX0_reads_1 25 rfl rfl
theorem dksX0_reads_3 : cX0_reads.data.toList.drop 59 = dktX0_reads_3 := dk_seg dksX0_reads_2 23 rfl rfl
theorem dksX0_reads_4 : cX0_reads.data.toList.drop 82 = dktX0_reads_4 := dk_seg dksX0_reads_3 23 rfl rfl
theorem dksX0_reads_5 : cX0_reads.data.toList.drop 106 = dktX0_reads_5 := dk_seg dksX0_reads_4 24 rfl rfl
theorem dksX0_reads_6 : cX0_reads.data.toList.drop 129 = dktX0_reads_6 := dk_seg dksX0_reads_5 23 rfl rfl
theorem dksX0_reads_7 : cX0_reads.data.toList.drop 153 = dktX0_reads_7 := dk_seg dksX0_reads_6 24 rfl rfl
theorem dX0_reads_0 : decode cX0_reads 0 = .ok (.new 132, 3) := dk_187 0 132 (dk_at dksX0_reads_0 0 rfl rfl)
theorem dX0_reads_3 : decode cX0_reads 3 = .ok (.dup, 1) := dk_89 (dk_at dksX0_reads_0 3 rfl rfl)
theorem dX0_reads_4 : decode cX0_reads 4 = .ok (.aload_n 0, 1) := dk_42 (dk_at dksX0_reads_0 4 rfl rfl)
theorem dX0_reads_5 : decode cX0_reads 5 = .ok (.iload_n 1, 1) := dk_27 (dk_at dksX0_reads_0 5 rfl rfl)
theorem dX0_reads_6 : decode cX0_reads 6 = .ok (.invokespecial 134, 3) := dk_183 0 134 (dk_at dksX0_reads_0 6 rfl rfl)
theorem dX0_reads_9 : decode cX0_reads 9 = .ok (.astore_n 2, 1) := dk_77 (dk_at dksX0_reads_0 9 rfl rfl)
theorem dX0_reads_10 : decode cX0_reads 10 = .ok (.iload_n 1, 1) := dk_27 (dk_at dksX0_reads_0 10 rfl rfl)
theorem dX0_reads_11 : decode cX0_reads 11 = .ok (.tableswitch 130 0 2 #[25, 47, 74], 25) := by decide +kernel
theorem dX0_reads_36 : decode cX0_reads 36 = .ok (.aload_n 0, 1) := dk_42 (dk_at dksX0_reads_2 0 rfl rfl)
theorem dX0_reads_37 : decode cX0_reads 37 = .ok (.getfield 20, 3) := dk_180 0 20 (dk_at dksX0_reads_2 1 rfl rfl)
theorem dX0_reads_40 : decode cX0_reads 40 = .ok (.aload_n 2, 1) := dk_44 (dk_at dksX0_reads_2 4 rfl rfl)
theorem dX0_reads_41 : decode cX0_reads 41 = .ok (.invokevirtual 137, 3) := dk_182 0 137 (dk_at dksX0_reads_2 5 rfl rfl)
theorem dX0_reads_44 : decode cX0_reads 44 = .ok (.putfield 141, 3) := dk_181 0 141 (dk_at dksX0_reads_2 8 rfl rfl)
theorem dX0_reads_47 : decode cX0_reads 47 = .ok (.aload_n 0, 1) := dk_42 (dk_at dksX0_reads_2 11 rfl rfl)
theorem dX0_reads_48 : decode cX0_reads 48 = .ok (.getfield 20, 3) := dk_180 0 20 (dk_at dksX0_reads_2 12 rfl rfl)
theorem dX0_reads_51 : decode cX0_reads 51 = .ok (.getfield 141, 3) := dk_180 0 141 (dk_at dksX0_reads_2 15 rfl rfl)
theorem dX0_reads_54 : decode cX0_reads 54 = .ok (.invokevirtual 144, 3) := dk_182 0 144 (dk_at dksX0_reads_2 18 rfl rfl)
theorem dX0_reads_57 : decode cX0_reads 57 = .ok (.ireturn, 1) := dk_172 (dk_at dksX0_reads_2 21 rfl rfl)
theorem dX0_reads_58 : decode cX0_reads 58 = .ok (.aload_n 0, 1) := dk_42 (dk_at dksX0_reads_2 22 rfl rfl)
theorem dX0_reads_59 : decode cX0_reads 59 = .ok (.getfield 20, 3) := dk_180 0 20 (dk_at dksX0_reads_3 0 rfl rfl)
theorem dX0_reads_62 : decode cX0_reads 62 = .ok (.aload_n 2, 1) := dk_44 (dk_at dksX0_reads_3 3 rfl rfl)
theorem dX0_reads_63 : decode cX0_reads 63 = .ok (.invokevirtual 150, 3) := dk_182 0 150 (dk_at dksX0_reads_3 4 rfl rfl)
theorem dX0_reads_66 : decode cX0_reads 66 = .ok (.invokevirtual 154, 3) := dk_182 0 154 (dk_at dksX0_reads_3 7 rfl rfl)
theorem dX0_reads_69 : decode cX0_reads 69 = .ok (.aload_n 2, 1) := dk_44 (dk_at dksX0_reads_3 10 rfl rfl)
theorem dX0_reads_70 : decode cX0_reads 70 = .ok (.getfield 158, 3) := dk_180 0 158 (dk_at dksX0_reads_3 11 rfl rfl)
theorem dX0_reads_73 : decode cX0_reads 73 = .ok (.istore_n 3, 1) := dk_62 (dk_at dksX0_reads_3 14 rfl rfl)
theorem dX0_reads_74 : decode cX0_reads 74 = .ok (.aload_n 0, 1) := dk_42 (dk_at dksX0_reads_3 15 rfl rfl)
theorem dX0_reads_75 : decode cX0_reads 75 = .ok (.getfield 20, 3) := dk_180 0 20 (dk_at dksX0_reads_3 16 rfl rfl)
theorem dX0_reads_78 : decode cX0_reads 78 = .ok (.iload_n 3, 1) := dk_29 (dk_at dksX0_reads_3 19 rfl rfl)
theorem dX0_reads_79 : decode cX0_reads 79 = .ok (.putfield 161, 3) := dk_181 0 161 (dk_at dksX0_reads_3 20 rfl rfl)
theorem dX0_reads_82 : decode cX0_reads 82 = .ok (.goto 81, 3) := dk_167 0 81 (dk_at dksX0_reads_4 0 rfl rfl)
theorem dX0_reads_85 : decode cX0_reads 85 = .ok (.aload_n 0, 1) := dk_42 (dk_at dksX0_reads_4 3 rfl rfl)
theorem dX0_reads_86 : decode cX0_reads 86 = .ok (.getfield 20, 3) := dk_180 0 20 (dk_at dksX0_reads_4 4 rfl rfl)
theorem dX0_reads_89 : decode cX0_reads 89 = .ok (.aload_n 2, 1) := dk_44 (dk_at dksX0_reads_4 7 rfl rfl)
theorem dX0_reads_90 : decode cX0_reads 90 = .ok (.invokevirtual 164, 3) := dk_182 0 164 (dk_at dksX0_reads_4 8 rfl rfl)
theorem dX0_reads_93 : decode cX0_reads 93 = .ok (.putfield 167, 3) := dk_181 0 167 (dk_at dksX0_reads_4 11 rfl rfl)
theorem dX0_reads_96 : decode cX0_reads 96 = .ok (.aload_n 2, 1) := dk_44 (dk_at dksX0_reads_4 14 rfl rfl)
theorem dX0_reads_97 : decode cX0_reads 97 = .ok (.getfield 158, 3) := dk_180 0 158 (dk_at dksX0_reads_4 15 rfl rfl)
theorem dX0_reads_100 : decode cX0_reads 100 = .ok (.istore_n 3, 1) := dk_62 (dk_at dksX0_reads_4 18 rfl rfl)
theorem dX0_reads_101 : decode cX0_reads 101 = .ok (.aload_n 0, 1) := dk_42 (dk_at dksX0_reads_4 19 rfl rfl)
theorem dX0_reads_102 : decode cX0_reads 102 = .ok (.getfield 20, 3) := dk_180 0 20 (dk_at dksX0_reads_4 20 rfl rfl)
theorem dX0_reads_105 : decode cX0_reads 105 = .ok (.iload_n 3, 1) := dk_29 (dk_at dksX0_reads_4 23 rfl rfl)
theorem dX0_reads_106 : decode cX0_reads 106 = .ok (.putfield 170, 3) := dk_181 0 170 (dk_at dksX0_reads_5 0 rfl rfl)
theorem dX0_reads_109 : decode cX0_reads 109 = .ok (.iconst 0, 1) := dk_3 (dk_at dksX0_reads_5 3 rfl rfl)
theorem dX0_reads_110 : decode cX0_reads 110 = .ok (.istore 4, 2) := dk_54 4 (dk_at dksX0_reads_5 4 rfl rfl)
theorem dX0_reads_112 : decode cX0_reads 112 = .ok (.iload 4, 2) := dk_21 4 (dk_at dksX0_reads_5 6 rfl rfl)
theorem dX0_reads_114 : decode cX0_reads 114 = .ok (.bipush 16, 2) := dk_16 16 (dk_at dksX0_reads_5 8 rfl rfl)
theorem dX0_reads_116 : decode cX0_reads 116 = .ok (.if_icmp .ge 22, 3) := dk_162 0 22 (dk_at dksX0_reads_5 10 rfl rfl)
theorem dX0_reads_119 : decode cX0_reads 119 = .ok (.aload_n 0, 1) := dk_42 (dk_at dksX0_reads_5 13 rfl rfl)
theorem dX0_reads_120 : decode cX0_reads 120 = .ok (.getfield 20, 3) := dk_180 0 20 (dk_at dksX0_reads_5 14 rfl rfl)
theorem dX0_reads_123 : decode cX0_reads 123 = .ok (.getfield 173, 3) := dk_180 0 173 (dk_at dksX0_reads_5 17 rfl rfl)
theorem dX0_reads_126 : decode cX0_reads 126 = .ok (.iload 4, 2) := dk_21 4 (dk_at dksX0_reads_5 20 rfl rfl)
theorem dX0_reads_128 : decode cX0_reads 128 = .ok (.aaload, 1) := dk_50 (dk_at dksX0_reads_5 22 rfl rfl)
theorem dX0_reads_129 : decode cX0_reads 129 = .ok (.invokevirtual 177, 3) := dk_182 0 177 (dk_at dksX0_reads_6 0 rfl rfl)
theorem dX0_reads_132 : decode cX0_reads 132 = .ok (.iinc 4 1, 3) := dk_132 4 1 (dk_at dksX0_reads_6 3 rfl rfl)
theorem dX0_reads_135 : decode cX0_reads 135 = .ok (.goto (-23), 3) := dk_167 255 233 (dk_at dksX0_reads_6 6 rfl rfl)
theorem dX0_reads_138 : decode cX0_reads 138 = .ok (.goto 25, 3) := dk_167 0 25 (dk_at dksX0_reads_6 9 rfl rfl)
theorem dX0_reads_141 : decode cX0_reads 141 = .ok (.aload_n 0, 1) := dk_42 (dk_at dksX0_reads_6 12 rfl rfl)
theorem dX0_reads_142 : decode cX0_reads 142 = .ok (.getfield 20, 3) := dk_180 0 20 (dk_at dksX0_reads_6 13 rfl rfl)
theorem dX0_reads_145 : decode cX0_reads 145 = .ok (.aload_n 2, 1) := dk_44 (dk_at dksX0_reads_6 16 rfl rfl)
theorem dX0_reads_146 : decode cX0_reads 146 = .ok (.invokevirtual 180, 3) := dk_182 0 180 (dk_at dksX0_reads_6 17 rfl rfl)
theorem dX0_reads_149 : decode cX0_reads 149 = .ok (.putfield 183, 3) := dk_181 0 183 (dk_at dksX0_reads_6 20 rfl rfl)
theorem dX0_reads_152 : decode cX0_reads 152 = .ok (.aload_n 0, 1) := dk_42 (dk_at dksX0_reads_6 23 rfl rfl)
theorem dX0_reads_153 : decode cX0_reads 153 = .ok (.getfield 20, 3) := dk_180 0 20 (dk_at dksX0_reads_7 0 rfl rfl)
theorem dX0_reads_156 : decode cX0_reads 156 = .ok (.getfield 183, 3) := dk_180 0 183 (dk_at dksX0_reads_7 3 rfl rfl)
theorem dX0_reads_159 : decode cX0_reads 159 = .ok (.invokevirtual 144, 3) := dk_182 0 144 (dk_at dksX0_reads_7 6 rfl rfl)
theorem dX0_reads_162 : decode cX0_reads 162 = .ok (.istore_n 3, 1) := dk_62 (dk_at dksX0_reads_7 9 rfl rfl)
theorem dX0_reads_163 : decode cX0_reads 163 = .ok (.aload_n 0, 1) := dk_42 (dk_at dksX0_reads_7 10 rfl rfl)
theorem dX0_reads_164 : decode cX0_reads 164 = .ok (.invokevirtual 185, 3) := dk_182 0 185 (dk_at dksX0_reads_7 11 rfl rfl)
theorem dX0_reads_167 : decode cX0_reads 167 = .ok (.pop, 1) := dk_87 (dk_at dksX0_reads_7 14 rfl rfl)
theorem dX0_reads_168 : decode cX0_reads 168 = .ok (.iload_n 3, 1) := dk_29 (dk_at dksX0_reads_7 15 rfl rfl)
theorem dX0_reads_169 : decode cX0_reads 169 = .ok (.ireturn, 1) := dk_172 (dk_at dksX0_reads_7 16 rfl rfl)
abbrev cX0_forgets : ByteArray := prog_1_method_14_code
def yX0_forgets : MethodName := ⟨RX0, "forgets", "()Z"⟩
def dkwX0_forgets_0 : List UInt8 := [42, 3, 181, 0, 203, 4, 172]
abbrev dktX0_forgets_0 : List UInt8 := dkwX0_forgets_0 ++ []
theorem dksX0_forgets_0 : cX0_forgets.data.toList.drop 0 = dktX0_forgets_0 := by decide +kernel
theorem dX0_forgets_0 : decode cX0_forgets 0 = .ok (.aload_n 0, 1) := dk_42 (dk_at dksX0_forgets_0 0 rfl rfl)
theorem dX0_forgets_1 : decode cX0_forgets 1 = .ok (.iconst 0, 1) := dk_3 (dk_at dksX0_forgets_0 1 rfl rfl)
theorem dX0_forgets_2 : decode cX0_forgets 2 = .ok (.putfield 203, 3) := dk_181 0 203 (dk_at dksX0_forgets_0 2 rfl rfl)
theorem dX0_forgets_5 : decode cX0_forgets 5 = .ok (.iconst 1, 1) := dk_4 (dk_at dksX0_forgets_0 5 rfl rfl)
theorem dX0_forgets_6 : decode cX0_forgets 6 = .ok (.ireturn, 1) := dk_172 (dk_at dksX0_forgets_0 6 rfl rfl)
abbrev cX0_fault : ByteArray := prog_1_method_13_code
def yX0_fault : MethodName := ⟨RX0, "fault", "(I)I"⟩
def dkwX0_fault_1 : List UInt8 := [172]
abbrev dktX0_fault_1 : List UInt8 := dkwX0_fault_1 ++ []
def dkwX0_fault_0 : List UInt8 := [27, 154, 0, 10, 42, 180, 0, 189, 167, 0, 16, 27, 4, 160, 0, 10, 42, 180, 0, 13, 167, 0, 4, 2]
abbrev dktX0_fault_0 : List UInt8 := dkwX0_fault_0 ++ dktX0_fault_1
theorem dksX0_fault_0 : cX0_fault.data.toList.drop 0 = dktX0_fault_0 := by decide +kernel
theorem dksX0_fault_1 : cX0_fault.data.toList.drop 24 = dktX0_fault_1 := dk_seg dksX0_fault_0 24 rfl rfl
theorem dX0_fault_0 : decode cX0_fault 0 = .ok (.iload_n 1, 1) := dk_27 (dk_at dksX0_fault_0 0 rfl rfl)
theorem dX0_fault_1 : decode cX0_fault 1 = .ok (.ifCond .ne 10, 3) := dk_154 0 10 (dk_at dksX0_fault_0 1 rfl rfl)
theorem dX0_fault_4 : decode cX0_fault 4 = .ok (.aload_n 0, 1) := dk_42 (dk_at dksX0_fault_0 4 rfl rfl)
theorem dX0_fault_5 : decode cX0_fault 5 = .ok (.getfield 189, 3) := dk_180 0 189 (dk_at dksX0_fault_0 5 rfl rfl)
theorem dX0_fault_8 : decode cX0_fault 8 = .ok (.goto 16, 3) := dk_167 0 16 (dk_at dksX0_fault_0 8 rfl rfl)
theorem dX0_fault_11 : decode cX0_fault 11 = .ok (.iload_n 1, 1) := dk_27 (dk_at dksX0_fault_0 11 rfl rfl)
theorem dX0_fault_12 : decode cX0_fault 12 = .ok (.iconst 1, 1) := dk_4 (dk_at dksX0_fault_0 12 rfl rfl)
theorem dX0_fault_13 : decode cX0_fault 13 = .ok (.if_icmp .ne 10, 3) := dk_160 0 10 (dk_at dksX0_fault_0 13 rfl rfl)
theorem dX0_fault_16 : decode cX0_fault 16 = .ok (.aload_n 0, 1) := dk_42 (dk_at dksX0_fault_0 16 rfl rfl)
theorem dX0_fault_17 : decode cX0_fault 17 = .ok (.getfield 13, 3) := dk_180 0 13 (dk_at dksX0_fault_0 17 rfl rfl)
theorem dX0_fault_20 : decode cX0_fault 20 = .ok (.goto 4, 3) := dk_167 0 4 (dk_at dksX0_fault_0 20 rfl rfl)
theorem dX0_fault_23 : decode cX0_fault 23 = .ok (.iconst (-1), 1) := dk_2 (dk_at dksX0_fault_0 23 rfl rfl)
theorem dX0_fault_24 : decode cX0_fault 24 = .ok (.ireturn, 1) := dk_172 (dk_at dksX0_fault_1 0 rfl rfl)
abbrev cX0_undo : ByteArray := prog_1_method_16_code
def yX0_undo : MethodName := ⟨RX0, "undo", "()Z"⟩
def dkwX0_undo_1 : List UInt8 := [180, 0, 30, 42, 180, 0, 203, 50, 182, 0, 206, 4, 172]
abbrev dktX0_undo_1 : List UInt8 := dkwX0_undo_1 ++ []
def dkwX0_undo_0 : List UInt8 := [42, 180, 0, 203, 154, 0, 5, 3, 172, 42, 89, 180, 0, 203, 4, 100, 181, 0, 203, 42, 180, 0, 20, 42]
abbrev dktX0_undo_0 : List UInt8 := dkwX0_undo_0 ++ dktX0_undo_1
theorem dksX0_undo_0 : cX0_undo.data.toList.drop 0 = dktX0_undo_0 := by decide +kernel
theorem dksX0_undo_1 : cX0_undo.data.toList.drop 24 = dktX0_undo_1 := dk_seg dksX0_undo_0 24 rfl rfl
theorem dX0_undo_0 : decode cX0_undo 0 = .ok (.aload_n 0, 1) := dk_42 (dk_at dksX0_undo_0 0 rfl rfl)
theorem dX0_undo_1 : decode cX0_undo 1 = .ok (.getfield 203, 3) := dk_180 0 203 (dk_at dksX0_undo_0 1 rfl rfl)
theorem dX0_undo_4 : decode cX0_undo 4 = .ok (.ifCond .ne 5, 3) := dk_154 0 5 (dk_at dksX0_undo_0 4 rfl rfl)
theorem dX0_undo_7 : decode cX0_undo 7 = .ok (.iconst 0, 1) := dk_3 (dk_at dksX0_undo_0 7 rfl rfl)
theorem dX0_undo_8 : decode cX0_undo 8 = .ok (.ireturn, 1) := dk_172 (dk_at dksX0_undo_0 8 rfl rfl)
theorem dX0_undo_9 : decode cX0_undo 9 = .ok (.aload_n 0, 1) := dk_42 (dk_at dksX0_undo_0 9 rfl rfl)
theorem dX0_undo_10 : decode cX0_undo 10 = .ok (.dup, 1) := dk_89 (dk_at dksX0_undo_0 10 rfl rfl)
theorem dX0_undo_11 : decode cX0_undo 11 = .ok (.getfield 203, 3) := dk_180 0 203 (dk_at dksX0_undo_0 11 rfl rfl)
theorem dX0_undo_14 : decode cX0_undo 14 = .ok (.iconst 1, 1) := dk_4 (dk_at dksX0_undo_0 14 rfl rfl)
theorem dX0_undo_15 : decode cX0_undo 15 = .ok (.isub, 1) := dk_100 (dk_at dksX0_undo_0 15 rfl rfl)
theorem dX0_undo_16 : decode cX0_undo 16 = .ok (.putfield 203, 3) := dk_181 0 203 (dk_at dksX0_undo_0 16 rfl rfl)
theorem dX0_undo_19 : decode cX0_undo 19 = .ok (.aload_n 0, 1) := dk_42 (dk_at dksX0_undo_0 19 rfl rfl)
theorem dX0_undo_20 : decode cX0_undo 20 = .ok (.getfield 20, 3) := dk_180 0 20 (dk_at dksX0_undo_0 20 rfl rfl)
theorem dX0_undo_23 : decode cX0_undo 23 = .ok (.aload_n 0, 1) := dk_42 (dk_at dksX0_undo_0 23 rfl rfl)
theorem dX0_undo_24 : decode cX0_undo 24 = .ok (.getfield 30, 3) := dk_180 0 30 (dk_at dksX0_undo_1 0 rfl rfl)
theorem dX0_undo_27 : decode cX0_undo 27 = .ok (.aload_n 0, 1) := dk_42 (dk_at dksX0_undo_1 3 rfl rfl)
theorem dX0_undo_28 : decode cX0_undo 28 = .ok (.getfield 203, 3) := dk_180 0 203 (dk_at dksX0_undo_1 4 rfl rfl)
theorem dX0_undo_31 : decode cX0_undo 31 = .ok (.aaload, 1) := dk_50 (dk_at dksX0_undo_1 7 rfl rfl)
theorem dX0_undo_32 : decode cX0_undo 32 = .ok (.invokevirtual 206, 3) := dk_182 0 206 (dk_at dksX0_undo_1 8 rfl rfl)
theorem dX0_undo_35 : decode cX0_undo 35 = .ok (.iconst 1, 1) := dk_4 (dk_at dksX0_undo_1 11 rfl rfl)
theorem dX0_undo_36 : decode cX0_undo 36 = .ok (.ireturn, 1) := dk_172 (dk_at dksX0_undo_1 12 rfl rfl)
abbrev cX0_state : ByteArray := prog_1_method_20_code
def yX0_state : MethodName := ⟨RX0, "state", "(I)I"⟩
def dkwX0_state_0 : List UInt8 := [42, 180, 0, 20, 180, 0, 222, 61, 42, 180, 0, 20, 27, 181, 0, 222, 42, 182, 0, 185, 87, 28, 172]
abbrev dktX0_state_0 : List UInt8 := dkwX0_state_0 ++ []
theorem dksX0_state_0 : cX0_state.data.toList.drop 0 = dktX0_state_0 := by decide +kernel
theorem dX0_state_0 : decode cX0_state 0 = .ok (.aload_n 0, 1) := dk_42 (dk_at dksX0_state_0 0 rfl rfl)
theorem dX0_state_1 : decode cX0_state 1 = .ok (.getfield 20, 3) := dk_180 0 20 (dk_at dksX0_state_0 1 rfl rfl)
theorem dX0_state_4 : decode cX0_state 4 = .ok (.getfield 222, 3) := dk_180 0 222 (dk_at dksX0_state_0 4 rfl rfl)
theorem dX0_state_7 : decode cX0_state 7 = .ok (.istore_n 2, 1) := dk_61 (dk_at dksX0_state_0 7 rfl rfl)
theorem dX0_state_8 : decode cX0_state 8 = .ok (.aload_n 0, 1) := dk_42 (dk_at dksX0_state_0 8 rfl rfl)
theorem dX0_state_9 : decode cX0_state 9 = .ok (.getfield 20, 3) := dk_180 0 20 (dk_at dksX0_state_0 9 rfl rfl)
theorem dX0_state_12 : decode cX0_state 12 = .ok (.iload_n 1, 1) := dk_27 (dk_at dksX0_state_0 12 rfl rfl)
theorem dX0_state_13 : decode cX0_state 13 = .ok (.putfield 222, 3) := dk_181 0 222 (dk_at dksX0_state_0 13 rfl rfl)
theorem dX0_state_16 : decode cX0_state 16 = .ok (.aload_n 0, 1) := dk_42 (dk_at dksX0_state_0 16 rfl rfl)
theorem dX0_state_17 : decode cX0_state 17 = .ok (.invokevirtual 185, 3) := dk_182 0 185 (dk_at dksX0_state_0 17 rfl rfl)
theorem dX0_state_20 : decode cX0_state 20 = .ok (.pop, 1) := dk_87 (dk_at dksX0_state_0 20 rfl rfl)
theorem dX0_state_21 : decode cX0_state 21 = .ok (.iload_n 2, 1) := dk_28 (dk_at dksX0_state_0 21 rfl rfl)
theorem dX0_state_22 : decode cX0_state 22 = .ok (.ireturn, 1) := dk_172 (dk_at dksX0_state_0 22 rfl rfl)
abbrev cX0_walker : ByteArray := prog_1_method_21_code
def yX0_walker : MethodName := ⟨RX0, "walker", "(I)I"⟩
def dkwX0_walker_2 : List UInt8 := [180, 0, 210, 4, 96, 181, 0, 210, 42, 182, 0, 185, 87, 42, 180, 0, 20, 180, 0, 210, 4, 100, 172]
abbrev dktX0_walker_2 : List UInt8 := dkwX0_walker_2 ++ []
def dkwX0_walker_1 : List UInt8 := [42, 180, 0, 20, 180, 0, 173, 42, 180, 0, 20, 180, 0, 210, 50, 27, 182, 0, 225, 42, 180, 0, 20, 89]
abbrev dktX0_walker_1 : List UInt8 := dkwX0_walker_1 ++ dktX0_walker_2
def dkwX0_walker_0 : List UInt8 := [27, 3, 16, 9, 184, 0, 110, 153, 0, 15, 42, 180, 0, 20, 180, 0, 210, 16, 16, 160, 0, 5, 2, 172]
abbrev dktX0_walker_0 : List UInt8 := dkwX0_walker_0 ++ dktX0_walker_1
theorem dksX0_walker_0 : cX0_walker.data.toList.drop 0 = dktX0_walker_0 := by decide +kernel
theorem dksX0_walker_1 : cX0_walker.data.toList.drop 24 = dktX0_walker_1 := dk_seg dksX0_walker_0 24 rfl rfl
theorem dksX0_walker_2 : cX0_walker.data.toList.drop 48 = dktX0_walker_2 := dk_seg dksX0_walker_1 24 rfl rfl
theorem dX0_walker_0 : decode cX0_walker 0 = .ok (.iload_n 1, 1) := dk_27 (dk_at dksX0_walker_0 0 rfl rfl)
theorem dX0_walker_1 : decode cX0_walker 1 = .ok (.iconst 0, 1) := dk_3 (dk_at dksX0_walker_0 1 rfl rfl)
theorem dX0_walker_2 : decode cX0_walker 2 = .ok (.bipush 9, 2) := dk_16 9 (dk_at dksX0_walker_0 2 rfl rfl)
theorem dX0_walker_4 : decode cX0_walker 4 = .ok (.invokestatic 110, 3) := dk_184 0 110 (dk_at dksX0_walker_0 4 rfl rfl)
theorem dX0_walker_7 : decode cX0_walker 7 = .ok (.ifCond .eq 15, 3) := dk_153 0 15 (dk_at dksX0_walker_0 7 rfl rfl)
theorem dX0_walker_10 : decode cX0_walker 10 = .ok (.aload_n 0, 1) := dk_42 (dk_at dksX0_walker_0 10 rfl rfl)
theorem dX0_walker_11 : decode cX0_walker 11 = .ok (.getfield 20, 3) := dk_180 0 20 (dk_at dksX0_walker_0 11 rfl rfl)
theorem dX0_walker_14 : decode cX0_walker 14 = .ok (.getfield 210, 3) := dk_180 0 210 (dk_at dksX0_walker_0 14 rfl rfl)
theorem dX0_walker_17 : decode cX0_walker 17 = .ok (.bipush 16, 2) := dk_16 16 (dk_at dksX0_walker_0 17 rfl rfl)
theorem dX0_walker_19 : decode cX0_walker 19 = .ok (.if_icmp .ne 5, 3) := dk_160 0 5 (dk_at dksX0_walker_0 19 rfl rfl)
theorem dX0_walker_22 : decode cX0_walker 22 = .ok (.iconst (-1), 1) := dk_2 (dk_at dksX0_walker_0 22 rfl rfl)
theorem dX0_walker_23 : decode cX0_walker 23 = .ok (.ireturn, 1) := dk_172 (dk_at dksX0_walker_0 23 rfl rfl)
theorem dX0_walker_24 : decode cX0_walker 24 = .ok (.aload_n 0, 1) := dk_42 (dk_at dksX0_walker_1 0 rfl rfl)
theorem dX0_walker_25 : decode cX0_walker 25 = .ok (.getfield 20, 3) := dk_180 0 20 (dk_at dksX0_walker_1 1 rfl rfl)
theorem dX0_walker_28 : decode cX0_walker 28 = .ok (.getfield 173, 3) := dk_180 0 173 (dk_at dksX0_walker_1 4 rfl rfl)
theorem dX0_walker_31 : decode cX0_walker 31 = .ok (.aload_n 0, 1) := dk_42 (dk_at dksX0_walker_1 7 rfl rfl)
theorem dX0_walker_32 : decode cX0_walker 32 = .ok (.getfield 20, 3) := dk_180 0 20 (dk_at dksX0_walker_1 8 rfl rfl)
theorem dX0_walker_35 : decode cX0_walker 35 = .ok (.getfield 210, 3) := dk_180 0 210 (dk_at dksX0_walker_1 11 rfl rfl)
theorem dX0_walker_38 : decode cX0_walker 38 = .ok (.aaload, 1) := dk_50 (dk_at dksX0_walker_1 14 rfl rfl)
theorem dX0_walker_39 : decode cX0_walker 39 = .ok (.iload_n 1, 1) := dk_27 (dk_at dksX0_walker_1 15 rfl rfl)
theorem dX0_walker_40 : decode cX0_walker 40 = .ok (.invokevirtual 225, 3) := dk_182 0 225 (dk_at dksX0_walker_1 16 rfl rfl)
theorem dX0_walker_43 : decode cX0_walker 43 = .ok (.aload_n 0, 1) := dk_42 (dk_at dksX0_walker_1 19 rfl rfl)
theorem dX0_walker_44 : decode cX0_walker 44 = .ok (.getfield 20, 3) := dk_180 0 20 (dk_at dksX0_walker_1 20 rfl rfl)
theorem dX0_walker_47 : decode cX0_walker 47 = .ok (.dup, 1) := dk_89 (dk_at dksX0_walker_1 23 rfl rfl)
theorem dX0_walker_48 : decode cX0_walker 48 = .ok (.getfield 210, 3) := dk_180 0 210 (dk_at dksX0_walker_2 0 rfl rfl)
theorem dX0_walker_51 : decode cX0_walker 51 = .ok (.iconst 1, 1) := dk_4 (dk_at dksX0_walker_2 3 rfl rfl)
theorem dX0_walker_52 : decode cX0_walker 52 = .ok (.iadd, 1) := dk_96 (dk_at dksX0_walker_2 4 rfl rfl)
theorem dX0_walker_53 : decode cX0_walker 53 = .ok (.putfield 210, 3) := dk_181 0 210 (dk_at dksX0_walker_2 5 rfl rfl)
theorem dX0_walker_56 : decode cX0_walker 56 = .ok (.aload_n 0, 1) := dk_42 (dk_at dksX0_walker_2 8 rfl rfl)
theorem dX0_walker_57 : decode cX0_walker 57 = .ok (.invokevirtual 185, 3) := dk_182 0 185 (dk_at dksX0_walker_2 9 rfl rfl)
theorem dX0_walker_60 : decode cX0_walker 60 = .ok (.pop, 1) := dk_87 (dk_at dksX0_walker_2 12 rfl rfl)
theorem dX0_walker_61 : decode cX0_walker 61 = .ok (.aload_n 0, 1) := dk_42 (dk_at dksX0_walker_2 13 rfl rfl)
theorem dX0_walker_62 : decode cX0_walker 62 = .ok (.getfield 20, 3) := dk_180 0 20 (dk_at dksX0_walker_2 14 rfl rfl)
theorem dX0_walker_65 : decode cX0_walker 65 = .ok (.getfield 210, 3) := dk_180 0 210 (dk_at dksX0_walker_2 17 rfl rfl)
theorem dX0_walker_68 : decode cX0_walker 68 = .ok (.iconst 1, 1) := dk_4 (dk_at dksX0_walker_2 20 rfl rfl)
theorem dX0_walker_69 : decode cX0_walker 69 = .ok (.isub, 1) := dk_100 (dk_at dksX0_walker_2 21 rfl rfl)
theorem dX0_walker_70 : decode cX0_walker 70 = .ok (.ireturn, 1) := dk_172 (dk_at dksX0_walker_2 22 rfl rfl)
abbrev cX0_comes : ByteArray := prog_1_method_22_code
def yX0_comes : MethodName := ⟨RX0, "comes", "(III)Z"⟩
def dkwX0_comes_5 : List UInt8 := [28, 16, 12, 21, 5, 104, 21, 4, 96, 182, 0, 233, 4, 172]
abbrev dktX0_comes_5 : List UInt8 := dkwX0_comes_5 ++ []
def dkwX0_comes_4 : List UInt8 := [21, 5, 104, 21, 4, 96, 182, 0, 227, 154, 0, 5, 3, 172, 42, 182, 0, 230, 87, 42, 180, 0, 20, 27]
abbrev dktX0_comes_4 : List UInt8 := dkwX0_comes_4 ++ dktX0_comes_5
def dkwX0_comes_3 : List UInt8 := [3, 167, 0, 14, 28, 5, 160, 0, 8, 16, 11, 167, 0, 4, 29, 54, 5, 42, 180, 0, 20, 16, 12]
abbrev dktX0_comes_3 : List UInt8 := dkwX0_comes_3 ++ dktX0_comes_4
def dkwX0_comes_2 : List UInt8 := [160, 0, 7, 3, 167, 0, 14, 28, 6, 160, 0, 8, 16, 11, 167, 0, 4, 29, 54, 4, 28, 154, 0, 7]
abbrev dktX0_comes_2 : List UInt8 := dkwX0_comes_2 ++ dktX0_comes_3
def dkwX0_comes_1 : List UInt8 := [3, 6, 184, 0, 110, 153, 0, 13, 29, 3, 16, 11, 184, 0, 110, 154, 0, 5, 3, 172, 28, 4]
abbrev dktX0_comes_1 : List UInt8 := dkwX0_comes_1 ++ dktX0_comes_2
def dkwX0_comes_0 : List UInt8 := [42, 27, 182, 0, 213, 153, 0, 37, 42, 180, 0, 20, 180, 0, 173, 27, 50, 182, 0, 217, 154, 0, 22, 28]
abbrev dktX0_comes_0 : List UInt8 := dkwX0_comes_0 ++ dktX0_comes_1
theorem dksX0_comes_0 : cX0_comes.data.toList.drop 0 = dktX0_comes_0 := by decide +kernel
theorem dksX0_comes_1 : cX0_comes.data.toList.drop 24 = dktX0_comes_1 := dk_seg dksX0_comes_0 24 rfl rfl
theorem dksX0_comes_2 : cX0_comes.data.toList.drop 46 = dktX0_comes_2 := dk_seg dksX0_comes_1 22 rfl rfl
theorem dksX0_comes_3 : cX0_comes.data.toList.drop 70 = dktX0_comes_3 := dk_seg dksX0_comes_2 24 rfl rfl
theorem dksX0_comes_4 : cX0_comes.data.toList.drop 93 = dktX0_comes_4 := dk_seg dksX0_comes_3 23 rfl rfl
theorem dksX0_comes_5 : cX0_comes.data.toList.drop 117 = dktX0_comes_5 := dk_seg dksX0_comes_4 24 rfl rfl
theorem dX0_comes_0 : decode cX0_comes 0 = .ok (.aload_n 0, 1) := dk_42 (dk_at dksX0_comes_0 0 rfl rfl)
theorem dX0_comes_1 : decode cX0_comes 1 = .ok (.iload_n 1, 1) := dk_27 (dk_at dksX0_comes_0 1 rfl rfl)
theorem dX0_comes_2 : decode cX0_comes 2 = .ok (.invokevirtual 213, 3) := dk_182 0 213 (dk_at dksX0_comes_0 2 rfl rfl)
theorem dX0_comes_5 : decode cX0_comes 5 = .ok (.ifCond .eq 37, 3) := dk_153 0 37 (dk_at dksX0_comes_0 5 rfl rfl)
theorem dX0_comes_8 : decode cX0_comes 8 = .ok (.aload_n 0, 1) := dk_42 (dk_at dksX0_comes_0 8 rfl rfl)
theorem dX0_comes_9 : decode cX0_comes 9 = .ok (.getfield 20, 3) := dk_180 0 20 (dk_at dksX0_comes_0 9 rfl rfl)
theorem dX0_comes_12 : decode cX0_comes 12 = .ok (.getfield 173, 3) := dk_180 0 173 (dk_at dksX0_comes_0 12 rfl rfl)
theorem dX0_comes_15 : decode cX0_comes 15 = .ok (.iload_n 1, 1) := dk_27 (dk_at dksX0_comes_0 15 rfl rfl)
theorem dX0_comes_16 : decode cX0_comes 16 = .ok (.aaload, 1) := dk_50 (dk_at dksX0_comes_0 16 rfl rfl)
theorem dX0_comes_17 : decode cX0_comes 17 = .ok (.invokevirtual 217, 3) := dk_182 0 217 (dk_at dksX0_comes_0 17 rfl rfl)
theorem dX0_comes_20 : decode cX0_comes 20 = .ok (.ifCond .ne 22, 3) := dk_154 0 22 (dk_at dksX0_comes_0 20 rfl rfl)
theorem dX0_comes_23 : decode cX0_comes 23 = .ok (.iload_n 2, 1) := dk_28 (dk_at dksX0_comes_0 23 rfl rfl)
theorem dX0_comes_24 : decode cX0_comes 24 = .ok (.iconst 0, 1) := dk_3 (dk_at dksX0_comes_1 0 rfl rfl)
theorem dX0_comes_25 : decode cX0_comes 25 = .ok (.iconst 3, 1) := dk_6 (dk_at dksX0_comes_1 1 rfl rfl)
theorem dX0_comes_26 : decode cX0_comes 26 = .ok (.invokestatic 110, 3) := dk_184 0 110 (dk_at dksX0_comes_1 2 rfl rfl)
theorem dX0_comes_29 : decode cX0_comes 29 = .ok (.ifCond .eq 13, 3) := dk_153 0 13 (dk_at dksX0_comes_1 5 rfl rfl)
theorem dX0_comes_32 : decode cX0_comes 32 = .ok (.iload_n 3, 1) := dk_29 (dk_at dksX0_comes_1 8 rfl rfl)
theorem dX0_comes_33 : decode cX0_comes 33 = .ok (.iconst 0, 1) := dk_3 (dk_at dksX0_comes_1 9 rfl rfl)
theorem dX0_comes_34 : decode cX0_comes 34 = .ok (.bipush 11, 2) := dk_16 11 (dk_at dksX0_comes_1 10 rfl rfl)
theorem dX0_comes_36 : decode cX0_comes 36 = .ok (.invokestatic 110, 3) := dk_184 0 110 (dk_at dksX0_comes_1 12 rfl rfl)
theorem dX0_comes_39 : decode cX0_comes 39 = .ok (.ifCond .ne 5, 3) := dk_154 0 5 (dk_at dksX0_comes_1 15 rfl rfl)
theorem dX0_comes_42 : decode cX0_comes 42 = .ok (.iconst 0, 1) := dk_3 (dk_at dksX0_comes_1 18 rfl rfl)
theorem dX0_comes_43 : decode cX0_comes 43 = .ok (.ireturn, 1) := dk_172 (dk_at dksX0_comes_1 19 rfl rfl)
theorem dX0_comes_44 : decode cX0_comes 44 = .ok (.iload_n 2, 1) := dk_28 (dk_at dksX0_comes_1 20 rfl rfl)
theorem dX0_comes_45 : decode cX0_comes 45 = .ok (.iconst 1, 1) := dk_4 (dk_at dksX0_comes_1 21 rfl rfl)
theorem dX0_comes_46 : decode cX0_comes 46 = .ok (.if_icmp .ne 7, 3) := dk_160 0 7 (dk_at dksX0_comes_2 0 rfl rfl)
theorem dX0_comes_49 : decode cX0_comes 49 = .ok (.iconst 0, 1) := dk_3 (dk_at dksX0_comes_2 3 rfl rfl)
theorem dX0_comes_50 : decode cX0_comes 50 = .ok (.goto 14, 3) := dk_167 0 14 (dk_at dksX0_comes_2 4 rfl rfl)
theorem dX0_comes_53 : decode cX0_comes 53 = .ok (.iload_n 2, 1) := dk_28 (dk_at dksX0_comes_2 7 rfl rfl)
theorem dX0_comes_54 : decode cX0_comes 54 = .ok (.iconst 3, 1) := dk_6 (dk_at dksX0_comes_2 8 rfl rfl)
theorem dX0_comes_55 : decode cX0_comes 55 = .ok (.if_icmp .ne 8, 3) := dk_160 0 8 (dk_at dksX0_comes_2 9 rfl rfl)
theorem dX0_comes_58 : decode cX0_comes 58 = .ok (.bipush 11, 2) := dk_16 11 (dk_at dksX0_comes_2 12 rfl rfl)
theorem dX0_comes_60 : decode cX0_comes 60 = .ok (.goto 4, 3) := dk_167 0 4 (dk_at dksX0_comes_2 14 rfl rfl)
theorem dX0_comes_63 : decode cX0_comes 63 = .ok (.iload_n 3, 1) := dk_29 (dk_at dksX0_comes_2 17 rfl rfl)
theorem dX0_comes_64 : decode cX0_comes 64 = .ok (.istore 4, 2) := dk_54 4 (dk_at dksX0_comes_2 18 rfl rfl)
theorem dX0_comes_66 : decode cX0_comes 66 = .ok (.iload_n 2, 1) := dk_28 (dk_at dksX0_comes_2 20 rfl rfl)
theorem dX0_comes_67 : decode cX0_comes 67 = .ok (.ifCond .ne 7, 3) := dk_154 0 7 (dk_at dksX0_comes_2 21 rfl rfl)
theorem dX0_comes_70 : decode cX0_comes 70 = .ok (.iconst 0, 1) := dk_3 (dk_at dksX0_comes_3 0 rfl rfl)
theorem dX0_comes_71 : decode cX0_comes 71 = .ok (.goto 14, 3) := dk_167 0 14 (dk_at dksX0_comes_3 1 rfl rfl)
theorem dX0_comes_74 : decode cX0_comes 74 = .ok (.iload_n 2, 1) := dk_28 (dk_at dksX0_comes_3 4 rfl rfl)
theorem dX0_comes_75 : decode cX0_comes 75 = .ok (.iconst 2, 1) := dk_5 (dk_at dksX0_comes_3 5 rfl rfl)
theorem dX0_comes_76 : decode cX0_comes 76 = .ok (.if_icmp .ne 8, 3) := dk_160 0 8 (dk_at dksX0_comes_3 6 rfl rfl)
theorem dX0_comes_79 : decode cX0_comes 79 = .ok (.bipush 11, 2) := dk_16 11 (dk_at dksX0_comes_3 9 rfl rfl)
theorem dX0_comes_81 : decode cX0_comes 81 = .ok (.goto 4, 3) := dk_167 0 4 (dk_at dksX0_comes_3 11 rfl rfl)
theorem dX0_comes_84 : decode cX0_comes 84 = .ok (.iload_n 3, 1) := dk_29 (dk_at dksX0_comes_3 14 rfl rfl)
theorem dX0_comes_85 : decode cX0_comes 85 = .ok (.istore 5, 2) := dk_54 5 (dk_at dksX0_comes_3 15 rfl rfl)
theorem dX0_comes_87 : decode cX0_comes 87 = .ok (.aload_n 0, 1) := dk_42 (dk_at dksX0_comes_3 17 rfl rfl)
theorem dX0_comes_88 : decode cX0_comes 88 = .ok (.getfield 20, 3) := dk_180 0 20 (dk_at dksX0_comes_3 18 rfl rfl)
theorem dX0_comes_91 : decode cX0_comes 91 = .ok (.bipush 12, 2) := dk_16 12 (dk_at dksX0_comes_3 21 rfl rfl)
theorem dX0_comes_93 : decode cX0_comes 93 = .ok (.iload 5, 2) := dk_21 5 (dk_at dksX0_comes_4 0 rfl rfl)
theorem dX0_comes_95 : decode cX0_comes 95 = .ok (.imul, 1) := dk_104 (dk_at dksX0_comes_4 2 rfl rfl)
theorem dX0_comes_96 : decode cX0_comes 96 = .ok (.iload 4, 2) := dk_21 4 (dk_at dksX0_comes_4 3 rfl rfl)
theorem dX0_comes_98 : decode cX0_comes 98 = .ok (.iadd, 1) := dk_96 (dk_at dksX0_comes_4 5 rfl rfl)
theorem dX0_comes_99 : decode cX0_comes 99 = .ok (.invokevirtual 227, 3) := dk_182 0 227 (dk_at dksX0_comes_4 6 rfl rfl)
theorem dX0_comes_102 : decode cX0_comes 102 = .ok (.ifCond .ne 5, 3) := dk_154 0 5 (dk_at dksX0_comes_4 9 rfl rfl)
theorem dX0_comes_105 : decode cX0_comes 105 = .ok (.iconst 0, 1) := dk_3 (dk_at dksX0_comes_4 12 rfl rfl)
theorem dX0_comes_106 : decode cX0_comes 106 = .ok (.ireturn, 1) := dk_172 (dk_at dksX0_comes_4 13 rfl rfl)
theorem dX0_comes_107 : decode cX0_comes 107 = .ok (.aload_n 0, 1) := dk_42 (dk_at dksX0_comes_4 14 rfl rfl)
theorem dX0_comes_108 : decode cX0_comes 108 = .ok (.invokevirtual 230, 3) := dk_182 0 230 (dk_at dksX0_comes_4 15 rfl rfl)
theorem dX0_comes_111 : decode cX0_comes 111 = .ok (.pop, 1) := dk_87 (dk_at dksX0_comes_4 18 rfl rfl)
theorem dX0_comes_112 : decode cX0_comes 112 = .ok (.aload_n 0, 1) := dk_42 (dk_at dksX0_comes_4 19 rfl rfl)
theorem dX0_comes_113 : decode cX0_comes 113 = .ok (.getfield 20, 3) := dk_180 0 20 (dk_at dksX0_comes_4 20 rfl rfl)
theorem dX0_comes_116 : decode cX0_comes 116 = .ok (.iload_n 1, 1) := dk_27 (dk_at dksX0_comes_4 23 rfl rfl)
theorem dX0_comes_117 : decode cX0_comes 117 = .ok (.iload_n 2, 1) := dk_28 (dk_at dksX0_comes_5 0 rfl rfl)
theorem dX0_comes_118 : decode cX0_comes 118 = .ok (.bipush 12, 2) := dk_16 12 (dk_at dksX0_comes_5 1 rfl rfl)
theorem dX0_comes_120 : decode cX0_comes 120 = .ok (.iload 5, 2) := dk_21 5 (dk_at dksX0_comes_5 3 rfl rfl)
theorem dX0_comes_122 : decode cX0_comes 122 = .ok (.imul, 1) := dk_104 (dk_at dksX0_comes_5 5 rfl rfl)
theorem dX0_comes_123 : decode cX0_comes 123 = .ok (.iload 4, 2) := dk_21 4 (dk_at dksX0_comes_5 6 rfl rfl)
theorem dX0_comes_125 : decode cX0_comes 125 = .ok (.iadd, 1) := dk_96 (dk_at dksX0_comes_5 8 rfl rfl)
theorem dX0_comes_126 : decode cX0_comes 126 = .ok (.invokevirtual 233, 3) := dk_182 0 233 (dk_at dksX0_comes_5 9 rfl rfl)
theorem dX0_comes_129 : decode cX0_comes 129 = .ok (.iconst 1, 1) := dk_4 (dk_at dksX0_comes_5 12 rfl rfl)
theorem dX0_comes_130 : decode cX0_comes 130 = .ok (.ireturn, 1) := dk_172 (dk_at dksX0_comes_5 13 rfl rfl)
abbrev cX0_isWalker : ByteArray := prog_1_method_17_code
def yX0_isWalker : MethodName := ⟨RX0, "isWalker", "(I)Z"⟩
def dkwX0_isWalker_0 : List UInt8 := [27, 3, 42, 180, 0, 20, 180, 0, 210, 4, 100, 184, 0, 110, 172]
abbrev dktX0_isWalker_0 : List UInt8 := dkwX0_isWalker_0 ++ []
theorem dksX0_isWalker_0 : cX0_isWalker.data.toList.drop 0 = dktX0_isWalker_0 := by decide +kernel
theorem dX0_isWalker_0 : decode cX0_isWalker 0 = .ok (.iload_n 1, 1) := dk_27 (dk_at dksX0_isWalker_0 0 rfl rfl)
theorem dX0_isWalker_1 : decode cX0_isWalker 1 = .ok (.iconst 0, 1) := dk_3 (dk_at dksX0_isWalker_0 1 rfl rfl)
theorem dX0_isWalker_2 : decode cX0_isWalker 2 = .ok (.aload_n 0, 1) := dk_42 (dk_at dksX0_isWalker_0 2 rfl rfl)
theorem dX0_isWalker_3 : decode cX0_isWalker 3 = .ok (.getfield 20, 3) := dk_180 0 20 (dk_at dksX0_isWalker_0 3 rfl rfl)
theorem dX0_isWalker_6 : decode cX0_isWalker 6 = .ok (.getfield 210, 3) := dk_180 0 210 (dk_at dksX0_isWalker_0 6 rfl rfl)
theorem dX0_isWalker_9 : decode cX0_isWalker 9 = .ok (.iconst 1, 1) := dk_4 (dk_at dksX0_isWalker_0 9 rfl rfl)
theorem dX0_isWalker_10 : decode cX0_isWalker 10 = .ok (.isub, 1) := dk_100 (dk_at dksX0_isWalker_0 10 rfl rfl)
theorem dX0_isWalker_11 : decode cX0_isWalker 11 = .ok (.invokestatic 110, 3) := dk_184 0 110 (dk_at dksX0_isWalker_0 11 rfl rfl)
theorem dX0_isWalker_14 : decode cX0_isWalker 14 = .ok (.ireturn, 1) := dk_172 (dk_at dksX0_isWalker_0 14 rfl rfl)
abbrev cX0_remembers : ByteArray := prog_1_method_15_code
def yX0_remembers : MethodName := ⟨RX0, "remembers", "()Z"⟩
def dkwX0_remembers_3 : List UInt8 := [180, 0, 20, 182, 0, 206, 42, 89, 180, 0, 203, 4, 96, 181, 0, 203, 4, 172]
abbrev dktX0_remembers_3 : List UInt8 := dkwX0_remembers_3 ++ []
def dkwX0_remembers_2 : List UInt8 := [8, 43, 83, 42, 89, 180, 0, 203, 4, 100, 181, 0, 203, 42, 180, 0, 30, 42, 180, 0, 203, 50, 42]
abbrev dktX0_remembers_2 : List UInt8 := dkwX0_remembers_2 ++ dktX0_remembers_3
def dkwX0_remembers_1 : List UInt8 := [42, 180, 0, 30, 28, 4, 100, 42, 180, 0, 30, 28, 50, 83, 132, 2, 1, 167, 255, 233, 42, 180, 0, 30]
abbrev dktX0_remembers_1 : List UInt8 := dkwX0_remembers_1 ++ dktX0_remembers_2
def dkwX0_remembers_0 : List UInt8 := [42, 180, 0, 203, 16, 6, 160, 0, 55, 42, 180, 0, 30, 3, 50, 76, 4, 61, 28, 16, 6, 162, 0, 23]
abbrev dktX0_remembers_0 : List UInt8 := dkwX0_remembers_0 ++ dktX0_remembers_1
theorem dksX0_remembers_0 : cX0_remembers.data.toList.drop 0 = dktX0_remembers_0 := by decide +kernel
theorem dksX0_remembers_1 : cX0_remembers.data.toList.drop 24 = dktX0_remembers_1 := dk_seg dksX0_remembers_0 24 rfl rfl
theorem dksX0_remembers_2 : cX0_remembers.data.toList.drop 48 = dktX0_remembers_2 := dk_seg dksX0_remembers_1 24 rfl rfl
theorem dksX0_remembers_3 : cX0_remembers.data.toList.drop 71 = dktX0_remembers_3 := dk_seg dksX0_remembers_2 23 rfl rfl
theorem dX0_remembers_0 : decode cX0_remembers 0 = .ok (.aload_n 0, 1) := dk_42 (dk_at dksX0_remembers_0 0 rfl rfl)
theorem dX0_remembers_1 : decode cX0_remembers 1 = .ok (.getfield 203, 3) := dk_180 0 203 (dk_at dksX0_remembers_0 1 rfl rfl)
theorem dX0_remembers_4 : decode cX0_remembers 4 = .ok (.bipush 6, 2) := dk_16 6 (dk_at dksX0_remembers_0 4 rfl rfl)
theorem dX0_remembers_6 : decode cX0_remembers 6 = .ok (.if_icmp .ne 55, 3) := dk_160 0 55 (dk_at dksX0_remembers_0 6 rfl rfl)
theorem dX0_remembers_9 : decode cX0_remembers 9 = .ok (.aload_n 0, 1) := dk_42 (dk_at dksX0_remembers_0 9 rfl rfl)
theorem dX0_remembers_10 : decode cX0_remembers 10 = .ok (.getfield 30, 3) := dk_180 0 30 (dk_at dksX0_remembers_0 10 rfl rfl)
theorem dX0_remembers_13 : decode cX0_remembers 13 = .ok (.iconst 0, 1) := dk_3 (dk_at dksX0_remembers_0 13 rfl rfl)
theorem dX0_remembers_14 : decode cX0_remembers 14 = .ok (.aaload, 1) := dk_50 (dk_at dksX0_remembers_0 14 rfl rfl)
theorem dX0_remembers_15 : decode cX0_remembers 15 = .ok (.astore_n 1, 1) := dk_76 (dk_at dksX0_remembers_0 15 rfl rfl)
theorem dX0_remembers_16 : decode cX0_remembers 16 = .ok (.iconst 1, 1) := dk_4 (dk_at dksX0_remembers_0 16 rfl rfl)
theorem dX0_remembers_17 : decode cX0_remembers 17 = .ok (.istore_n 2, 1) := dk_61 (dk_at dksX0_remembers_0 17 rfl rfl)
theorem dX0_remembers_18 : decode cX0_remembers 18 = .ok (.iload_n 2, 1) := dk_28 (dk_at dksX0_remembers_0 18 rfl rfl)
theorem dX0_remembers_19 : decode cX0_remembers 19 = .ok (.bipush 6, 2) := dk_16 6 (dk_at dksX0_remembers_0 19 rfl rfl)
theorem dX0_remembers_21 : decode cX0_remembers 21 = .ok (.if_icmp .ge 23, 3) := dk_162 0 23 (dk_at dksX0_remembers_0 21 rfl rfl)
theorem dX0_remembers_24 : decode cX0_remembers 24 = .ok (.aload_n 0, 1) := dk_42 (dk_at dksX0_remembers_1 0 rfl rfl)
theorem dX0_remembers_25 : decode cX0_remembers 25 = .ok (.getfield 30, 3) := dk_180 0 30 (dk_at dksX0_remembers_1 1 rfl rfl)
theorem dX0_remembers_28 : decode cX0_remembers 28 = .ok (.iload_n 2, 1) := dk_28 (dk_at dksX0_remembers_1 4 rfl rfl)
theorem dX0_remembers_29 : decode cX0_remembers 29 = .ok (.iconst 1, 1) := dk_4 (dk_at dksX0_remembers_1 5 rfl rfl)
theorem dX0_remembers_30 : decode cX0_remembers 30 = .ok (.isub, 1) := dk_100 (dk_at dksX0_remembers_1 6 rfl rfl)
theorem dX0_remembers_31 : decode cX0_remembers 31 = .ok (.aload_n 0, 1) := dk_42 (dk_at dksX0_remembers_1 7 rfl rfl)
theorem dX0_remembers_32 : decode cX0_remembers 32 = .ok (.getfield 30, 3) := dk_180 0 30 (dk_at dksX0_remembers_1 8 rfl rfl)
theorem dX0_remembers_35 : decode cX0_remembers 35 = .ok (.iload_n 2, 1) := dk_28 (dk_at dksX0_remembers_1 11 rfl rfl)
theorem dX0_remembers_36 : decode cX0_remembers 36 = .ok (.aaload, 1) := dk_50 (dk_at dksX0_remembers_1 12 rfl rfl)
theorem dX0_remembers_37 : decode cX0_remembers 37 = .ok (.aastore, 1) := dk_83 (dk_at dksX0_remembers_1 13 rfl rfl)
theorem dX0_remembers_38 : decode cX0_remembers 38 = .ok (.iinc 2 1, 3) := dk_132 2 1 (dk_at dksX0_remembers_1 14 rfl rfl)
theorem dX0_remembers_41 : decode cX0_remembers 41 = .ok (.goto (-23), 3) := dk_167 255 233 (dk_at dksX0_remembers_1 17 rfl rfl)
theorem dX0_remembers_44 : decode cX0_remembers 44 = .ok (.aload_n 0, 1) := dk_42 (dk_at dksX0_remembers_1 20 rfl rfl)
theorem dX0_remembers_45 : decode cX0_remembers 45 = .ok (.getfield 30, 3) := dk_180 0 30 (dk_at dksX0_remembers_1 21 rfl rfl)
theorem dX0_remembers_48 : decode cX0_remembers 48 = .ok (.iconst 5, 1) := dk_8 (dk_at dksX0_remembers_2 0 rfl rfl)
theorem dX0_remembers_49 : decode cX0_remembers 49 = .ok (.aload_n 1, 1) := dk_43 (dk_at dksX0_remembers_2 1 rfl rfl)
theorem dX0_remembers_50 : decode cX0_remembers 50 = .ok (.aastore, 1) := dk_83 (dk_at dksX0_remembers_2 2 rfl rfl)
theorem dX0_remembers_51 : decode cX0_remembers 51 = .ok (.aload_n 0, 1) := dk_42 (dk_at dksX0_remembers_2 3 rfl rfl)
theorem dX0_remembers_52 : decode cX0_remembers 52 = .ok (.dup, 1) := dk_89 (dk_at dksX0_remembers_2 4 rfl rfl)
theorem dX0_remembers_53 : decode cX0_remembers 53 = .ok (.getfield 203, 3) := dk_180 0 203 (dk_at dksX0_remembers_2 5 rfl rfl)
theorem dX0_remembers_56 : decode cX0_remembers 56 = .ok (.iconst 1, 1) := dk_4 (dk_at dksX0_remembers_2 8 rfl rfl)
theorem dX0_remembers_57 : decode cX0_remembers 57 = .ok (.isub, 1) := dk_100 (dk_at dksX0_remembers_2 9 rfl rfl)
theorem dX0_remembers_58 : decode cX0_remembers 58 = .ok (.putfield 203, 3) := dk_181 0 203 (dk_at dksX0_remembers_2 10 rfl rfl)
theorem dX0_remembers_61 : decode cX0_remembers 61 = .ok (.aload_n 0, 1) := dk_42 (dk_at dksX0_remembers_2 13 rfl rfl)
theorem dX0_remembers_62 : decode cX0_remembers 62 = .ok (.getfield 30, 3) := dk_180 0 30 (dk_at dksX0_remembers_2 14 rfl rfl)
theorem dX0_remembers_65 : decode cX0_remembers 65 = .ok (.aload_n 0, 1) := dk_42 (dk_at dksX0_remembers_2 17 rfl rfl)
theorem dX0_remembers_66 : decode cX0_remembers 66 = .ok (.getfield 203, 3) := dk_180 0 203 (dk_at dksX0_remembers_2 18 rfl rfl)
theorem dX0_remembers_69 : decode cX0_remembers 69 = .ok (.aaload, 1) := dk_50 (dk_at dksX0_remembers_2 21 rfl rfl)
theorem dX0_remembers_70 : decode cX0_remembers 70 = .ok (.aload_n 0, 1) := dk_42 (dk_at dksX0_remembers_2 22 rfl rfl)
theorem dX0_remembers_71 : decode cX0_remembers 71 = .ok (.getfield 20, 3) := dk_180 0 20 (dk_at dksX0_remembers_3 0 rfl rfl)
theorem dX0_remembers_74 : decode cX0_remembers 74 = .ok (.invokevirtual 206, 3) := dk_182 0 206 (dk_at dksX0_remembers_3 3 rfl rfl)
theorem dX0_remembers_77 : decode cX0_remembers 77 = .ok (.aload_n 0, 1) := dk_42 (dk_at dksX0_remembers_3 6 rfl rfl)
theorem dX0_remembers_78 : decode cX0_remembers 78 = .ok (.dup, 1) := dk_89 (dk_at dksX0_remembers_3 7 rfl rfl)
theorem dX0_remembers_79 : decode cX0_remembers 79 = .ok (.getfield 203, 3) := dk_180 0 203 (dk_at dksX0_remembers_3 8 rfl rfl)
theorem dX0_remembers_82 : decode cX0_remembers 82 = .ok (.iconst 1, 1) := dk_4 (dk_at dksX0_remembers_3 11 rfl rfl)
theorem dX0_remembers_83 : decode cX0_remembers 83 = .ok (.iadd, 1) := dk_96 (dk_at dksX0_remembers_3 12 rfl rfl)
theorem dX0_remembers_84 : decode cX0_remembers 84 = .ok (.putfield 203, 3) := dk_181 0 203 (dk_at dksX0_remembers_3 13 rfl rfl)
theorem dX0_remembers_87 : decode cX0_remembers 87 = .ok (.iconst 1, 1) := dk_4 (dk_at dksX0_remembers_3 16 rfl rfl)
theorem dX0_remembers_88 : decode cX0_remembers 88 = .ok (.ireturn, 1) := dk_172 (dk_at dksX0_remembers_3 17 rfl rfl)
abbrev cX0_turn : ByteArray := prog_1_method_23_code
def yX0_turn : MethodName := ⟨RX0, "turn", "(II)Z"⟩
def dkwX0_turn_1 : List UInt8 := [42, 180, 0, 20, 27, 28, 154, 0, 7, 6, 167, 0, 4, 28, 182, 0, 240, 4, 172]
abbrev dktX0_turn_1 : List UInt8 := dkwX0_turn_1 ++ []
def dkwX0_turn_0 : List UInt8 := [42, 27, 182, 0, 237, 153, 0, 12, 28, 3, 5, 184, 0, 110, 154, 0, 5, 3, 172, 42, 182, 0, 230, 87]
abbrev dktX0_turn_0 : List UInt8 := dkwX0_turn_0 ++ dktX0_turn_1
theorem dksX0_turn_0 : cX0_turn.data.toList.drop 0 = dktX0_turn_0 := by decide +kernel
theorem dksX0_turn_1 : cX0_turn.data.toList.drop 24 = dktX0_turn_1 := dk_seg dksX0_turn_0 24 rfl rfl
theorem dX0_turn_0 : decode cX0_turn 0 = .ok (.aload_n 0, 1) := dk_42 (dk_at dksX0_turn_0 0 rfl rfl)
theorem dX0_turn_1 : decode cX0_turn 1 = .ok (.iload_n 1, 1) := dk_27 (dk_at dksX0_turn_0 1 rfl rfl)
theorem dX0_turn_2 : decode cX0_turn 2 = .ok (.invokevirtual 237, 3) := dk_182 0 237 (dk_at dksX0_turn_0 2 rfl rfl)
theorem dX0_turn_5 : decode cX0_turn 5 = .ok (.ifCond .eq 12, 3) := dk_153 0 12 (dk_at dksX0_turn_0 5 rfl rfl)
theorem dX0_turn_8 : decode cX0_turn 8 = .ok (.iload_n 2, 1) := dk_28 (dk_at dksX0_turn_0 8 rfl rfl)
theorem dX0_turn_9 : decode cX0_turn 9 = .ok (.iconst 0, 1) := dk_3 (dk_at dksX0_turn_0 9 rfl rfl)
theorem dX0_turn_10 : decode cX0_turn 10 = .ok (.iconst 2, 1) := dk_5 (dk_at dksX0_turn_0 10 rfl rfl)
theorem dX0_turn_11 : decode cX0_turn 11 = .ok (.invokestatic 110, 3) := dk_184 0 110 (dk_at dksX0_turn_0 11 rfl rfl)
theorem dX0_turn_14 : decode cX0_turn 14 = .ok (.ifCond .ne 5, 3) := dk_154 0 5 (dk_at dksX0_turn_0 14 rfl rfl)
theorem dX0_turn_17 : decode cX0_turn 17 = .ok (.iconst 0, 1) := dk_3 (dk_at dksX0_turn_0 17 rfl rfl)
theorem dX0_turn_18 : decode cX0_turn 18 = .ok (.ireturn, 1) := dk_172 (dk_at dksX0_turn_0 18 rfl rfl)
theorem dX0_turn_19 : decode cX0_turn 19 = .ok (.aload_n 0, 1) := dk_42 (dk_at dksX0_turn_0 19 rfl rfl)
theorem dX0_turn_20 : decode cX0_turn 20 = .ok (.invokevirtual 230, 3) := dk_182 0 230 (dk_at dksX0_turn_0 20 rfl rfl)
theorem dX0_turn_23 : decode cX0_turn 23 = .ok (.pop, 1) := dk_87 (dk_at dksX0_turn_0 23 rfl rfl)
theorem dX0_turn_24 : decode cX0_turn 24 = .ok (.aload_n 0, 1) := dk_42 (dk_at dksX0_turn_1 0 rfl rfl)
theorem dX0_turn_25 : decode cX0_turn 25 = .ok (.getfield 20, 3) := dk_180 0 20 (dk_at dksX0_turn_1 1 rfl rfl)
theorem dX0_turn_28 : decode cX0_turn 28 = .ok (.iload_n 1, 1) := dk_27 (dk_at dksX0_turn_1 4 rfl rfl)
theorem dX0_turn_29 : decode cX0_turn 29 = .ok (.iload_n 2, 1) := dk_28 (dk_at dksX0_turn_1 5 rfl rfl)
theorem dX0_turn_30 : decode cX0_turn 30 = .ok (.ifCond .ne 7, 3) := dk_154 0 7 (dk_at dksX0_turn_1 6 rfl rfl)
theorem dX0_turn_33 : decode cX0_turn 33 = .ok (.iconst 3, 1) := dk_6 (dk_at dksX0_turn_1 9 rfl rfl)
theorem dX0_turn_34 : decode cX0_turn 34 = .ok (.goto 4, 3) := dk_167 0 4 (dk_at dksX0_turn_1 10 rfl rfl)
theorem dX0_turn_37 : decode cX0_turn 37 = .ok (.iload_n 2, 1) := dk_28 (dk_at dksX0_turn_1 13 rfl rfl)
theorem dX0_turn_38 : decode cX0_turn 38 = .ok (.invokevirtual 240, 3) := dk_182 0 240 (dk_at dksX0_turn_1 14 rfl rfl)
theorem dX0_turn_41 : decode cX0_turn 41 = .ok (.iconst 1, 1) := dk_4 (dk_at dksX0_turn_1 17 rfl rfl)
theorem dX0_turn_42 : decode cX0_turn 42 = .ok (.ireturn, 1) := dk_172 (dk_at dksX0_turn_1 18 rfl rfl)
abbrev cX0_isInside : ByteArray := prog_1_method_18_code
def yX0_isInside : MethodName := ⟨RX0, "isInside", "(I)Z"⟩
def dkwX0_isInside_1 : List UInt8 := [167, 0, 4, 3, 172]
abbrev dktX0_isInside_1 : List UInt8 := dkwX0_isInside_1 ++ []
def dkwX0_isInside_0 : List UInt8 := [42, 27, 182, 0, 213, 153, 0, 22, 42, 180, 0, 20, 180, 0, 173, 27, 50, 182, 0, 217, 153, 0, 7, 4]
abbrev dktX0_isInside_0 : List UInt8 := dkwX0_isInside_0 ++ dktX0_isInside_1
theorem dksX0_isInside_0 : cX0_isInside.data.toList.drop 0 = dktX0_isInside_0 := by decide +kernel
theorem dksX0_isInside_1 : cX0_isInside.data.toList.drop 24 = dktX0_isInside_1 := dk_seg dksX0_isInside_0 24 rfl rfl
theorem dX0_isInside_0 : decode cX0_isInside 0 = .ok (.aload_n 0, 1) := dk_42 (dk_at dksX0_isInside_0 0 rfl rfl)
theorem dX0_isInside_1 : decode cX0_isInside 1 = .ok (.iload_n 1, 1) := dk_27 (dk_at dksX0_isInside_0 1 rfl rfl)
theorem dX0_isInside_2 : decode cX0_isInside 2 = .ok (.invokevirtual 213, 3) := dk_182 0 213 (dk_at dksX0_isInside_0 2 rfl rfl)
theorem dX0_isInside_5 : decode cX0_isInside 5 = .ok (.ifCond .eq 22, 3) := dk_153 0 22 (dk_at dksX0_isInside_0 5 rfl rfl)
theorem dX0_isInside_8 : decode cX0_isInside 8 = .ok (.aload_n 0, 1) := dk_42 (dk_at dksX0_isInside_0 8 rfl rfl)
theorem dX0_isInside_9 : decode cX0_isInside 9 = .ok (.getfield 20, 3) := dk_180 0 20 (dk_at dksX0_isInside_0 9 rfl rfl)
theorem dX0_isInside_12 : decode cX0_isInside 12 = .ok (.getfield 173, 3) := dk_180 0 173 (dk_at dksX0_isInside_0 12 rfl rfl)
theorem dX0_isInside_15 : decode cX0_isInside 15 = .ok (.iload_n 1, 1) := dk_27 (dk_at dksX0_isInside_0 15 rfl rfl)
theorem dX0_isInside_16 : decode cX0_isInside 16 = .ok (.aaload, 1) := dk_50 (dk_at dksX0_isInside_0 16 rfl rfl)
theorem dX0_isInside_17 : decode cX0_isInside 17 = .ok (.invokevirtual 217, 3) := dk_182 0 217 (dk_at dksX0_isInside_0 17 rfl rfl)
theorem dX0_isInside_20 : decode cX0_isInside 20 = .ok (.ifCond .eq 7, 3) := dk_153 0 7 (dk_at dksX0_isInside_0 20 rfl rfl)
theorem dX0_isInside_23 : decode cX0_isInside 23 = .ok (.iconst 1, 1) := dk_4 (dk_at dksX0_isInside_0 23 rfl rfl)
theorem dX0_isInside_24 : decode cX0_isInside 24 = .ok (.goto 4, 3) := dk_167 0 4 (dk_at dksX0_isInside_1 0 rfl rfl)
theorem dX0_isInside_27 : decode cX0_isInside 27 = .ok (.iconst 0, 1) := dk_3 (dk_at dksX0_isInside_1 3 rfl rfl)
theorem dX0_isInside_28 : decode cX0_isInside 28 = .ok (.ireturn, 1) := dk_172 (dk_at dksX0_isInside_1 4 rfl rfl)
abbrev cX0_lay : ByteArray := prog_1_method_24_code
def yX0_lay : MethodName := ⟨RX0, "lay", "(III)Z"⟩
def dkwX0_lay_3 : List UInt8 := [180, 0, 219, 21, 4, 29, 79, 4, 172]
abbrev dktX0_lay_3 : List UInt8 := dkwX0_lay_3 ++ []
def dkwX0_lay_2 : List UInt8 := [180, 0, 20, 21, 4, 182, 0, 244, 2, 159, 0, 5, 3, 172, 42, 182, 0, 230, 87, 42, 180, 0, 20]
abbrev dktX0_lay_2 : List UInt8 := dkwX0_lay_2 ++ dktX0_lay_3
def dkwX0_lay_1 : List UInt8 := [96, 54, 4, 42, 180, 0, 20, 180, 0, 219, 21, 4, 46, 29, 159, 0, 21, 29, 4, 160, 0, 18, 42]
abbrev dktX0_lay_1 : List UInt8 := dkwX0_lay_1 ++ dktX0_lay_2
def dkwX0_lay_0 : List UInt8 := [27, 28, 184, 0, 121, 153, 0, 12, 29, 3, 6, 184, 0, 110, 154, 0, 5, 3, 172, 16, 12, 28, 104, 27]
abbrev dktX0_lay_0 : List UInt8 := dkwX0_lay_0 ++ dktX0_lay_1
theorem dksX0_lay_0 : cX0_lay.data.toList.drop 0 = dktX0_lay_0 := by decide +kernel
theorem dksX0_lay_1 : cX0_lay.data.toList.drop 24 = dktX0_lay_1 := dk_seg dksX0_lay_0 24 rfl rfl
theorem dksX0_lay_2 : cX0_lay.data.toList.drop 47 = dktX0_lay_2 := dk_seg dksX0_lay_1 23 rfl rfl
theorem dksX0_lay_3 : cX0_lay.data.toList.drop 70 = dktX0_lay_3 := dk_seg dksX0_lay_2 23 rfl rfl
theorem dX0_lay_0 : decode cX0_lay 0 = .ok (.iload_n 1, 1) := dk_27 (dk_at dksX0_lay_0 0 rfl rfl)
theorem dX0_lay_1 : decode cX0_lay 1 = .ok (.iload_n 2, 1) := dk_28 (dk_at dksX0_lay_0 1 rfl rfl)
theorem dX0_lay_2 : decode cX0_lay 2 = .ok (.invokestatic 121, 3) := dk_184 0 121 (dk_at dksX0_lay_0 2 rfl rfl)
theorem dX0_lay_5 : decode cX0_lay 5 = .ok (.ifCond .eq 12, 3) := dk_153 0 12 (dk_at dksX0_lay_0 5 rfl rfl)
theorem dX0_lay_8 : decode cX0_lay 8 = .ok (.iload_n 3, 1) := dk_29 (dk_at dksX0_lay_0 8 rfl rfl)
theorem dX0_lay_9 : decode cX0_lay 9 = .ok (.iconst 0, 1) := dk_3 (dk_at dksX0_lay_0 9 rfl rfl)
theorem dX0_lay_10 : decode cX0_lay 10 = .ok (.iconst 3, 1) := dk_6 (dk_at dksX0_lay_0 10 rfl rfl)
theorem dX0_lay_11 : decode cX0_lay 11 = .ok (.invokestatic 110, 3) := dk_184 0 110 (dk_at dksX0_lay_0 11 rfl rfl)
theorem dX0_lay_14 : decode cX0_lay 14 = .ok (.ifCond .ne 5, 3) := dk_154 0 5 (dk_at dksX0_lay_0 14 rfl rfl)
theorem dX0_lay_17 : decode cX0_lay 17 = .ok (.iconst 0, 1) := dk_3 (dk_at dksX0_lay_0 17 rfl rfl)
theorem dX0_lay_18 : decode cX0_lay 18 = .ok (.ireturn, 1) := dk_172 (dk_at dksX0_lay_0 18 rfl rfl)
theorem dX0_lay_19 : decode cX0_lay 19 = .ok (.bipush 12, 2) := dk_16 12 (dk_at dksX0_lay_0 19 rfl rfl)
theorem dX0_lay_21 : decode cX0_lay 21 = .ok (.iload_n 2, 1) := dk_28 (dk_at dksX0_lay_0 21 rfl rfl)
theorem dX0_lay_22 : decode cX0_lay 22 = .ok (.imul, 1) := dk_104 (dk_at dksX0_lay_0 22 rfl rfl)
theorem dX0_lay_23 : decode cX0_lay 23 = .ok (.iload_n 1, 1) := dk_27 (dk_at dksX0_lay_0 23 rfl rfl)
theorem dX0_lay_24 : decode cX0_lay 24 = .ok (.iadd, 1) := dk_96 (dk_at dksX0_lay_1 0 rfl rfl)
theorem dX0_lay_25 : decode cX0_lay 25 = .ok (.istore 4, 2) := dk_54 4 (dk_at dksX0_lay_1 1 rfl rfl)
theorem dX0_lay_27 : decode cX0_lay 27 = .ok (.aload_n 0, 1) := dk_42 (dk_at dksX0_lay_1 3 rfl rfl)
theorem dX0_lay_28 : decode cX0_lay 28 = .ok (.getfield 20, 3) := dk_180 0 20 (dk_at dksX0_lay_1 4 rfl rfl)
theorem dX0_lay_31 : decode cX0_lay 31 = .ok (.getfield 219, 3) := dk_180 0 219 (dk_at dksX0_lay_1 7 rfl rfl)
theorem dX0_lay_34 : decode cX0_lay 34 = .ok (.iload 4, 2) := dk_21 4 (dk_at dksX0_lay_1 10 rfl rfl)
theorem dX0_lay_36 : decode cX0_lay 36 = .ok (.iaload, 1) := dk_46 (dk_at dksX0_lay_1 12 rfl rfl)
theorem dX0_lay_37 : decode cX0_lay 37 = .ok (.iload_n 3, 1) := dk_29 (dk_at dksX0_lay_1 13 rfl rfl)
theorem dX0_lay_38 : decode cX0_lay 38 = .ok (.if_icmp .eq 21, 3) := dk_159 0 21 (dk_at dksX0_lay_1 14 rfl rfl)
theorem dX0_lay_41 : decode cX0_lay 41 = .ok (.iload_n 3, 1) := dk_29 (dk_at dksX0_lay_1 17 rfl rfl)
theorem dX0_lay_42 : decode cX0_lay 42 = .ok (.iconst 1, 1) := dk_4 (dk_at dksX0_lay_1 18 rfl rfl)
theorem dX0_lay_43 : decode cX0_lay 43 = .ok (.if_icmp .ne 18, 3) := dk_160 0 18 (dk_at dksX0_lay_1 19 rfl rfl)
theorem dX0_lay_46 : decode cX0_lay 46 = .ok (.aload_n 0, 1) := dk_42 (dk_at dksX0_lay_1 22 rfl rfl)
theorem dX0_lay_47 : decode cX0_lay 47 = .ok (.getfield 20, 3) := dk_180 0 20 (dk_at dksX0_lay_2 0 rfl rfl)
theorem dX0_lay_50 : decode cX0_lay 50 = .ok (.iload 4, 2) := dk_21 4 (dk_at dksX0_lay_2 3 rfl rfl)
theorem dX0_lay_52 : decode cX0_lay 52 = .ok (.invokevirtual 244, 3) := dk_182 0 244 (dk_at dksX0_lay_2 5 rfl rfl)
theorem dX0_lay_55 : decode cX0_lay 55 = .ok (.iconst (-1), 1) := dk_2 (dk_at dksX0_lay_2 8 rfl rfl)
theorem dX0_lay_56 : decode cX0_lay 56 = .ok (.if_icmp .eq 5, 3) := dk_159 0 5 (dk_at dksX0_lay_2 9 rfl rfl)
theorem dX0_lay_59 : decode cX0_lay 59 = .ok (.iconst 0, 1) := dk_3 (dk_at dksX0_lay_2 12 rfl rfl)
theorem dX0_lay_60 : decode cX0_lay 60 = .ok (.ireturn, 1) := dk_172 (dk_at dksX0_lay_2 13 rfl rfl)
theorem dX0_lay_61 : decode cX0_lay 61 = .ok (.aload_n 0, 1) := dk_42 (dk_at dksX0_lay_2 14 rfl rfl)
theorem dX0_lay_62 : decode cX0_lay 62 = .ok (.invokevirtual 230, 3) := dk_182 0 230 (dk_at dksX0_lay_2 15 rfl rfl)
theorem dX0_lay_65 : decode cX0_lay 65 = .ok (.pop, 1) := dk_87 (dk_at dksX0_lay_2 18 rfl rfl)
theorem dX0_lay_66 : decode cX0_lay 66 = .ok (.aload_n 0, 1) := dk_42 (dk_at dksX0_lay_2 19 rfl rfl)
theorem dX0_lay_67 : decode cX0_lay 67 = .ok (.getfield 20, 3) := dk_180 0 20 (dk_at dksX0_lay_2 20 rfl rfl)
theorem dX0_lay_70 : decode cX0_lay 70 = .ok (.getfield 219, 3) := dk_180 0 219 (dk_at dksX0_lay_3 0 rfl rfl)
theorem dX0_lay_73 : decode cX0_lay 73 = .ok (.iload 4, 2) := dk_21 4 (dk_at dksX0_lay_3 3 rfl rfl)
theorem dX0_lay_75 : decode cX0_lay 75 = .ok (.iload_n 3, 1) := dk_29 (dk_at dksX0_lay_3 5 rfl rfl)
theorem dX0_lay_76 : decode cX0_lay 76 = .ok (.iastore, 1) := dk_79 (dk_at dksX0_lay_3 6 rfl rfl)
theorem dX0_lay_77 : decode cX0_lay 77 = .ok (.iconst 1, 1) := dk_4 (dk_at dksX0_lay_3 7 rfl rfl)
theorem dX0_lay_78 : decode cX0_lay 78 = .ok (.ireturn, 1) := dk_172 (dk_at dksX0_lay_3 8 rfl rfl)
abbrev cX0_isCell : ByteArray := prog_1_method_6_code
def yX0_isCell : MethodName := ⟨RX0, "isCell", "(II)Z"⟩
def dkwX0_isCell_1 : List UInt8 := [3, 172]
abbrev dktX0_isCell_1 : List UInt8 := dkwX0_isCell_1 ++ []
def dkwX0_isCell_0 : List UInt8 := [26, 3, 16, 11, 184, 0, 110, 153, 0, 17, 27, 3, 16, 11, 184, 0, 110, 153, 0, 7, 4, 167, 0, 4]
abbrev dktX0_isCell_0 : List UInt8 := dkwX0_isCell_0 ++ dktX0_isCell_1
theorem dksX0_isCell_0 : cX0_isCell.data.toList.drop 0 = dktX0_isCell_0 := by decide +kernel
theorem dksX0_isCell_1 : cX0_isCell.data.toList.drop 24 = dktX0_isCell_1 := dk_seg dksX0_isCell_0 24 rfl rfl
theorem dX0_isCell_0 : decode cX0_isCell 0 = .ok (.iload_n 0, 1) := dk_26 (dk_at dksX0_isCell_0 0 rfl rfl)
theorem dX0_isCell_1 : decode cX0_isCell 1 = .ok (.iconst 0, 1) := dk_3 (dk_at dksX0_isCell_0 1 rfl rfl)
theorem dX0_isCell_2 : decode cX0_isCell 2 = .ok (.bipush 11, 2) := dk_16 11 (dk_at dksX0_isCell_0 2 rfl rfl)
theorem dX0_isCell_4 : decode cX0_isCell 4 = .ok (.invokestatic 110, 3) := dk_184 0 110 (dk_at dksX0_isCell_0 4 rfl rfl)
theorem dX0_isCell_7 : decode cX0_isCell 7 = .ok (.ifCond .eq 17, 3) := dk_153 0 17 (dk_at dksX0_isCell_0 7 rfl rfl)
theorem dX0_isCell_10 : decode cX0_isCell 10 = .ok (.iload_n 1, 1) := dk_27 (dk_at dksX0_isCell_0 10 rfl rfl)
theorem dX0_isCell_11 : decode cX0_isCell 11 = .ok (.iconst 0, 1) := dk_3 (dk_at dksX0_isCell_0 11 rfl rfl)
theorem dX0_isCell_12 : decode cX0_isCell 12 = .ok (.bipush 11, 2) := dk_16 11 (dk_at dksX0_isCell_0 12 rfl rfl)
theorem dX0_isCell_14 : decode cX0_isCell 14 = .ok (.invokestatic 110, 3) := dk_184 0 110 (dk_at dksX0_isCell_0 14 rfl rfl)
theorem dX0_isCell_17 : decode cX0_isCell 17 = .ok (.ifCond .eq 7, 3) := dk_153 0 7 (dk_at dksX0_isCell_0 17 rfl rfl)
theorem dX0_isCell_20 : decode cX0_isCell 20 = .ok (.iconst 1, 1) := dk_4 (dk_at dksX0_isCell_0 20 rfl rfl)
theorem dX0_isCell_21 : decode cX0_isCell 21 = .ok (.goto 4, 3) := dk_167 0 4 (dk_at dksX0_isCell_0 21 rfl rfl)
theorem dX0_isCell_24 : decode cX0_isCell 24 = .ok (.iconst 0, 1) := dk_3 (dk_at dksX0_isCell_1 0 rfl rfl)
theorem dX0_isCell_25 : decode cX0_isCell 25 = .ok (.ireturn, 1) := dk_172 (dk_at dksX0_isCell_1 1 rfl rfl)
abbrev cX0_minutes : ByteArray := prog_1_method_25_code
def yX0_minutes : MethodName := ⟨RX0, "minutes", "(I)I"⟩
def dkwX0_minutes_2 : List UInt8 := [182, 0, 250, 96, 61, 132, 3, 1, 167, 255, 233, 28, 172]
abbrev dktX0_minutes_2 : List UInt8 := dkwX0_minutes_2 ++ []
def dkwX0_minutes_1 : List UInt8 := [164, 0, 5, 2, 172, 3, 61, 3, 62, 29, 27, 162, 0, 24, 42, 182, 0, 230, 87, 28, 42, 180, 0, 20]
abbrev dktX0_minutes_1 : List UInt8 := dkwX0_minutes_1 ++ dktX0_minutes_2
def dkwX0_minutes_0 : List UInt8 := [27, 4, 16, 60, 184, 0, 110, 153, 0, 18, 42, 180, 0, 20, 180, 0, 247, 27, 96, 17, 39, 15]
abbrev dktX0_minutes_0 : List UInt8 := dkwX0_minutes_0 ++ dktX0_minutes_1
theorem dksX0_minutes_0 : cX0_minutes.data.toList.drop 0 = dktX0_minutes_0 := by decide +kernel
theorem dksX0_minutes_1 : cX0_minutes.data.toList.drop 22 = dktX0_minutes_1 := dk_seg dksX0_minutes_0 22 rfl rfl
theorem dksX0_minutes_2 : cX0_minutes.data.toList.drop 46 = dktX0_minutes_2 := dk_seg dksX0_minutes_1 24 rfl rfl
theorem dX0_minutes_0 : decode cX0_minutes 0 = .ok (.iload_n 1, 1) := dk_27 (dk_at dksX0_minutes_0 0 rfl rfl)
theorem dX0_minutes_1 : decode cX0_minutes 1 = .ok (.iconst 1, 1) := dk_4 (dk_at dksX0_minutes_0 1 rfl rfl)
theorem dX0_minutes_2 : decode cX0_minutes 2 = .ok (.bipush 60, 2) := dk_16 60 (dk_at dksX0_minutes_0 2 rfl rfl)
theorem dX0_minutes_4 : decode cX0_minutes 4 = .ok (.invokestatic 110, 3) := dk_184 0 110 (dk_at dksX0_minutes_0 4 rfl rfl)
theorem dX0_minutes_7 : decode cX0_minutes 7 = .ok (.ifCond .eq 18, 3) := dk_153 0 18 (dk_at dksX0_minutes_0 7 rfl rfl)
theorem dX0_minutes_10 : decode cX0_minutes 10 = .ok (.aload_n 0, 1) := dk_42 (dk_at dksX0_minutes_0 10 rfl rfl)
theorem dX0_minutes_11 : decode cX0_minutes 11 = .ok (.getfield 20, 3) := dk_180 0 20 (dk_at dksX0_minutes_0 11 rfl rfl)
theorem dX0_minutes_14 : decode cX0_minutes 14 = .ok (.getfield 247, 3) := dk_180 0 247 (dk_at dksX0_minutes_0 14 rfl rfl)
theorem dX0_minutes_17 : decode cX0_minutes 17 = .ok (.iload_n 1, 1) := dk_27 (dk_at dksX0_minutes_0 17 rfl rfl)
theorem dX0_minutes_18 : decode cX0_minutes 18 = .ok (.iadd, 1) := dk_96 (dk_at dksX0_minutes_0 18 rfl rfl)
theorem dX0_minutes_19 : decode cX0_minutes 19 = .ok (.sipush 9999, 3) := dk_17 39 15 (dk_at dksX0_minutes_0 19 rfl rfl)
theorem dX0_minutes_22 : decode cX0_minutes 22 = .ok (.if_icmp .le 5, 3) := dk_164 0 5 (dk_at dksX0_minutes_1 0 rfl rfl)
theorem dX0_minutes_25 : decode cX0_minutes 25 = .ok (.iconst (-1), 1) := dk_2 (dk_at dksX0_minutes_1 3 rfl rfl)
theorem dX0_minutes_26 : decode cX0_minutes 26 = .ok (.ireturn, 1) := dk_172 (dk_at dksX0_minutes_1 4 rfl rfl)
theorem dX0_minutes_27 : decode cX0_minutes 27 = .ok (.iconst 0, 1) := dk_3 (dk_at dksX0_minutes_1 5 rfl rfl)
theorem dX0_minutes_28 : decode cX0_minutes 28 = .ok (.istore_n 2, 1) := dk_61 (dk_at dksX0_minutes_1 6 rfl rfl)
theorem dX0_minutes_29 : decode cX0_minutes 29 = .ok (.iconst 0, 1) := dk_3 (dk_at dksX0_minutes_1 7 rfl rfl)
theorem dX0_minutes_30 : decode cX0_minutes 30 = .ok (.istore_n 3, 1) := dk_62 (dk_at dksX0_minutes_1 8 rfl rfl)
theorem dX0_minutes_31 : decode cX0_minutes 31 = .ok (.iload_n 3, 1) := dk_29 (dk_at dksX0_minutes_1 9 rfl rfl)
theorem dX0_minutes_32 : decode cX0_minutes 32 = .ok (.iload_n 1, 1) := dk_27 (dk_at dksX0_minutes_1 10 rfl rfl)
theorem dX0_minutes_33 : decode cX0_minutes 33 = .ok (.if_icmp .ge 24, 3) := dk_162 0 24 (dk_at dksX0_minutes_1 11 rfl rfl)
theorem dX0_minutes_36 : decode cX0_minutes 36 = .ok (.aload_n 0, 1) := dk_42 (dk_at dksX0_minutes_1 14 rfl rfl)
theorem dX0_minutes_37 : decode cX0_minutes 37 = .ok (.invokevirtual 230, 3) := dk_182 0 230 (dk_at dksX0_minutes_1 15 rfl rfl)
theorem dX0_minutes_40 : decode cX0_minutes 40 = .ok (.pop, 1) := dk_87 (dk_at dksX0_minutes_1 18 rfl rfl)
theorem dX0_minutes_41 : decode cX0_minutes 41 = .ok (.iload_n 2, 1) := dk_28 (dk_at dksX0_minutes_1 19 rfl rfl)
theorem dX0_minutes_42 : decode cX0_minutes 42 = .ok (.aload_n 0, 1) := dk_42 (dk_at dksX0_minutes_1 20 rfl rfl)
theorem dX0_minutes_43 : decode cX0_minutes 43 = .ok (.getfield 20, 3) := dk_180 0 20 (dk_at dksX0_minutes_1 21 rfl rfl)
theorem dX0_minutes_46 : decode cX0_minutes 46 = .ok (.invokevirtual 250, 3) := dk_182 0 250 (dk_at dksX0_minutes_2 0 rfl rfl)
theorem dX0_minutes_49 : decode cX0_minutes 49 = .ok (.iadd, 1) := dk_96 (dk_at dksX0_minutes_2 3 rfl rfl)
theorem dX0_minutes_50 : decode cX0_minutes 50 = .ok (.istore_n 2, 1) := dk_61 (dk_at dksX0_minutes_2 4 rfl rfl)
theorem dX0_minutes_51 : decode cX0_minutes 51 = .ok (.iinc 3 1, 3) := dk_132 3 1 (dk_at dksX0_minutes_2 5 rfl rfl)
theorem dX0_minutes_54 : decode cX0_minutes 54 = .ok (.goto (-23), 3) := dk_167 255 233 (dk_at dksX0_minutes_2 8 rfl rfl)
theorem dX0_minutes_57 : decode cX0_minutes 57 = .ok (.iload_n 2, 1) := dk_28 (dk_at dksX0_minutes_2 11 rfl rfl)
theorem dX0_minutes_58 : decode cX0_minutes 58 = .ok (.ireturn, 1) := dk_172 (dk_at dksX0_minutes_2 12 rfl rfl)
abbrev cX0_on : ByteArray := prog_1_method_7_code
def yX0_on : MethodName := ⟨RX0, "on", "(II)I"⟩
def dkwX0_on_1 : List UInt8 := [184, 0, 121, 153, 0, 12, 16, 12, 29, 104, 28, 96, 167, 0, 4, 2, 172]
abbrev dktX0_on_1 : List UInt8 := dkwX0_on_1 ++ []
def dkwX0_on_0 : List UInt8 := [26, 16, 12, 112, 27, 184, 0, 114, 96, 61, 26, 16, 12, 108, 27, 184, 0, 118, 96, 62, 28, 29]
abbrev dktX0_on_0 : List UInt8 := dkwX0_on_0 ++ dktX0_on_1
theorem dksX0_on_0 : cX0_on.data.toList.drop 0 = dktX0_on_0 := by decide +kernel
theorem dksX0_on_1 : cX0_on.data.toList.drop 22 = dktX0_on_1 := dk_seg dksX0_on_0 22 rfl rfl
theorem dX0_on_0 : decode cX0_on 0 = .ok (.iload_n 0, 1) := dk_26 (dk_at dksX0_on_0 0 rfl rfl)
theorem dX0_on_1 : decode cX0_on 1 = .ok (.bipush 12, 2) := dk_16 12 (dk_at dksX0_on_0 1 rfl rfl)
theorem dX0_on_3 : decode cX0_on 3 = .ok (.irem, 1) := dk_112 (dk_at dksX0_on_0 3 rfl rfl)
theorem dX0_on_4 : decode cX0_on 4 = .ok (.iload_n 1, 1) := dk_27 (dk_at dksX0_on_0 4 rfl rfl)
theorem dX0_on_5 : decode cX0_on 5 = .ok (.invokestatic 114, 3) := dk_184 0 114 (dk_at dksX0_on_0 5 rfl rfl)
theorem dX0_on_8 : decode cX0_on 8 = .ok (.iadd, 1) := dk_96 (dk_at dksX0_on_0 8 rfl rfl)
theorem dX0_on_9 : decode cX0_on 9 = .ok (.istore_n 2, 1) := dk_61 (dk_at dksX0_on_0 9 rfl rfl)
theorem dX0_on_10 : decode cX0_on 10 = .ok (.iload_n 0, 1) := dk_26 (dk_at dksX0_on_0 10 rfl rfl)
theorem dX0_on_11 : decode cX0_on 11 = .ok (.bipush 12, 2) := dk_16 12 (dk_at dksX0_on_0 11 rfl rfl)
theorem dX0_on_13 : decode cX0_on 13 = .ok (.idiv, 1) := dk_108 (dk_at dksX0_on_0 13 rfl rfl)
theorem dX0_on_14 : decode cX0_on 14 = .ok (.iload_n 1, 1) := dk_27 (dk_at dksX0_on_0 14 rfl rfl)
theorem dX0_on_15 : decode cX0_on 15 = .ok (.invokestatic 118, 3) := dk_184 0 118 (dk_at dksX0_on_0 15 rfl rfl)
theorem dX0_on_18 : decode cX0_on 18 = .ok (.iadd, 1) := dk_96 (dk_at dksX0_on_0 18 rfl rfl)
theorem dX0_on_19 : decode cX0_on 19 = .ok (.istore_n 3, 1) := dk_62 (dk_at dksX0_on_0 19 rfl rfl)
theorem dX0_on_20 : decode cX0_on 20 = .ok (.iload_n 2, 1) := dk_28 (dk_at dksX0_on_0 20 rfl rfl)
theorem dX0_on_21 : decode cX0_on 21 = .ok (.iload_n 3, 1) := dk_29 (dk_at dksX0_on_0 21 rfl rfl)
theorem dX0_on_22 : decode cX0_on 22 = .ok (.invokestatic 121, 3) := dk_184 0 121 (dk_at dksX0_on_1 0 rfl rfl)
theorem dX0_on_25 : decode cX0_on 25 = .ok (.ifCond .eq 12, 3) := dk_153 0 12 (dk_at dksX0_on_1 3 rfl rfl)
theorem dX0_on_28 : decode cX0_on 28 = .ok (.bipush 12, 2) := dk_16 12 (dk_at dksX0_on_1 6 rfl rfl)
theorem dX0_on_30 : decode cX0_on 30 = .ok (.iload_n 3, 1) := dk_29 (dk_at dksX0_on_1 8 rfl rfl)
theorem dX0_on_31 : decode cX0_on 31 = .ok (.imul, 1) := dk_104 (dk_at dksX0_on_1 9 rfl rfl)
theorem dX0_on_32 : decode cX0_on 32 = .ok (.iload_n 2, 1) := dk_28 (dk_at dksX0_on_1 10 rfl rfl)
theorem dX0_on_33 : decode cX0_on 33 = .ok (.iadd, 1) := dk_96 (dk_at dksX0_on_1 11 rfl rfl)
theorem dX0_on_34 : decode cX0_on 34 = .ok (.goto 4, 3) := dk_167 0 4 (dk_at dksX0_on_1 12 rfl rfl)
theorem dX0_on_37 : decode cX0_on 37 = .ok (.iconst (-1), 1) := dk_2 (dk_at dksX0_on_1 15 rfl rfl)
theorem dX0_on_38 : decode cX0_on 38 = .ok (.ireturn, 1) := dk_172 (dk_at dksX0_on_1 16 rfl rfl)
abbrev cX0_right : ByteArray := prog_1_method_4_code
def yX0_right : MethodName := ⟨RX0, "right", "(I)I"⟩
def dkwX0_right_0 : List UInt8 := [26, 4, 160, 0, 7, 4, 167, 0, 13, 26, 6, 160, 0, 7, 2, 167, 0, 4, 3, 172]
abbrev dktX0_right_0 : List UInt8 := dkwX0_right_0 ++ []
theorem dksX0_right_0 : cX0_right.data.toList.drop 0 = dktX0_right_0 := by decide +kernel
theorem dX0_right_0 : decode cX0_right 0 = .ok (.iload_n 0, 1) := dk_26 (dk_at dksX0_right_0 0 rfl rfl)
theorem dX0_right_1 : decode cX0_right 1 = .ok (.iconst 1, 1) := dk_4 (dk_at dksX0_right_0 1 rfl rfl)
theorem dX0_right_2 : decode cX0_right 2 = .ok (.if_icmp .ne 7, 3) := dk_160 0 7 (dk_at dksX0_right_0 2 rfl rfl)
theorem dX0_right_5 : decode cX0_right 5 = .ok (.iconst 1, 1) := dk_4 (dk_at dksX0_right_0 5 rfl rfl)
theorem dX0_right_6 : decode cX0_right 6 = .ok (.goto 13, 3) := dk_167 0 13 (dk_at dksX0_right_0 6 rfl rfl)
theorem dX0_right_9 : decode cX0_right 9 = .ok (.iload_n 0, 1) := dk_26 (dk_at dksX0_right_0 9 rfl rfl)
theorem dX0_right_10 : decode cX0_right 10 = .ok (.iconst 3, 1) := dk_6 (dk_at dksX0_right_0 10 rfl rfl)
theorem dX0_right_11 : decode cX0_right 11 = .ok (.if_icmp .ne 7, 3) := dk_160 0 7 (dk_at dksX0_right_0 11 rfl rfl)
theorem dX0_right_14 : decode cX0_right 14 = .ok (.iconst (-1), 1) := dk_2 (dk_at dksX0_right_0 14 rfl rfl)
theorem dX0_right_15 : decode cX0_right 15 = .ok (.goto 4, 3) := dk_167 0 4 (dk_at dksX0_right_0 15 rfl rfl)
theorem dX0_right_18 : decode cX0_right 18 = .ok (.iconst 0, 1) := dk_3 (dk_at dksX0_right_0 18 rfl rfl)
theorem dX0_right_19 : decode cX0_right 19 = .ok (.ireturn, 1) := dk_172 (dk_at dksX0_right_0 19 rfl rfl)
abbrev cX0_up : ByteArray := prog_1_method_5_code
def yX0_up : MethodName := ⟨RX0, "up", "(I)I"⟩
def dkwX0_up_0 : List UInt8 := [26, 154, 0, 7, 4, 167, 0, 13, 26, 5, 160, 0, 7, 2, 167, 0, 4, 3, 172]
abbrev dktX0_up_0 : List UInt8 := dkwX0_up_0 ++ []
theorem dksX0_up_0 : cX0_up.data.toList.drop 0 = dktX0_up_0 := by decide +kernel
theorem dX0_up_0 : decode cX0_up 0 = .ok (.iload_n 0, 1) := dk_26 (dk_at dksX0_up_0 0 rfl rfl)
theorem dX0_up_1 : decode cX0_up 1 = .ok (.ifCond .ne 7, 3) := dk_154 0 7 (dk_at dksX0_up_0 1 rfl rfl)
theorem dX0_up_4 : decode cX0_up 4 = .ok (.iconst 1, 1) := dk_4 (dk_at dksX0_up_0 4 rfl rfl)
theorem dX0_up_5 : decode cX0_up 5 = .ok (.goto 13, 3) := dk_167 0 13 (dk_at dksX0_up_0 5 rfl rfl)
theorem dX0_up_8 : decode cX0_up 8 = .ok (.iload_n 0, 1) := dk_26 (dk_at dksX0_up_0 8 rfl rfl)
theorem dX0_up_9 : decode cX0_up 9 = .ok (.iconst 2, 1) := dk_5 (dk_at dksX0_up_0 9 rfl rfl)
theorem dX0_up_10 : decode cX0_up 10 = .ok (.if_icmp .ne 7, 3) := dk_160 0 7 (dk_at dksX0_up_0 10 rfl rfl)
theorem dX0_up_13 : decode cX0_up 13 = .ok (.iconst (-1), 1) := dk_2 (dk_at dksX0_up_0 13 rfl rfl)
theorem dX0_up_14 : decode cX0_up 14 = .ok (.goto 4, 3) := dk_167 0 4 (dk_at dksX0_up_0 14 rfl rfl)
theorem dX0_up_17 : decode cX0_up 17 = .ok (.iconst 0, 1) := dk_3 (dk_at dksX0_up_0 17 rfl rfl)
theorem dX0_up_18 : decode cX0_up 18 = .ok (.ireturn, 1) := dk_172 (dk_at dksX0_up_0 18 rfl rfl)
abbrev cX0_bound : ByteArray := prog_1_method_3_code
def yX0_bound : MethodName := ⟨RX0, "bound", "(III)I"⟩
def dkwX0_bound_0 : List UInt8 := [27, 28, 26, 184, 0, 101, 184, 0, 107, 172]
abbrev dktX0_bound_0 : List UInt8 := dkwX0_bound_0 ++ []
theorem dksX0_bound_0 : cX0_bound.data.toList.drop 0 = dktX0_bound_0 := by decide +kernel
theorem dX0_bound_0 : decode cX0_bound 0 = .ok (.iload_n 1, 1) := dk_27 (dk_at dksX0_bound_0 0 rfl rfl)
theorem dX0_bound_1 : decode cX0_bound 1 = .ok (.iload_n 2, 1) := dk_28 (dk_at dksX0_bound_0 1 rfl rfl)
theorem dX0_bound_2 : decode cX0_bound 2 = .ok (.iload_n 0, 1) := dk_26 (dk_at dksX0_bound_0 2 rfl rfl)
theorem dX0_bound_3 : decode cX0_bound 3 = .ok (.invokestatic 101, 3) := dk_184 0 101 (dk_at dksX0_bound_0 3 rfl rfl)
theorem dX0_bound_6 : decode cX0_bound 6 = .ok (.invokestatic 107, 3) := dk_184 0 107 (dk_at dksX0_bound_0 6 rfl rfl)
theorem dX0_bound_9 : decode cX0_bound 9 = .ok (.ireturn, 1) := dk_172 (dk_at dksX0_bound_0 9 rfl rfl)
abbrev cX0_of : ByteArray := prog_1_method_26_code
def yX0_of : MethodName := ⟨RX0, "of", "(II)I"⟩
def dkwX0_of_8 : List UInt8 := [182, 1, 29, 172]
abbrev dktX0_of_8 : List UInt8 := dkwX0_of_8 ++ []
def dkwX0_of_7 : List UInt8 := [180, 0, 20, 45, 182, 1, 22, 172, 42, 180, 0, 20, 45, 182, 1, 26, 172, 42, 180, 0, 20, 45]
abbrev dktX0_of_7 : List UInt8 := dkwX0_of_7 ++ dktX0_of_8
def dkwX0_of_6 : List UInt8 := [172, 45, 180, 1, 10, 172, 45, 180, 1, 13, 172, 45, 180, 1, 16, 172, 45, 180, 1, 19, 172, 42]
abbrev dktX0_of_6 : List UInt8 := dkwX0_of_6 ++ dktX0_of_7
def dkwX0_of_5 : List UInt8 := [112, 172, 45, 180, 1, 0, 16, 12, 108, 172, 45, 180, 1, 2, 172, 45, 180, 1, 5, 172, 45, 180, 1, 7]
abbrev dktX0_of_5 : List UInt8 := dkwX0_of_5 ++ dktX0_of_6
def dkwX0_of_4 : List UInt8 := [45, 180, 0, 253, 172, 45, 182, 0, 217, 153, 0, 7, 4, 167, 0, 4, 3, 172, 45, 180, 1, 0, 16, 12]
abbrev dktX0_of_4 : List UInt8 := dkwX0_of_4 ++ dktX0_of_5
def dkwX0_of_3 : List UInt8 := [170, 0, 0, 0, 152, 0, 0, 0, 0, 0, 0, 0, 12, 0, 0, 0, 65, 0, 0, 0, 70, 0, 0, 0, 83, 0, 0, 0, 91, 0, 0, 0, 99, 0, 0, 0, 104, 0, 0, 0, 109, 0, 0, 0, 114, 0, 0, 0, 119, 0, 0, 0, 124, 0, 0, 0, 129, 0, 0, 0, 134, 0, 0, 0, 143]
abbrev dktX0_of_3 : List UInt8 := dkwX0_of_3 ++ dktX0_of_4
def dkwX0_of_2 : List UInt8 := [154, 0, 5, 2, 172, 28]
abbrev dktX0_of_2 : List UInt8 := dkwX0_of_2 ++ dktX0_of_3
def dkwX0_of_1 : List UInt8 := [180, 0, 20, 180, 0, 173, 27, 50, 78, 28, 5, 16, 7, 184, 0, 110, 153, 0, 12, 45, 182, 0, 217]
abbrev dktX0_of_1 : List UInt8 := dkwX0_of_1 ++ dktX0_of_2
def dkwX0_of_0 : List UInt8 := [42, 27, 182, 0, 213, 153, 0, 13, 28, 3, 16, 13, 184, 0, 110, 154, 0, 6, 16, 254, 172, 42]
abbrev dktX0_of_0 : List UInt8 := dkwX0_of_0 ++ dktX0_of_1
theorem dksX0_of_0 : cX0_of.data.toList.drop 0 = dktX0_of_0 := by decide +kernel
theorem dksX0_of_1 : cX0_of.data.toList.drop 22 = dktX0_of_1 := dk_seg dksX0_of_0 22 rfl rfl
theorem dksX0_of_2 : cX0_of.data.toList.drop 45 = dktX0_of_2 := dk_seg dksX0_of_1 23 rfl rfl
theorem dksX0_of_3 : cX0_of.data.toList.drop 51 = dktX0_of_3 := dk_seg dksX0_of_2 6 rfl rfl
theorem dksX0_of_4 : cX0_of.data.toList.drop 116 = dktX0_of_4 := dk_seg dksX0_of_3 65 rfl rfl
theorem dksX0_of_5 : cX0_of.data.toList.drop 140 = dktX0_of_5 := dk_seg dksX0_of_4 24 rfl rfl
theorem dksX0_of_6 : cX0_of.data.toList.drop 164 = dktX0_of_6 := dk_seg dksX0_of_5 24 rfl rfl
theorem dksX0_of_7 : cX0_of.data.toList.drop 186 = dktX0_of_7 := dk_seg dksX0_of_6 22 rfl rfl
theorem dksX0_of_8 : cX0_of.data.toList.drop 208 = dktX0_of_8 := dk_seg dksX0_of_7 22 rfl rfl
theorem dX0_of_0 : decode cX0_of 0 = .ok (.aload_n 0, 1) := dk_42 (dk_at dksX0_of_0 0 rfl rfl)
theorem dX0_of_1 : decode cX0_of 1 = .ok (.iload_n 1, 1) := dk_27 (dk_at dksX0_of_0 1 rfl rfl)
theorem dX0_of_2 : decode cX0_of 2 = .ok (.invokevirtual 213, 3) := dk_182 0 213 (dk_at dksX0_of_0 2 rfl rfl)
theorem dX0_of_5 : decode cX0_of 5 = .ok (.ifCond .eq 13, 3) := dk_153 0 13 (dk_at dksX0_of_0 5 rfl rfl)
theorem dX0_of_8 : decode cX0_of 8 = .ok (.iload_n 2, 1) := dk_28 (dk_at dksX0_of_0 8 rfl rfl)
theorem dX0_of_9 : decode cX0_of 9 = .ok (.iconst 0, 1) := dk_3 (dk_at dksX0_of_0 9 rfl rfl)
theorem dX0_of_10 : decode cX0_of 10 = .ok (.bipush 13, 2) := dk_16 13 (dk_at dksX0_of_0 10 rfl rfl)
theorem dX0_of_12 : decode cX0_of 12 = .ok (.invokestatic 110, 3) := dk_184 0 110 (dk_at dksX0_of_0 12 rfl rfl)
theorem dX0_of_15 : decode cX0_of 15 = .ok (.ifCond .ne 6, 3) := dk_154 0 6 (dk_at dksX0_of_0 15 rfl rfl)
theorem dX0_of_18 : decode cX0_of 18 = .ok (.bipush (-2), 2) := dk_16 254 (dk_at dksX0_of_0 18 rfl rfl)
theorem dX0_of_20 : decode cX0_of 20 = .ok (.ireturn, 1) := dk_172 (dk_at dksX0_of_0 20 rfl rfl)
theorem dX0_of_21 : decode cX0_of 21 = .ok (.aload_n 0, 1) := dk_42 (dk_at dksX0_of_0 21 rfl rfl)
theorem dX0_of_22 : decode cX0_of 22 = .ok (.getfield 20, 3) := dk_180 0 20 (dk_at dksX0_of_1 0 rfl rfl)
theorem dX0_of_25 : decode cX0_of 25 = .ok (.getfield 173, 3) := dk_180 0 173 (dk_at dksX0_of_1 3 rfl rfl)
theorem dX0_of_28 : decode cX0_of 28 = .ok (.iload_n 1, 1) := dk_27 (dk_at dksX0_of_1 6 rfl rfl)
theorem dX0_of_29 : decode cX0_of 29 = .ok (.aaload, 1) := dk_50 (dk_at dksX0_of_1 7 rfl rfl)
theorem dX0_of_30 : decode cX0_of 30 = .ok (.astore_n 3, 1) := dk_78 (dk_at dksX0_of_1 8 rfl rfl)
theorem dX0_of_31 : decode cX0_of 31 = .ok (.iload_n 2, 1) := dk_28 (dk_at dksX0_of_1 9 rfl rfl)
theorem dX0_of_32 : decode cX0_of 32 = .ok (.iconst 2, 1) := dk_5 (dk_at dksX0_of_1 10 rfl rfl)
theorem dX0_of_33 : decode cX0_of 33 = .ok (.bipush 7, 2) := dk_16 7 (dk_at dksX0_of_1 11 rfl rfl)
theorem dX0_of_35 : decode cX0_of 35 = .ok (.invokestatic 110, 3) := dk_184 0 110 (dk_at dksX0_of_1 13 rfl rfl)
theorem dX0_of_38 : decode cX0_of 38 = .ok (.ifCond .eq 12, 3) := dk_153 0 12 (dk_at dksX0_of_1 16 rfl rfl)
theorem dX0_of_41 : decode cX0_of 41 = .ok (.aload_n 3, 1) := dk_45 (dk_at dksX0_of_1 19 rfl rfl)
theorem dX0_of_42 : decode cX0_of 42 = .ok (.invokevirtual 217, 3) := dk_182 0 217 (dk_at dksX0_of_1 20 rfl rfl)
theorem dX0_of_45 : decode cX0_of 45 = .ok (.ifCond .ne 5, 3) := dk_154 0 5 (dk_at dksX0_of_2 0 rfl rfl)
theorem dX0_of_48 : decode cX0_of 48 = .ok (.iconst (-1), 1) := dk_2 (dk_at dksX0_of_2 3 rfl rfl)
theorem dX0_of_49 : decode cX0_of 49 = .ok (.ireturn, 1) := dk_172 (dk_at dksX0_of_2 4 rfl rfl)
theorem dX0_of_50 : decode cX0_of 50 = .ok (.iload_n 2, 1) := dk_28 (dk_at dksX0_of_2 5 rfl rfl)
theorem dX0_of_51 : decode cX0_of 51 = .ok (.tableswitch 152 0 12 #[65, 70, 83, 91, 99, 104, 109, 114, 119, 124, 129, 134, 143], 65) := by decide +kernel
theorem dX0_of_116 : decode cX0_of 116 = .ok (.aload_n 3, 1) := dk_45 (dk_at dksX0_of_4 0 rfl rfl)
theorem dX0_of_117 : decode cX0_of 117 = .ok (.getfield 253, 3) := dk_180 0 253 (dk_at dksX0_of_4 1 rfl rfl)
theorem dX0_of_120 : decode cX0_of 120 = .ok (.ireturn, 1) := dk_172 (dk_at dksX0_of_4 4 rfl rfl)
theorem dX0_of_121 : decode cX0_of 121 = .ok (.aload_n 3, 1) := dk_45 (dk_at dksX0_of_4 5 rfl rfl)
theorem dX0_of_122 : decode cX0_of 122 = .ok (.invokevirtual 217, 3) := dk_182 0 217 (dk_at dksX0_of_4 6 rfl rfl)
theorem dX0_of_125 : decode cX0_of 125 = .ok (.ifCond .eq 7, 3) := dk_153 0 7 (dk_at dksX0_of_4 9 rfl rfl)
theorem dX0_of_128 : decode cX0_of 128 = .ok (.iconst 1, 1) := dk_4 (dk_at dksX0_of_4 12 rfl rfl)
theorem dX0_of_129 : decode cX0_of 129 = .ok (.goto 4, 3) := dk_167 0 4 (dk_at dksX0_of_4 13 rfl rfl)
theorem dX0_of_132 : decode cX0_of 132 = .ok (.iconst 0, 1) := dk_3 (dk_at dksX0_of_4 16 rfl rfl)
theorem dX0_of_133 : decode cX0_of 133 = .ok (.ireturn, 1) := dk_172 (dk_at dksX0_of_4 17 rfl rfl)
theorem dX0_of_134 : decode cX0_of 134 = .ok (.aload_n 3, 1) := dk_45 (dk_at dksX0_of_4 18 rfl rfl)
theorem dX0_of_135 : decode cX0_of 135 = .ok (.getfield 256, 3) := dk_180 1 0 (dk_at dksX0_of_4 19 rfl rfl)
theorem dX0_of_138 : decode cX0_of 138 = .ok (.bipush 12, 2) := dk_16 12 (dk_at dksX0_of_4 22 rfl rfl)
theorem dX0_of_140 : decode cX0_of 140 = .ok (.irem, 1) := dk_112 (dk_at dksX0_of_5 0 rfl rfl)
theorem dX0_of_141 : decode cX0_of 141 = .ok (.ireturn, 1) := dk_172 (dk_at dksX0_of_5 1 rfl rfl)
theorem dX0_of_142 : decode cX0_of 142 = .ok (.aload_n 3, 1) := dk_45 (dk_at dksX0_of_5 2 rfl rfl)
theorem dX0_of_143 : decode cX0_of 143 = .ok (.getfield 256, 3) := dk_180 1 0 (dk_at dksX0_of_5 3 rfl rfl)
theorem dX0_of_146 : decode cX0_of 146 = .ok (.bipush 12, 2) := dk_16 12 (dk_at dksX0_of_5 6 rfl rfl)
theorem dX0_of_148 : decode cX0_of 148 = .ok (.idiv, 1) := dk_108 (dk_at dksX0_of_5 8 rfl rfl)
theorem dX0_of_149 : decode cX0_of 149 = .ok (.ireturn, 1) := dk_172 (dk_at dksX0_of_5 9 rfl rfl)
theorem dX0_of_150 : decode cX0_of 150 = .ok (.aload_n 3, 1) := dk_45 (dk_at dksX0_of_5 10 rfl rfl)
theorem dX0_of_151 : decode cX0_of 151 = .ok (.getfield 258, 3) := dk_180 1 2 (dk_at dksX0_of_5 11 rfl rfl)
theorem dX0_of_154 : decode cX0_of 154 = .ok (.ireturn, 1) := dk_172 (dk_at dksX0_of_5 14 rfl rfl)
theorem dX0_of_155 : decode cX0_of 155 = .ok (.aload_n 3, 1) := dk_45 (dk_at dksX0_of_5 15 rfl rfl)
theorem dX0_of_156 : decode cX0_of 156 = .ok (.getfield 261, 3) := dk_180 1 5 (dk_at dksX0_of_5 16 rfl rfl)
theorem dX0_of_159 : decode cX0_of 159 = .ok (.ireturn, 1) := dk_172 (dk_at dksX0_of_5 19 rfl rfl)
theorem dX0_of_160 : decode cX0_of 160 = .ok (.aload_n 3, 1) := dk_45 (dk_at dksX0_of_5 20 rfl rfl)
theorem dX0_of_161 : decode cX0_of 161 = .ok (.getfield 263, 3) := dk_180 1 7 (dk_at dksX0_of_5 21 rfl rfl)
theorem dX0_of_164 : decode cX0_of 164 = .ok (.ireturn, 1) := dk_172 (dk_at dksX0_of_6 0 rfl rfl)
theorem dX0_of_165 : decode cX0_of 165 = .ok (.aload_n 3, 1) := dk_45 (dk_at dksX0_of_6 1 rfl rfl)
theorem dX0_of_166 : decode cX0_of 166 = .ok (.getfield 266, 3) := dk_180 1 10 (dk_at dksX0_of_6 2 rfl rfl)
theorem dX0_of_169 : decode cX0_of 169 = .ok (.ireturn, 1) := dk_172 (dk_at dksX0_of_6 5 rfl rfl)
theorem dX0_of_170 : decode cX0_of 170 = .ok (.aload_n 3, 1) := dk_45 (dk_at dksX0_of_6 6 rfl rfl)
theorem dX0_of_171 : decode cX0_of 171 = .ok (.getfield 269, 3) := dk_180 1 13 (dk_at dksX0_of_6 7 rfl rfl)
theorem dX0_of_174 : decode cX0_of 174 = .ok (.ireturn, 1) := dk_172 (dk_at dksX0_of_6 10 rfl rfl)
theorem dX0_of_175 : decode cX0_of 175 = .ok (.aload_n 3, 1) := dk_45 (dk_at dksX0_of_6 11 rfl rfl)
theorem dX0_of_176 : decode cX0_of 176 = .ok (.getfield 272, 3) := dk_180 1 16 (dk_at dksX0_of_6 12 rfl rfl)
theorem dX0_of_179 : decode cX0_of 179 = .ok (.ireturn, 1) := dk_172 (dk_at dksX0_of_6 15 rfl rfl)
theorem dX0_of_180 : decode cX0_of 180 = .ok (.aload_n 3, 1) := dk_45 (dk_at dksX0_of_6 16 rfl rfl)
theorem dX0_of_181 : decode cX0_of 181 = .ok (.getfield 275, 3) := dk_180 1 19 (dk_at dksX0_of_6 17 rfl rfl)
theorem dX0_of_184 : decode cX0_of 184 = .ok (.ireturn, 1) := dk_172 (dk_at dksX0_of_6 20 rfl rfl)
theorem dX0_of_185 : decode cX0_of 185 = .ok (.aload_n 0, 1) := dk_42 (dk_at dksX0_of_6 21 rfl rfl)
theorem dX0_of_186 : decode cX0_of 186 = .ok (.getfield 20, 3) := dk_180 0 20 (dk_at dksX0_of_7 0 rfl rfl)
theorem dX0_of_189 : decode cX0_of 189 = .ok (.aload_n 3, 1) := dk_45 (dk_at dksX0_of_7 3 rfl rfl)
theorem dX0_of_190 : decode cX0_of 190 = .ok (.invokevirtual 278, 3) := dk_182 1 22 (dk_at dksX0_of_7 4 rfl rfl)
theorem dX0_of_193 : decode cX0_of 193 = .ok (.ireturn, 1) := dk_172 (dk_at dksX0_of_7 7 rfl rfl)
theorem dX0_of_194 : decode cX0_of 194 = .ok (.aload_n 0, 1) := dk_42 (dk_at dksX0_of_7 8 rfl rfl)
theorem dX0_of_195 : decode cX0_of 195 = .ok (.getfield 20, 3) := dk_180 0 20 (dk_at dksX0_of_7 9 rfl rfl)
theorem dX0_of_198 : decode cX0_of 198 = .ok (.aload_n 3, 1) := dk_45 (dk_at dksX0_of_7 12 rfl rfl)
theorem dX0_of_199 : decode cX0_of 199 = .ok (.invokevirtual 282, 3) := dk_182 1 26 (dk_at dksX0_of_7 13 rfl rfl)
theorem dX0_of_202 : decode cX0_of 202 = .ok (.ireturn, 1) := dk_172 (dk_at dksX0_of_7 16 rfl rfl)
theorem dX0_of_203 : decode cX0_of 203 = .ok (.aload_n 0, 1) := dk_42 (dk_at dksX0_of_7 17 rfl rfl)
theorem dX0_of_204 : decode cX0_of 204 = .ok (.getfield 20, 3) := dk_180 0 20 (dk_at dksX0_of_7 18 rfl rfl)
theorem dX0_of_207 : decode cX0_of 207 = .ok (.aload_n 3, 1) := dk_45 (dk_at dksX0_of_7 21 rfl rfl)
theorem dX0_of_208 : decode cX0_of 208 = .ok (.invokevirtual 285, 3) := dk_182 1 29 (dk_at dksX0_of_8 0 rfl rfl)
theorem dX0_of_211 : decode cX0_of 211 = .ok (.ireturn, 1) := dk_172 (dk_at dksX0_of_8 3 rfl rfl)
abbrev cX0_cell : ByteArray := prog_1_method_27_code
def yX0_cell : MethodName := ⟨RX0, "cell", "(III)I"⟩
def dkwX0_cell_2 : List UInt8 := [16, 12, 28, 104, 27, 96, 182, 0, 244, 172]
abbrev dktX0_cell_2 : List UInt8 := dkwX0_cell_2 ++ []
def dkwX0_cell_1 : List UInt8 := [154, 0, 20, 42, 180, 0, 20, 180, 0, 219, 16, 12, 28, 104, 27, 96, 46, 167, 0, 16, 42, 180, 0, 20]
abbrev dktX0_cell_1 : List UInt8 := dkwX0_cell_1 ++ dktX0_cell_2
def dkwX0_cell_0 : List UInt8 := [27, 28, 184, 0, 121, 153, 0, 12, 29, 3, 4, 184, 0, 110, 154, 0, 8, 16, 254, 167, 0, 37, 29]
abbrev dktX0_cell_0 : List UInt8 := dkwX0_cell_0 ++ dktX0_cell_1
theorem dksX0_cell_0 : cX0_cell.data.toList.drop 0 = dktX0_cell_0 := by decide +kernel
theorem dksX0_cell_1 : cX0_cell.data.toList.drop 23 = dktX0_cell_1 := dk_seg dksX0_cell_0 23 rfl rfl
theorem dksX0_cell_2 : cX0_cell.data.toList.drop 47 = dktX0_cell_2 := dk_seg dksX0_cell_1 24 rfl rfl
theorem dX0_cell_0 : decode cX0_cell 0 = .ok (.iload_n 1, 1) := dk_27 (dk_at dksX0_cell_0 0 rfl rfl)
theorem dX0_cell_1 : decode cX0_cell 1 = .ok (.iload_n 2, 1) := dk_28 (dk_at dksX0_cell_0 1 rfl rfl)
theorem dX0_cell_2 : decode cX0_cell 2 = .ok (.invokestatic 121, 3) := dk_184 0 121 (dk_at dksX0_cell_0 2 rfl rfl)
theorem dX0_cell_5 : decode cX0_cell 5 = .ok (.ifCond .eq 12, 3) := dk_153 0 12 (dk_at dksX0_cell_0 5 rfl rfl)
theorem dX0_cell_8 : decode cX0_cell 8 = .ok (.iload_n 3, 1) := dk_29 (dk_at dksX0_cell_0 8 rfl rfl)
theorem dX0_cell_9 : decode cX0_cell 9 = .ok (.iconst 0, 1) := dk_3 (dk_at dksX0_cell_0 9 rfl rfl)
theorem dX0_cell_10 : decode cX0_cell 10 = .ok (.iconst 1, 1) := dk_4 (dk_at dksX0_cell_0 10 rfl rfl)
theorem dX0_cell_11 : decode cX0_cell 11 = .ok (.invokestatic 110, 3) := dk_184 0 110 (dk_at dksX0_cell_0 11 rfl rfl)
theorem dX0_cell_14 : decode cX0_cell 14 = .ok (.ifCond .ne 8, 3) := dk_154 0 8 (dk_at dksX0_cell_0 14 rfl rfl)
theorem dX0_cell_17 : decode cX0_cell 17 = .ok (.bipush (-2), 2) := dk_16 254 (dk_at dksX0_cell_0 17 rfl rfl)
theorem dX0_cell_19 : decode cX0_cell 19 = .ok (.goto 37, 3) := dk_167 0 37 (dk_at dksX0_cell_0 19 rfl rfl)
theorem dX0_cell_22 : decode cX0_cell 22 = .ok (.iload_n 3, 1) := dk_29 (dk_at dksX0_cell_0 22 rfl rfl)
theorem dX0_cell_23 : decode cX0_cell 23 = .ok (.ifCond .ne 20, 3) := dk_154 0 20 (dk_at dksX0_cell_1 0 rfl rfl)
theorem dX0_cell_26 : decode cX0_cell 26 = .ok (.aload_n 0, 1) := dk_42 (dk_at dksX0_cell_1 3 rfl rfl)
theorem dX0_cell_27 : decode cX0_cell 27 = .ok (.getfield 20, 3) := dk_180 0 20 (dk_at dksX0_cell_1 4 rfl rfl)
theorem dX0_cell_30 : decode cX0_cell 30 = .ok (.getfield 219, 3) := dk_180 0 219 (dk_at dksX0_cell_1 7 rfl rfl)
theorem dX0_cell_33 : decode cX0_cell 33 = .ok (.bipush 12, 2) := dk_16 12 (dk_at dksX0_cell_1 10 rfl rfl)
theorem dX0_cell_35 : decode cX0_cell 35 = .ok (.iload_n 2, 1) := dk_28 (dk_at dksX0_cell_1 12 rfl rfl)
theorem dX0_cell_36 : decode cX0_cell 36 = .ok (.imul, 1) := dk_104 (dk_at dksX0_cell_1 13 rfl rfl)
theorem dX0_cell_37 : decode cX0_cell 37 = .ok (.iload_n 1, 1) := dk_27 (dk_at dksX0_cell_1 14 rfl rfl)
theorem dX0_cell_38 : decode cX0_cell 38 = .ok (.iadd, 1) := dk_96 (dk_at dksX0_cell_1 15 rfl rfl)
theorem dX0_cell_39 : decode cX0_cell 39 = .ok (.iaload, 1) := dk_46 (dk_at dksX0_cell_1 16 rfl rfl)
theorem dX0_cell_40 : decode cX0_cell 40 = .ok (.goto 16, 3) := dk_167 0 16 (dk_at dksX0_cell_1 17 rfl rfl)
theorem dX0_cell_43 : decode cX0_cell 43 = .ok (.aload_n 0, 1) := dk_42 (dk_at dksX0_cell_1 20 rfl rfl)
theorem dX0_cell_44 : decode cX0_cell 44 = .ok (.getfield 20, 3) := dk_180 0 20 (dk_at dksX0_cell_1 21 rfl rfl)
theorem dX0_cell_47 : decode cX0_cell 47 = .ok (.bipush 12, 2) := dk_16 12 (dk_at dksX0_cell_2 0 rfl rfl)
theorem dX0_cell_49 : decode cX0_cell 49 = .ok (.iload_n 2, 1) := dk_28 (dk_at dksX0_cell_2 2 rfl rfl)
theorem dX0_cell_50 : decode cX0_cell 50 = .ok (.imul, 1) := dk_104 (dk_at dksX0_cell_2 3 rfl rfl)
theorem dX0_cell_51 : decode cX0_cell 51 = .ok (.iload_n 1, 1) := dk_27 (dk_at dksX0_cell_2 4 rfl rfl)
theorem dX0_cell_52 : decode cX0_cell 52 = .ok (.iadd, 1) := dk_96 (dk_at dksX0_cell_2 5 rfl rfl)
theorem dX0_cell_53 : decode cX0_cell 53 = .ok (.invokevirtual 244, 3) := dk_182 0 244 (dk_at dksX0_cell_2 6 rfl rfl)
theorem dX0_cell_56 : decode cX0_cell 56 = .ok (.ireturn, 1) := dk_172 (dk_at dksX0_cell_2 9 rfl rfl)
abbrev cX0_book : ByteArray := prog_1_method_28_code
def yX0_book : MethodName := ⟨RX0, "book", "(II)I"⟩
def dkwX0_book_1 : List UInt8 := [153, 0, 17, 42, 180, 0, 20, 180, 1, 35, 27, 50, 28, 46, 167, 0, 4, 2, 172]
abbrev dktX0_book_1 : List UInt8 := dkwX0_book_1 ++ []
def dkwX0_book_0 : List UInt8 := [27, 3, 42, 180, 0, 20, 180, 1, 32, 4, 100, 184, 0, 110, 153, 0, 26, 28, 3, 6, 184, 0, 110]
abbrev dktX0_book_0 : List UInt8 := dkwX0_book_0 ++ dktX0_book_1
theorem dksX0_book_0 : cX0_book.data.toList.drop 0 = dktX0_book_0 := by decide +kernel
theorem dksX0_book_1 : cX0_book.data.toList.drop 23 = dktX0_book_1 := dk_seg dksX0_book_0 23 rfl rfl
theorem dX0_book_0 : decode cX0_book 0 = .ok (.iload_n 1, 1) := dk_27 (dk_at dksX0_book_0 0 rfl rfl)
theorem dX0_book_1 : decode cX0_book 1 = .ok (.iconst 0, 1) := dk_3 (dk_at dksX0_book_0 1 rfl rfl)
theorem dX0_book_2 : decode cX0_book 2 = .ok (.aload_n 0, 1) := dk_42 (dk_at dksX0_book_0 2 rfl rfl)
theorem dX0_book_3 : decode cX0_book 3 = .ok (.getfield 20, 3) := dk_180 0 20 (dk_at dksX0_book_0 3 rfl rfl)
theorem dX0_book_6 : decode cX0_book 6 = .ok (.getfield 288, 3) := dk_180 1 32 (dk_at dksX0_book_0 6 rfl rfl)
theorem dX0_book_9 : decode cX0_book 9 = .ok (.iconst 1, 1) := dk_4 (dk_at dksX0_book_0 9 rfl rfl)
theorem dX0_book_10 : decode cX0_book 10 = .ok (.isub, 1) := dk_100 (dk_at dksX0_book_0 10 rfl rfl)
theorem dX0_book_11 : decode cX0_book 11 = .ok (.invokestatic 110, 3) := dk_184 0 110 (dk_at dksX0_book_0 11 rfl rfl)
theorem dX0_book_14 : decode cX0_book 14 = .ok (.ifCond .eq 26, 3) := dk_153 0 26 (dk_at dksX0_book_0 14 rfl rfl)
theorem dX0_book_17 : decode cX0_book 17 = .ok (.iload_n 2, 1) := dk_28 (dk_at dksX0_book_0 17 rfl rfl)
theorem dX0_book_18 : decode cX0_book 18 = .ok (.iconst 0, 1) := dk_3 (dk_at dksX0_book_0 18 rfl rfl)
theorem dX0_book_19 : decode cX0_book 19 = .ok (.iconst 3, 1) := dk_6 (dk_at dksX0_book_0 19 rfl rfl)
theorem dX0_book_20 : decode cX0_book 20 = .ok (.invokestatic 110, 3) := dk_184 0 110 (dk_at dksX0_book_0 20 rfl rfl)
theorem dX0_book_23 : decode cX0_book 23 = .ok (.ifCond .eq 17, 3) := dk_153 0 17 (dk_at dksX0_book_1 0 rfl rfl)
theorem dX0_book_26 : decode cX0_book 26 = .ok (.aload_n 0, 1) := dk_42 (dk_at dksX0_book_1 3 rfl rfl)
theorem dX0_book_27 : decode cX0_book 27 = .ok (.getfield 20, 3) := dk_180 0 20 (dk_at dksX0_book_1 4 rfl rfl)
theorem dX0_book_30 : decode cX0_book 30 = .ok (.getfield 291, 3) := dk_180 1 35 (dk_at dksX0_book_1 7 rfl rfl)
theorem dX0_book_33 : decode cX0_book 33 = .ok (.iload_n 1, 1) := dk_27 (dk_at dksX0_book_1 10 rfl rfl)
theorem dX0_book_34 : decode cX0_book 34 = .ok (.aaload, 1) := dk_50 (dk_at dksX0_book_1 11 rfl rfl)
theorem dX0_book_35 : decode cX0_book 35 = .ok (.iload_n 2, 1) := dk_28 (dk_at dksX0_book_1 12 rfl rfl)
theorem dX0_book_36 : decode cX0_book 36 = .ok (.iaload, 1) := dk_46 (dk_at dksX0_book_1 13 rfl rfl)
theorem dX0_book_37 : decode cX0_book 37 = .ok (.goto 4, 3) := dk_167 0 4 (dk_at dksX0_book_1 14 rfl rfl)
theorem dX0_book_40 : decode cX0_book 40 = .ok (.iconst (-1), 1) := dk_2 (dk_at dksX0_book_1 17 rfl rfl)
theorem dX0_book_41 : decode cX0_book 41 = .ok (.ireturn, 1) := dk_172 (dk_at dksX0_book_1 18 rfl rfl)
abbrev cX0_goes : ByteArray := prog_1_method_29_code
def yX0_goes : MethodName := ⟨RX0, "goes", "(II)I"⟩
def dkwX0_goes_6 : List UInt8 := [132, 4, 1, 167, 255, 204, 29, 172]
abbrev dktX0_goes_6 : List UInt8 := dkwX0_goes_6 ++ []
def dkwX0_goes_5 : List UInt8 := [21, 4, 50, 180, 1, 13, 167, 0, 16, 42, 180, 0, 27, 180, 0, 173, 21, 4, 50, 180, 1, 16, 96, 62]
abbrev dktX0_goes_5 : List UInt8 := dkwX0_goes_5 ++ dktX0_goes_6
def dkwX0_goes_4 : List UInt8 := [42, 180, 0, 27, 180, 0, 210, 162, 0, 46, 29, 28, 4, 160, 0, 19, 42, 180, 0, 27, 180, 0, 173]
abbrev dktX0_goes_4 : List UInt8 := dkwX0_goes_4 ++ dktX0_goes_5
def dkwX0_goes_3 : List UInt8 := [182, 1, 42, 184, 1, 45, 167, 0, 10, 42, 180, 0, 27, 180, 1, 50, 172, 3, 62, 3, 54, 4, 21, 4]
abbrev dktX0_goes_3 : List UInt8 := dkwX0_goes_3 ++ dktX0_goes_4
def dkwX0_goes_2 : List UInt8 := [87, 132, 3, 1, 167, 255, 240, 28, 153, 0, 8, 28, 6, 160, 0, 28, 28, 154, 0, 16, 42, 180, 0, 27]
abbrev dktX0_goes_2 : List UInt8 := dkwX0_goes_2 ++ dktX0_goes_3
def dkwX0_goes_1 : List UInt8 := [180, 0, 27, 42, 180, 0, 20, 182, 1, 39, 3, 62, 29, 27, 162, 0, 17, 42, 180, 0, 27, 182, 0, 250]
abbrev dktX0_goes_1 : List UInt8 := dkwX0_goes_1 ++ dktX0_goes_2
def dkwX0_goes_0 : List UInt8 := [27, 4, 16, 60, 184, 0, 110, 153, 0, 12, 28, 3, 6, 184, 0, 110, 154, 0, 5, 2, 172, 42]
abbrev dktX0_goes_0 : List UInt8 := dkwX0_goes_0 ++ dktX0_goes_1
theorem dksX0_goes_0 : cX0_goes.data.toList.drop 0 = dktX0_goes_0 := by decide +kernel
theorem dksX0_goes_1 : cX0_goes.data.toList.drop 22 = dktX0_goes_1 := dk_seg dksX0_goes_0 22 rfl rfl
theorem dksX0_goes_2 : cX0_goes.data.toList.drop 46 = dktX0_goes_2 := dk_seg dksX0_goes_1 24 rfl rfl
theorem dksX0_goes_3 : cX0_goes.data.toList.drop 70 = dktX0_goes_3 := dk_seg dksX0_goes_2 24 rfl rfl
theorem dksX0_goes_4 : cX0_goes.data.toList.drop 94 = dktX0_goes_4 := dk_seg dksX0_goes_3 24 rfl rfl
theorem dksX0_goes_5 : cX0_goes.data.toList.drop 117 = dktX0_goes_5 := dk_seg dksX0_goes_4 23 rfl rfl
theorem dksX0_goes_6 : cX0_goes.data.toList.drop 141 = dktX0_goes_6 := dk_seg dksX0_goes_5 24 rfl rfl
theorem dX0_goes_0 : decode cX0_goes 0 = .ok (.iload_n 1, 1) := dk_27 (dk_at dksX0_goes_0 0 rfl rfl)
theorem dX0_goes_1 : decode cX0_goes 1 = .ok (.iconst 1, 1) := dk_4 (dk_at dksX0_goes_0 1 rfl rfl)
theorem dX0_goes_2 : decode cX0_goes 2 = .ok (.bipush 60, 2) := dk_16 60 (dk_at dksX0_goes_0 2 rfl rfl)
theorem dX0_goes_4 : decode cX0_goes 4 = .ok (.invokestatic 110, 3) := dk_184 0 110 (dk_at dksX0_goes_0 4 rfl rfl)
theorem dX0_goes_7 : decode cX0_goes 7 = .ok (.ifCond .eq 12, 3) := dk_153 0 12 (dk_at dksX0_goes_0 7 rfl rfl)
theorem dX0_goes_10 : decode cX0_goes 10 = .ok (.iload_n 2, 1) := dk_28 (dk_at dksX0_goes_0 10 rfl rfl)
theorem dX0_goes_11 : decode cX0_goes 11 = .ok (.iconst 0, 1) := dk_3 (dk_at dksX0_goes_0 11 rfl rfl)
theorem dX0_goes_12 : decode cX0_goes 12 = .ok (.iconst 3, 1) := dk_6 (dk_at dksX0_goes_0 12 rfl rfl)
theorem dX0_goes_13 : decode cX0_goes 13 = .ok (.invokestatic 110, 3) := dk_184 0 110 (dk_at dksX0_goes_0 13 rfl rfl)
theorem dX0_goes_16 : decode cX0_goes 16 = .ok (.ifCond .ne 5, 3) := dk_154 0 5 (dk_at dksX0_goes_0 16 rfl rfl)
theorem dX0_goes_19 : decode cX0_goes 19 = .ok (.iconst (-1), 1) := dk_2 (dk_at dksX0_goes_0 19 rfl rfl)
theorem dX0_goes_20 : decode cX0_goes 20 = .ok (.ireturn, 1) := dk_172 (dk_at dksX0_goes_0 20 rfl rfl)
theorem dX0_goes_21 : decode cX0_goes 21 = .ok (.aload_n 0, 1) := dk_42 (dk_at dksX0_goes_0 21 rfl rfl)
theorem dX0_goes_22 : decode cX0_goes 22 = .ok (.getfield 27, 3) := dk_180 0 27 (dk_at dksX0_goes_1 0 rfl rfl)
theorem dX0_goes_25 : decode cX0_goes 25 = .ok (.aload_n 0, 1) := dk_42 (dk_at dksX0_goes_1 3 rfl rfl)
theorem dX0_goes_26 : decode cX0_goes 26 = .ok (.getfield 20, 3) := dk_180 0 20 (dk_at dksX0_goes_1 4 rfl rfl)
theorem dX0_goes_29 : decode cX0_goes 29 = .ok (.invokevirtual 295, 3) := dk_182 1 39 (dk_at dksX0_goes_1 7 rfl rfl)
theorem dX0_goes_32 : decode cX0_goes 32 = .ok (.iconst 0, 1) := dk_3 (dk_at dksX0_goes_1 10 rfl rfl)
theorem dX0_goes_33 : decode cX0_goes 33 = .ok (.istore_n 3, 1) := dk_62 (dk_at dksX0_goes_1 11 rfl rfl)
theorem dX0_goes_34 : decode cX0_goes 34 = .ok (.iload_n 3, 1) := dk_29 (dk_at dksX0_goes_1 12 rfl rfl)
theorem dX0_goes_35 : decode cX0_goes 35 = .ok (.iload_n 1, 1) := dk_27 (dk_at dksX0_goes_1 13 rfl rfl)
theorem dX0_goes_36 : decode cX0_goes 36 = .ok (.if_icmp .ge 17, 3) := dk_162 0 17 (dk_at dksX0_goes_1 14 rfl rfl)
theorem dX0_goes_39 : decode cX0_goes 39 = .ok (.aload_n 0, 1) := dk_42 (dk_at dksX0_goes_1 17 rfl rfl)
theorem dX0_goes_40 : decode cX0_goes 40 = .ok (.getfield 27, 3) := dk_180 0 27 (dk_at dksX0_goes_1 18 rfl rfl)
theorem dX0_goes_43 : decode cX0_goes 43 = .ok (.invokevirtual 250, 3) := dk_182 0 250 (dk_at dksX0_goes_1 21 rfl rfl)
theorem dX0_goes_46 : decode cX0_goes 46 = .ok (.pop, 1) := dk_87 (dk_at dksX0_goes_2 0 rfl rfl)
theorem dX0_goes_47 : decode cX0_goes 47 = .ok (.iinc 3 1, 3) := dk_132 3 1 (dk_at dksX0_goes_2 1 rfl rfl)
theorem dX0_goes_50 : decode cX0_goes 50 = .ok (.goto (-16), 3) := dk_167 255 240 (dk_at dksX0_goes_2 4 rfl rfl)
theorem dX0_goes_53 : decode cX0_goes 53 = .ok (.iload_n 2, 1) := dk_28 (dk_at dksX0_goes_2 7 rfl rfl)
theorem dX0_goes_54 : decode cX0_goes 54 = .ok (.ifCond .eq 8, 3) := dk_153 0 8 (dk_at dksX0_goes_2 8 rfl rfl)
theorem dX0_goes_57 : decode cX0_goes 57 = .ok (.iload_n 2, 1) := dk_28 (dk_at dksX0_goes_2 11 rfl rfl)
theorem dX0_goes_58 : decode cX0_goes 58 = .ok (.iconst 3, 1) := dk_6 (dk_at dksX0_goes_2 12 rfl rfl)
theorem dX0_goes_59 : decode cX0_goes 59 = .ok (.if_icmp .ne 28, 3) := dk_160 0 28 (dk_at dksX0_goes_2 13 rfl rfl)
theorem dX0_goes_62 : decode cX0_goes 62 = .ok (.iload_n 2, 1) := dk_28 (dk_at dksX0_goes_2 16 rfl rfl)
theorem dX0_goes_63 : decode cX0_goes 63 = .ok (.ifCond .ne 16, 3) := dk_154 0 16 (dk_at dksX0_goes_2 17 rfl rfl)
theorem dX0_goes_66 : decode cX0_goes 66 = .ok (.aload_n 0, 1) := dk_42 (dk_at dksX0_goes_2 20 rfl rfl)
theorem dX0_goes_67 : decode cX0_goes 67 = .ok (.getfield 27, 3) := dk_180 0 27 (dk_at dksX0_goes_2 21 rfl rfl)
theorem dX0_goes_70 : decode cX0_goes 70 = .ok (.invokevirtual 298, 3) := dk_182 1 42 (dk_at dksX0_goes_3 0 rfl rfl)
theorem dX0_goes_73 : decode cX0_goes 73 = .ok (.invokestatic 301, 3) := dk_184 1 45 (dk_at dksX0_goes_3 3 rfl rfl)
theorem dX0_goes_76 : decode cX0_goes 76 = .ok (.goto 10, 3) := dk_167 0 10 (dk_at dksX0_goes_3 6 rfl rfl)
theorem dX0_goes_79 : decode cX0_goes 79 = .ok (.aload_n 0, 1) := dk_42 (dk_at dksX0_goes_3 9 rfl rfl)
theorem dX0_goes_80 : decode cX0_goes 80 = .ok (.getfield 27, 3) := dk_180 0 27 (dk_at dksX0_goes_3 10 rfl rfl)
theorem dX0_goes_83 : decode cX0_goes 83 = .ok (.getfield 306, 3) := dk_180 1 50 (dk_at dksX0_goes_3 13 rfl rfl)
theorem dX0_goes_86 : decode cX0_goes 86 = .ok (.ireturn, 1) := dk_172 (dk_at dksX0_goes_3 16 rfl rfl)
theorem dX0_goes_87 : decode cX0_goes 87 = .ok (.iconst 0, 1) := dk_3 (dk_at dksX0_goes_3 17 rfl rfl)
theorem dX0_goes_88 : decode cX0_goes 88 = .ok (.istore_n 3, 1) := dk_62 (dk_at dksX0_goes_3 18 rfl rfl)
theorem dX0_goes_89 : decode cX0_goes 89 = .ok (.iconst 0, 1) := dk_3 (dk_at dksX0_goes_3 19 rfl rfl)
theorem dX0_goes_90 : decode cX0_goes 90 = .ok (.istore 4, 2) := dk_54 4 (dk_at dksX0_goes_3 20 rfl rfl)
theorem dX0_goes_92 : decode cX0_goes 92 = .ok (.iload 4, 2) := dk_21 4 (dk_at dksX0_goes_3 22 rfl rfl)
theorem dX0_goes_94 : decode cX0_goes 94 = .ok (.aload_n 0, 1) := dk_42 (dk_at dksX0_goes_4 0 rfl rfl)
theorem dX0_goes_95 : decode cX0_goes 95 = .ok (.getfield 27, 3) := dk_180 0 27 (dk_at dksX0_goes_4 1 rfl rfl)
theorem dX0_goes_98 : decode cX0_goes 98 = .ok (.getfield 210, 3) := dk_180 0 210 (dk_at dksX0_goes_4 4 rfl rfl)
theorem dX0_goes_101 : decode cX0_goes 101 = .ok (.if_icmp .ge 46, 3) := dk_162 0 46 (dk_at dksX0_goes_4 7 rfl rfl)
theorem dX0_goes_104 : decode cX0_goes 104 = .ok (.iload_n 3, 1) := dk_29 (dk_at dksX0_goes_4 10 rfl rfl)
theorem dX0_goes_105 : decode cX0_goes 105 = .ok (.iload_n 2, 1) := dk_28 (dk_at dksX0_goes_4 11 rfl rfl)
theorem dX0_goes_106 : decode cX0_goes 106 = .ok (.iconst 1, 1) := dk_4 (dk_at dksX0_goes_4 12 rfl rfl)
theorem dX0_goes_107 : decode cX0_goes 107 = .ok (.if_icmp .ne 19, 3) := dk_160 0 19 (dk_at dksX0_goes_4 13 rfl rfl)
theorem dX0_goes_110 : decode cX0_goes 110 = .ok (.aload_n 0, 1) := dk_42 (dk_at dksX0_goes_4 16 rfl rfl)
theorem dX0_goes_111 : decode cX0_goes 111 = .ok (.getfield 27, 3) := dk_180 0 27 (dk_at dksX0_goes_4 17 rfl rfl)
theorem dX0_goes_114 : decode cX0_goes 114 = .ok (.getfield 173, 3) := dk_180 0 173 (dk_at dksX0_goes_4 20 rfl rfl)
theorem dX0_goes_117 : decode cX0_goes 117 = .ok (.iload 4, 2) := dk_21 4 (dk_at dksX0_goes_5 0 rfl rfl)
theorem dX0_goes_119 : decode cX0_goes 119 = .ok (.aaload, 1) := dk_50 (dk_at dksX0_goes_5 2 rfl rfl)
theorem dX0_goes_120 : decode cX0_goes 120 = .ok (.getfield 269, 3) := dk_180 1 13 (dk_at dksX0_goes_5 3 rfl rfl)
theorem dX0_goes_123 : decode cX0_goes 123 = .ok (.goto 16, 3) := dk_167 0 16 (dk_at dksX0_goes_5 6 rfl rfl)
theorem dX0_goes_126 : decode cX0_goes 126 = .ok (.aload_n 0, 1) := dk_42 (dk_at dksX0_goes_5 9 rfl rfl)
theorem dX0_goes_127 : decode cX0_goes 127 = .ok (.getfield 27, 3) := dk_180 0 27 (dk_at dksX0_goes_5 10 rfl rfl)
theorem dX0_goes_130 : decode cX0_goes 130 = .ok (.getfield 173, 3) := dk_180 0 173 (dk_at dksX0_goes_5 13 rfl rfl)
theorem dX0_goes_133 : decode cX0_goes 133 = .ok (.iload 4, 2) := dk_21 4 (dk_at dksX0_goes_5 16 rfl rfl)
theorem dX0_goes_135 : decode cX0_goes 135 = .ok (.aaload, 1) := dk_50 (dk_at dksX0_goes_5 18 rfl rfl)
theorem dX0_goes_136 : decode cX0_goes 136 = .ok (.getfield 272, 3) := dk_180 1 16 (dk_at dksX0_goes_5 19 rfl rfl)
theorem dX0_goes_139 : decode cX0_goes 139 = .ok (.iadd, 1) := dk_96 (dk_at dksX0_goes_5 22 rfl rfl)
theorem dX0_goes_140 : decode cX0_goes 140 = .ok (.istore_n 3, 1) := dk_62 (dk_at dksX0_goes_5 23 rfl rfl)
theorem dX0_goes_141 : decode cX0_goes 141 = .ok (.iinc 4 1, 3) := dk_132 4 1 (dk_at dksX0_goes_6 0 rfl rfl)
theorem dX0_goes_144 : decode cX0_goes 144 = .ok (.goto (-52), 3) := dk_167 255 204 (dk_at dksX0_goes_6 3 rfl rfl)
theorem dX0_goes_147 : decode cX0_goes 147 = .ok (.iload_n 3, 1) := dk_29 (dk_at dksX0_goes_6 6 rfl rfl)
theorem dX0_goes_148 : decode cX0_goes 148 = .ok (.ireturn, 1) := dk_172 (dk_at dksX0_goes_6 7 rfl rfl)
abbrev cX0_over : ByteArray := prog_1_method_30_code
def yX0_over : MethodName := ⟨RX0, "over", "(I)I"⟩
def dkwX0_over_2 : List UInt8 := [182, 0, 217, 154, 0, 5, 28, 172, 132, 2, 1, 167, 255, 222, 2, 172]
abbrev dktX0_over_2 : List UInt8 := dkwX0_over_2 ++ []
def dkwX0_over_1 : List UInt8 := [16, 60, 163, 0, 34, 42, 180, 0, 27, 182, 0, 250, 87, 42, 180, 0, 27, 180, 0, 173, 27, 50]
abbrev dktX0_over_1 : List UInt8 := dkwX0_over_1 ++ dktX0_over_2
def dkwX0_over_0 : List UInt8 := [42, 27, 182, 0, 237, 154, 0, 5, 2, 172, 42, 180, 0, 27, 42, 180, 0, 20, 182, 1, 39, 4, 61, 28]
abbrev dktX0_over_0 : List UInt8 := dkwX0_over_0 ++ dktX0_over_1
theorem dksX0_over_0 : cX0_over.data.toList.drop 0 = dktX0_over_0 := by decide +kernel
theorem dksX0_over_1 : cX0_over.data.toList.drop 24 = dktX0_over_1 := dk_seg dksX0_over_0 24 rfl rfl
theorem dksX0_over_2 : cX0_over.data.toList.drop 46 = dktX0_over_2 := dk_seg dksX0_over_1 22 rfl rfl
theorem dX0_over_0 : decode cX0_over 0 = .ok (.aload_n 0, 1) := dk_42 (dk_at dksX0_over_0 0 rfl rfl)
theorem dX0_over_1 : decode cX0_over 1 = .ok (.iload_n 1, 1) := dk_27 (dk_at dksX0_over_0 1 rfl rfl)
theorem dX0_over_2 : decode cX0_over 2 = .ok (.invokevirtual 237, 3) := dk_182 0 237 (dk_at dksX0_over_0 2 rfl rfl)
theorem dX0_over_5 : decode cX0_over 5 = .ok (.ifCond .ne 5, 3) := dk_154 0 5 (dk_at dksX0_over_0 5 rfl rfl)
theorem dX0_over_8 : decode cX0_over 8 = .ok (.iconst (-1), 1) := dk_2 (dk_at dksX0_over_0 8 rfl rfl)
theorem dX0_over_9 : decode cX0_over 9 = .ok (.ireturn, 1) := dk_172 (dk_at dksX0_over_0 9 rfl rfl)
theorem dX0_over_10 : decode cX0_over 10 = .ok (.aload_n 0, 1) := dk_42 (dk_at dksX0_over_0 10 rfl rfl)
theorem dX0_over_11 : decode cX0_over 11 = .ok (.getfield 27, 3) := dk_180 0 27 (dk_at dksX0_over_0 11 rfl rfl)
theorem dX0_over_14 : decode cX0_over 14 = .ok (.aload_n 0, 1) := dk_42 (dk_at dksX0_over_0 14 rfl rfl)
theorem dX0_over_15 : decode cX0_over 15 = .ok (.getfield 20, 3) := dk_180 0 20 (dk_at dksX0_over_0 15 rfl rfl)
theorem dX0_over_18 : decode cX0_over 18 = .ok (.invokevirtual 295, 3) := dk_182 1 39 (dk_at dksX0_over_0 18 rfl rfl)
theorem dX0_over_21 : decode cX0_over 21 = .ok (.iconst 1, 1) := dk_4 (dk_at dksX0_over_0 21 rfl rfl)
theorem dX0_over_22 : decode cX0_over 22 = .ok (.istore_n 2, 1) := dk_61 (dk_at dksX0_over_0 22 rfl rfl)
theorem dX0_over_23 : decode cX0_over 23 = .ok (.iload_n 2, 1) := dk_28 (dk_at dksX0_over_0 23 rfl rfl)
theorem dX0_over_24 : decode cX0_over 24 = .ok (.bipush 60, 2) := dk_16 60 (dk_at dksX0_over_1 0 rfl rfl)
theorem dX0_over_26 : decode cX0_over 26 = .ok (.if_icmp .gt 34, 3) := dk_163 0 34 (dk_at dksX0_over_1 2 rfl rfl)
theorem dX0_over_29 : decode cX0_over 29 = .ok (.aload_n 0, 1) := dk_42 (dk_at dksX0_over_1 5 rfl rfl)
theorem dX0_over_30 : decode cX0_over 30 = .ok (.getfield 27, 3) := dk_180 0 27 (dk_at dksX0_over_1 6 rfl rfl)
theorem dX0_over_33 : decode cX0_over 33 = .ok (.invokevirtual 250, 3) := dk_182 0 250 (dk_at dksX0_over_1 9 rfl rfl)
theorem dX0_over_36 : decode cX0_over 36 = .ok (.pop, 1) := dk_87 (dk_at dksX0_over_1 12 rfl rfl)
theorem dX0_over_37 : decode cX0_over 37 = .ok (.aload_n 0, 1) := dk_42 (dk_at dksX0_over_1 13 rfl rfl)
theorem dX0_over_38 : decode cX0_over 38 = .ok (.getfield 27, 3) := dk_180 0 27 (dk_at dksX0_over_1 14 rfl rfl)
theorem dX0_over_41 : decode cX0_over 41 = .ok (.getfield 173, 3) := dk_180 0 173 (dk_at dksX0_over_1 17 rfl rfl)
theorem dX0_over_44 : decode cX0_over 44 = .ok (.iload_n 1, 1) := dk_27 (dk_at dksX0_over_1 20 rfl rfl)
theorem dX0_over_45 : decode cX0_over 45 = .ok (.aaload, 1) := dk_50 (dk_at dksX0_over_1 21 rfl rfl)
theorem dX0_over_46 : decode cX0_over 46 = .ok (.invokevirtual 217, 3) := dk_182 0 217 (dk_at dksX0_over_2 0 rfl rfl)
theorem dX0_over_49 : decode cX0_over 49 = .ok (.ifCond .ne 5, 3) := dk_154 0 5 (dk_at dksX0_over_2 3 rfl rfl)
theorem dX0_over_52 : decode cX0_over 52 = .ok (.iload_n 2, 1) := dk_28 (dk_at dksX0_over_2 6 rfl rfl)
theorem dX0_over_53 : decode cX0_over 53 = .ok (.ireturn, 1) := dk_172 (dk_at dksX0_over_2 7 rfl rfl)
theorem dX0_over_54 : decode cX0_over 54 = .ok (.iinc 2 1, 3) := dk_132 2 1 (dk_at dksX0_over_2 8 rfl rfl)
theorem dX0_over_57 : decode cX0_over 57 = .ok (.goto (-34), 3) := dk_167 255 222 (dk_at dksX0_over_2 11 rfl rfl)
theorem dX0_over_60 : decode cX0_over 60 = .ok (.iconst (-1), 1) := dk_2 (dk_at dksX0_over_2 14 rfl rfl)
theorem dX0_over_61 : decode cX0_over 61 = .ok (.ireturn, 1) := dk_172 (dk_at dksX0_over_2 15 rfl rfl)
abbrev cX0_far : ByteArray := prog_1_method_35_code
def yX0_far : MethodName := ⟨RX0, "far", "(IIII)I"⟩
def dkwX0_far_4 : List UInt8 := [160, 0, 7, 2, 167, 0, 5, 21, 5, 172]
abbrev dktX0_far_4 : List UInt8 := dkwX0_far_4 ++ []
def dkwX0_far_3 : List UInt8 := [29, 104, 96, 21, 6, 96, 46, 184, 0, 101, 54, 5, 132, 6, 1, 167, 255, 222, 21, 5, 19, 1, 56]
abbrev dktX0_far_3 : List UInt8 := dkwX0_far_3 ++ dktX0_far_4
def dkwX0_far_2 : List UInt8 := [54, 5, 3, 54, 6, 21, 6, 7, 162, 0, 34, 21, 5, 42, 180, 0, 38, 17, 2, 64, 21, 4, 104, 7]
abbrev dktX0_far_2 : List UInt8 := dkwX0_far_2 ++ dktX0_far_3
def dkwX0_far_1 : List UInt8 := [21, 4, 2, 160, 0, 11, 42, 27, 28, 29, 182, 1, 69, 172, 42, 27, 28, 182, 1, 73, 19, 1, 56]
abbrev dktX0_far_1 : List UInt8 := dkwX0_far_1 ++ dktX0_far_2
def dkwX0_far_0 : List UInt8 := [42, 27, 28, 29, 182, 1, 66, 153, 0, 14, 21, 4, 2, 16, 6, 184, 0, 110, 154, 0, 5, 2, 172]
abbrev dktX0_far_0 : List UInt8 := dkwX0_far_0 ++ dktX0_far_1
theorem dksX0_far_0 : cX0_far.data.toList.drop 0 = dktX0_far_0 := by decide +kernel
theorem dksX0_far_1 : cX0_far.data.toList.drop 23 = dktX0_far_1 := dk_seg dksX0_far_0 23 rfl rfl
theorem dksX0_far_2 : cX0_far.data.toList.drop 46 = dktX0_far_2 := dk_seg dksX0_far_1 23 rfl rfl
theorem dksX0_far_3 : cX0_far.data.toList.drop 70 = dktX0_far_3 := dk_seg dksX0_far_2 24 rfl rfl
theorem dksX0_far_4 : cX0_far.data.toList.drop 93 = dktX0_far_4 := dk_seg dksX0_far_3 23 rfl rfl
theorem dX0_far_0 : decode cX0_far 0 = .ok (.aload_n 0, 1) := dk_42 (dk_at dksX0_far_0 0 rfl rfl)
theorem dX0_far_1 : decode cX0_far 1 = .ok (.iload_n 1, 1) := dk_27 (dk_at dksX0_far_0 1 rfl rfl)
theorem dX0_far_2 : decode cX0_far 2 = .ok (.iload_n 2, 1) := dk_28 (dk_at dksX0_far_0 2 rfl rfl)
theorem dX0_far_3 : decode cX0_far 3 = .ok (.iload_n 3, 1) := dk_29 (dk_at dksX0_far_0 3 rfl rfl)
theorem dX0_far_4 : decode cX0_far 4 = .ok (.invokevirtual 322, 3) := dk_182 1 66 (dk_at dksX0_far_0 4 rfl rfl)
theorem dX0_far_7 : decode cX0_far 7 = .ok (.ifCond .eq 14, 3) := dk_153 0 14 (dk_at dksX0_far_0 7 rfl rfl)
theorem dX0_far_10 : decode cX0_far 10 = .ok (.iload 4, 2) := dk_21 4 (dk_at dksX0_far_0 10 rfl rfl)
theorem dX0_far_12 : decode cX0_far 12 = .ok (.iconst (-1), 1) := dk_2 (dk_at dksX0_far_0 12 rfl rfl)
theorem dX0_far_13 : decode cX0_far 13 = .ok (.bipush 6, 2) := dk_16 6 (dk_at dksX0_far_0 13 rfl rfl)
theorem dX0_far_15 : decode cX0_far 15 = .ok (.invokestatic 110, 3) := dk_184 0 110 (dk_at dksX0_far_0 15 rfl rfl)
theorem dX0_far_18 : decode cX0_far 18 = .ok (.ifCond .ne 5, 3) := dk_154 0 5 (dk_at dksX0_far_0 18 rfl rfl)
theorem dX0_far_21 : decode cX0_far 21 = .ok (.iconst (-1), 1) := dk_2 (dk_at dksX0_far_0 21 rfl rfl)
theorem dX0_far_22 : decode cX0_far 22 = .ok (.ireturn, 1) := dk_172 (dk_at dksX0_far_0 22 rfl rfl)
theorem dX0_far_23 : decode cX0_far 23 = .ok (.iload 4, 2) := dk_21 4 (dk_at dksX0_far_1 0 rfl rfl)
theorem dX0_far_25 : decode cX0_far 25 = .ok (.iconst (-1), 1) := dk_2 (dk_at dksX0_far_1 2 rfl rfl)
theorem dX0_far_26 : decode cX0_far 26 = .ok (.if_icmp .ne 11, 3) := dk_160 0 11 (dk_at dksX0_far_1 3 rfl rfl)
theorem dX0_far_29 : decode cX0_far 29 = .ok (.aload_n 0, 1) := dk_42 (dk_at dksX0_far_1 6 rfl rfl)
theorem dX0_far_30 : decode cX0_far 30 = .ok (.iload_n 1, 1) := dk_27 (dk_at dksX0_far_1 7 rfl rfl)
theorem dX0_far_31 : decode cX0_far 31 = .ok (.iload_n 2, 1) := dk_28 (dk_at dksX0_far_1 8 rfl rfl)
theorem dX0_far_32 : decode cX0_far 32 = .ok (.iload_n 3, 1) := dk_29 (dk_at dksX0_far_1 9 rfl rfl)
theorem dX0_far_33 : decode cX0_far 33 = .ok (.invokevirtual 325, 3) := dk_182 1 69 (dk_at dksX0_far_1 10 rfl rfl)
theorem dX0_far_36 : decode cX0_far 36 = .ok (.ireturn, 1) := dk_172 (dk_at dksX0_far_1 13 rfl rfl)
theorem dX0_far_37 : decode cX0_far 37 = .ok (.aload_n 0, 1) := dk_42 (dk_at dksX0_far_1 14 rfl rfl)
theorem dX0_far_38 : decode cX0_far 38 = .ok (.iload_n 1, 1) := dk_27 (dk_at dksX0_far_1 15 rfl rfl)
theorem dX0_far_39 : decode cX0_far 39 = .ok (.iload_n 2, 1) := dk_28 (dk_at dksX0_far_1 16 rfl rfl)
theorem dX0_far_40 : decode cX0_far 40 = .ok (.invokevirtual 329, 3) := dk_182 1 73 (dk_at dksX0_far_1 17 rfl rfl)
theorem dX0_far_43 : decode cX0_far 43 = .ok (.ldc_w 312, 3) := dk_19 1 56 (dk_at dksX0_far_1 20 rfl rfl)
theorem dX0_far_46 : decode cX0_far 46 = .ok (.istore 5, 2) := dk_54 5 (dk_at dksX0_far_2 0 rfl rfl)
theorem dX0_far_48 : decode cX0_far 48 = .ok (.iconst 0, 1) := dk_3 (dk_at dksX0_far_2 2 rfl rfl)
theorem dX0_far_49 : decode cX0_far 49 = .ok (.istore 6, 2) := dk_54 6 (dk_at dksX0_far_2 3 rfl rfl)
theorem dX0_far_51 : decode cX0_far 51 = .ok (.iload 6, 2) := dk_21 6 (dk_at dksX0_far_2 5 rfl rfl)
theorem dX0_far_53 : decode cX0_far 53 = .ok (.iconst 4, 1) := dk_7 (dk_at dksX0_far_2 7 rfl rfl)
theorem dX0_far_54 : decode cX0_far 54 = .ok (.if_icmp .ge 34, 3) := dk_162 0 34 (dk_at dksX0_far_2 8 rfl rfl)
theorem dX0_far_57 : decode cX0_far 57 = .ok (.iload 5, 2) := dk_21 5 (dk_at dksX0_far_2 11 rfl rfl)
theorem dX0_far_59 : decode cX0_far 59 = .ok (.aload_n 0, 1) := dk_42 (dk_at dksX0_far_2 13 rfl rfl)
theorem dX0_far_60 : decode cX0_far 60 = .ok (.getfield 38, 3) := dk_180 0 38 (dk_at dksX0_far_2 14 rfl rfl)
theorem dX0_far_63 : decode cX0_far 63 = .ok (.sipush 576, 3) := dk_17 2 64 (dk_at dksX0_far_2 17 rfl rfl)
theorem dX0_far_66 : decode cX0_far 66 = .ok (.iload 4, 2) := dk_21 4 (dk_at dksX0_far_2 20 rfl rfl)
theorem dX0_far_68 : decode cX0_far 68 = .ok (.imul, 1) := dk_104 (dk_at dksX0_far_2 22 rfl rfl)
theorem dX0_far_69 : decode cX0_far 69 = .ok (.iconst 4, 1) := dk_7 (dk_at dksX0_far_2 23 rfl rfl)
theorem dX0_far_70 : decode cX0_far 70 = .ok (.iload_n 3, 1) := dk_29 (dk_at dksX0_far_3 0 rfl rfl)
theorem dX0_far_71 : decode cX0_far 71 = .ok (.imul, 1) := dk_104 (dk_at dksX0_far_3 1 rfl rfl)
theorem dX0_far_72 : decode cX0_far 72 = .ok (.iadd, 1) := dk_96 (dk_at dksX0_far_3 2 rfl rfl)
theorem dX0_far_73 : decode cX0_far 73 = .ok (.iload 6, 2) := dk_21 6 (dk_at dksX0_far_3 3 rfl rfl)
theorem dX0_far_75 : decode cX0_far 75 = .ok (.iadd, 1) := dk_96 (dk_at dksX0_far_3 5 rfl rfl)
theorem dX0_far_76 : decode cX0_far 76 = .ok (.iaload, 1) := dk_46 (dk_at dksX0_far_3 6 rfl rfl)
theorem dX0_far_77 : decode cX0_far 77 = .ok (.invokestatic 101, 3) := dk_184 0 101 (dk_at dksX0_far_3 7 rfl rfl)
theorem dX0_far_80 : decode cX0_far 80 = .ok (.istore 5, 2) := dk_54 5 (dk_at dksX0_far_3 10 rfl rfl)
theorem dX0_far_82 : decode cX0_far 82 = .ok (.iinc 6 1, 3) := dk_132 6 1 (dk_at dksX0_far_3 12 rfl rfl)
theorem dX0_far_85 : decode cX0_far 85 = .ok (.goto (-34), 3) := dk_167 255 222 (dk_at dksX0_far_3 15 rfl rfl)
theorem dX0_far_88 : decode cX0_far 88 = .ok (.iload 5, 2) := dk_21 5 (dk_at dksX0_far_3 18 rfl rfl)
theorem dX0_far_90 : decode cX0_far 90 = .ok (.ldc_w 312, 3) := dk_19 1 56 (dk_at dksX0_far_3 20 rfl rfl)
theorem dX0_far_93 : decode cX0_far 93 = .ok (.if_icmp .ne 7, 3) := dk_160 0 7 (dk_at dksX0_far_4 0 rfl rfl)
theorem dX0_far_96 : decode cX0_far 96 = .ok (.iconst (-1), 1) := dk_2 (dk_at dksX0_far_4 3 rfl rfl)
theorem dX0_far_97 : decode cX0_far 97 = .ok (.goto 5, 3) := dk_167 0 5 (dk_at dksX0_far_4 4 rfl rfl)
theorem dX0_far_100 : decode cX0_far 100 = .ok (.iload 5, 2) := dk_21 5 (dk_at dksX0_far_4 7 rfl rfl)
theorem dX0_far_102 : decode cX0_far 102 = .ok (.ireturn, 1) := dk_172 (dk_at dksX0_far_4 9 rfl rfl)
abbrev cX0_canAsk : ByteArray := prog_1_method_34_code
def yX0_canAsk : MethodName := ⟨RX0, "canAsk", "(III)Z"⟩
def dkwX0_canAsk_1 : List UInt8 := [153, 0, 7, 4, 167, 0, 4, 3, 172]
abbrev dktX0_canAsk_1 : List UInt8 := dkwX0_canAsk_1 ++ []
def dkwX0_canAsk_0 : List UInt8 := [42, 27, 182, 1, 60, 153, 0, 24, 42, 29, 182, 1, 60, 153, 0, 16, 28, 3, 6, 184, 0, 110]
abbrev dktX0_canAsk_0 : List UInt8 := dkwX0_canAsk_0 ++ dktX0_canAsk_1
theorem dksX0_canAsk_0 : cX0_canAsk.data.toList.drop 0 = dktX0_canAsk_0 := by decide +kernel
theorem dksX0_canAsk_1 : cX0_canAsk.data.toList.drop 22 = dktX0_canAsk_1 := dk_seg dksX0_canAsk_0 22 rfl rfl
theorem dX0_canAsk_0 : decode cX0_canAsk 0 = .ok (.aload_n 0, 1) := dk_42 (dk_at dksX0_canAsk_0 0 rfl rfl)
theorem dX0_canAsk_1 : decode cX0_canAsk 1 = .ok (.iload_n 1, 1) := dk_27 (dk_at dksX0_canAsk_0 1 rfl rfl)
theorem dX0_canAsk_2 : decode cX0_canAsk 2 = .ok (.invokevirtual 316, 3) := dk_182 1 60 (dk_at dksX0_canAsk_0 2 rfl rfl)
theorem dX0_canAsk_5 : decode cX0_canAsk 5 = .ok (.ifCond .eq 24, 3) := dk_153 0 24 (dk_at dksX0_canAsk_0 5 rfl rfl)
theorem dX0_canAsk_8 : decode cX0_canAsk 8 = .ok (.aload_n 0, 1) := dk_42 (dk_at dksX0_canAsk_0 8 rfl rfl)
theorem dX0_canAsk_9 : decode cX0_canAsk 9 = .ok (.iload_n 3, 1) := dk_29 (dk_at dksX0_canAsk_0 9 rfl rfl)
theorem dX0_canAsk_10 : decode cX0_canAsk 10 = .ok (.invokevirtual 316, 3) := dk_182 1 60 (dk_at dksX0_canAsk_0 10 rfl rfl)
theorem dX0_canAsk_13 : decode cX0_canAsk 13 = .ok (.ifCond .eq 16, 3) := dk_153 0 16 (dk_at dksX0_canAsk_0 13 rfl rfl)
theorem dX0_canAsk_16 : decode cX0_canAsk 16 = .ok (.iload_n 2, 1) := dk_28 (dk_at dksX0_canAsk_0 16 rfl rfl)
theorem dX0_canAsk_17 : decode cX0_canAsk 17 = .ok (.iconst 0, 1) := dk_3 (dk_at dksX0_canAsk_0 17 rfl rfl)
theorem dX0_canAsk_18 : decode cX0_canAsk 18 = .ok (.iconst 3, 1) := dk_6 (dk_at dksX0_canAsk_0 18 rfl rfl)
theorem dX0_canAsk_19 : decode cX0_canAsk 19 = .ok (.invokestatic 110, 3) := dk_184 0 110 (dk_at dksX0_canAsk_0 19 rfl rfl)
theorem dX0_canAsk_22 : decode cX0_canAsk 22 = .ok (.ifCond .eq 7, 3) := dk_153 0 7 (dk_at dksX0_canAsk_1 0 rfl rfl)
theorem dX0_canAsk_25 : decode cX0_canAsk 25 = .ok (.iconst 1, 1) := dk_4 (dk_at dksX0_canAsk_1 3 rfl rfl)
theorem dX0_canAsk_26 : decode cX0_canAsk 26 = .ok (.goto 4, 3) := dk_167 0 4 (dk_at dksX0_canAsk_1 4 rfl rfl)
theorem dX0_canAsk_29 : decode cX0_canAsk 29 = .ok (.iconst 0, 1) := dk_3 (dk_at dksX0_canAsk_1 7 rfl rfl)
theorem dX0_canAsk_30 : decode cX0_canAsk 30 = .ok (.ireturn, 1) := dk_172 (dk_at dksX0_canAsk_1 8 rfl rfl)
abbrev cX0_isOpen : ByteArray := prog_1_method_19_code
def yX0_isOpen : MethodName := ⟨RX0, "isOpen", "(I)Z"⟩
def dkwX0_isOpen_1 : List UInt8 := [4, 167, 0, 4, 3, 172]
abbrev dktX0_isOpen_1 : List UInt8 := dkwX0_isOpen_1 ++ []
def dkwX0_isOpen_0 : List UInt8 := [27, 3, 17, 0, 143, 184, 0, 110, 153, 0, 20, 42, 180, 0, 20, 180, 0, 219, 27, 46, 4, 159, 0, 7]
abbrev dktX0_isOpen_0 : List UInt8 := dkwX0_isOpen_0 ++ dktX0_isOpen_1
theorem dksX0_isOpen_0 : cX0_isOpen.data.toList.drop 0 = dktX0_isOpen_0 := by decide +kernel
theorem dksX0_isOpen_1 : cX0_isOpen.data.toList.drop 24 = dktX0_isOpen_1 := dk_seg dksX0_isOpen_0 24 rfl rfl
theorem dX0_isOpen_0 : decode cX0_isOpen 0 = .ok (.iload_n 1, 1) := dk_27 (dk_at dksX0_isOpen_0 0 rfl rfl)
theorem dX0_isOpen_1 : decode cX0_isOpen 1 = .ok (.iconst 0, 1) := dk_3 (dk_at dksX0_isOpen_0 1 rfl rfl)
theorem dX0_isOpen_2 : decode cX0_isOpen 2 = .ok (.sipush 143, 3) := dk_17 0 143 (dk_at dksX0_isOpen_0 2 rfl rfl)
theorem dX0_isOpen_5 : decode cX0_isOpen 5 = .ok (.invokestatic 110, 3) := dk_184 0 110 (dk_at dksX0_isOpen_0 5 rfl rfl)
theorem dX0_isOpen_8 : decode cX0_isOpen 8 = .ok (.ifCond .eq 20, 3) := dk_153 0 20 (dk_at dksX0_isOpen_0 8 rfl rfl)
theorem dX0_isOpen_11 : decode cX0_isOpen 11 = .ok (.aload_n 0, 1) := dk_42 (dk_at dksX0_isOpen_0 11 rfl rfl)
theorem dX0_isOpen_12 : decode cX0_isOpen 12 = .ok (.getfield 20, 3) := dk_180 0 20 (dk_at dksX0_isOpen_0 12 rfl rfl)
theorem dX0_isOpen_15 : decode cX0_isOpen 15 = .ok (.getfield 219, 3) := dk_180 0 219 (dk_at dksX0_isOpen_0 15 rfl rfl)
theorem dX0_isOpen_18 : decode cX0_isOpen 18 = .ok (.iload_n 1, 1) := dk_27 (dk_at dksX0_isOpen_0 18 rfl rfl)
theorem dX0_isOpen_19 : decode cX0_isOpen 19 = .ok (.iaload, 1) := dk_46 (dk_at dksX0_isOpen_0 19 rfl rfl)
theorem dX0_isOpen_20 : decode cX0_isOpen 20 = .ok (.iconst 1, 1) := dk_4 (dk_at dksX0_isOpen_0 20 rfl rfl)
theorem dX0_isOpen_21 : decode cX0_isOpen 21 = .ok (.if_icmp .eq 7, 3) := dk_159 0 7 (dk_at dksX0_isOpen_0 21 rfl rfl)
theorem dX0_isOpen_24 : decode cX0_isOpen 24 = .ok (.iconst 1, 1) := dk_4 (dk_at dksX0_isOpen_1 0 rfl rfl)
theorem dX0_isOpen_25 : decode cX0_isOpen 25 = .ok (.goto 4, 3) := dk_167 0 4 (dk_at dksX0_isOpen_1 1 rfl rfl)
theorem dX0_isOpen_28 : decode cX0_isOpen 28 = .ok (.iconst 0, 1) := dk_3 (dk_at dksX0_isOpen_1 4 rfl rfl)
theorem dX0_isOpen_29 : decode cX0_isOpen 29 = .ok (.ireturn, 1) := dk_172 (dk_at dksX0_isOpen_1 5 rfl rfl)
abbrev cX0_least : ByteArray := prog_1_method_33_code
def yX0_least : MethodName := ⟨RX0, "least", "(III)I"⟩
def dkwX0_least_8 : List UInt8 := [172]
abbrev dktX0_least_8 : List UInt8 := dkwX0_least_8 ++ []
def dkwX0_least_7 : List UInt8 := [7, 21, 5, 21, 6, 184, 1, 57, 104, 21, 6, 96, 21, 7, 182, 1, 63, 132, 4, 1, 167, 255, 118, 2]
abbrev dktX0_least_7 : List UInt8 := dkwX0_least_7 ++ dktX0_least_8
def dkwX0_least_6 : List UInt8 := [21, 6, 184, 1, 57, 2, 159, 0, 35, 42, 21, 5, 21, 6, 184, 1, 57, 182, 1, 60, 153, 0, 21, 42]
abbrev dktX0_least_6 : List UInt8 := dkwX0_least_6 ++ dktX0_least_7
def dkwX0_least_5 : List UInt8 := [21, 7, 182, 1, 63, 42, 7, 21, 5, 104, 21, 6, 6, 96, 7, 112, 96, 21, 7, 182, 1, 63, 21, 5]
abbrev dktX0_least_5 : List UInt8 := dkwX0_least_5 ++ dktX0_least_6
def dkwX0_least_4 : List UInt8 := [21, 5, 29, 160, 0, 8, 21, 7, 4, 100, 172, 42, 7, 21, 5, 104, 21, 6, 4, 96, 7, 112, 96]
abbrev dktX0_least_4 : List UInt8 := dkwX0_least_4 ++ dktX0_least_5
def dkwX0_least_3 : List UInt8 := [21, 4, 46, 7, 112, 54, 6, 42, 180, 0, 38, 42, 180, 0, 42, 21, 4, 46, 46, 4, 96, 54, 7]
abbrev dktX0_least_3 : List UInt8 := dkwX0_least_3 ++ dktX0_least_4
def dkwX0_least_2 : List UInt8 := [21, 4, 42, 180, 1, 53, 162, 0, 135, 42, 180, 0, 42, 21, 4, 46, 7, 108, 54, 5, 42, 180, 0, 42]
abbrev dktX0_least_2 : List UInt8 := dkwX0_least_2 ++ dktX0_least_3
def dkwX0_least_1 : List UInt8 := [132, 4, 1, 167, 255, 233, 42, 3, 181, 1, 53, 42, 7, 27, 104, 28, 96, 3, 182, 1, 63, 3, 54, 4]
abbrev dktX0_least_1 : List UInt8 := dkwX0_least_1 ++ dktX0_least_2
def dkwX0_least_0 : List UInt8 := [3, 54, 4, 21, 4, 42, 180, 0, 38, 190, 162, 0, 19, 42, 180, 0, 38, 21, 4, 19, 1, 56, 79]
abbrev dktX0_least_0 : List UInt8 := dkwX0_least_0 ++ dktX0_least_1
theorem dksX0_least_0 : cX0_least.data.toList.drop 0 = dktX0_least_0 := by decide +kernel
theorem dksX0_least_1 : cX0_least.data.toList.drop 23 = dktX0_least_1 := dk_seg dksX0_least_0 23 rfl rfl
theorem dksX0_least_2 : cX0_least.data.toList.drop 47 = dktX0_least_2 := dk_seg dksX0_least_1 24 rfl rfl
theorem dksX0_least_3 : cX0_least.data.toList.drop 71 = dktX0_least_3 := dk_seg dksX0_least_2 24 rfl rfl
theorem dksX0_least_4 : cX0_least.data.toList.drop 94 = dktX0_least_4 := dk_seg dksX0_least_3 23 rfl rfl
theorem dksX0_least_5 : cX0_least.data.toList.drop 117 = dktX0_least_5 := dk_seg dksX0_least_4 23 rfl rfl
theorem dksX0_least_6 : cX0_least.data.toList.drop 141 = dktX0_least_6 := dk_seg dksX0_least_5 24 rfl rfl
theorem dksX0_least_7 : cX0_least.data.toList.drop 165 = dktX0_least_7 := dk_seg dksX0_least_6 24 rfl rfl
theorem dksX0_least_8 : cX0_least.data.toList.drop 189 = dktX0_least_8 := dk_seg dksX0_least_7 24 rfl rfl
theorem dX0_least_0 : decode cX0_least 0 = .ok (.iconst 0, 1) := dk_3 (dk_at dksX0_least_0 0 rfl rfl)
theorem dX0_least_1 : decode cX0_least 1 = .ok (.istore 4, 2) := dk_54 4 (dk_at dksX0_least_0 1 rfl rfl)
theorem dX0_least_3 : decode cX0_least 3 = .ok (.iload 4, 2) := dk_21 4 (dk_at dksX0_least_0 3 rfl rfl)
theorem dX0_least_5 : decode cX0_least 5 = .ok (.aload_n 0, 1) := dk_42 (dk_at dksX0_least_0 5 rfl rfl)
theorem dX0_least_6 : decode cX0_least 6 = .ok (.getfield 38, 3) := dk_180 0 38 (dk_at dksX0_least_0 6 rfl rfl)
theorem dX0_least_9 : decode cX0_least 9 = .ok (.arraylength, 1) := dk_190 (dk_at dksX0_least_0 9 rfl rfl)
theorem dX0_least_10 : decode cX0_least 10 = .ok (.if_icmp .ge 19, 3) := dk_162 0 19 (dk_at dksX0_least_0 10 rfl rfl)
theorem dX0_least_13 : decode cX0_least 13 = .ok (.aload_n 0, 1) := dk_42 (dk_at dksX0_least_0 13 rfl rfl)
theorem dX0_least_14 : decode cX0_least 14 = .ok (.getfield 38, 3) := dk_180 0 38 (dk_at dksX0_least_0 14 rfl rfl)
theorem dX0_least_17 : decode cX0_least 17 = .ok (.iload 4, 2) := dk_21 4 (dk_at dksX0_least_0 17 rfl rfl)
theorem dX0_least_19 : decode cX0_least 19 = .ok (.ldc_w 312, 3) := dk_19 1 56 (dk_at dksX0_least_0 19 rfl rfl)
theorem dX0_least_22 : decode cX0_least 22 = .ok (.iastore, 1) := dk_79 (dk_at dksX0_least_0 22 rfl rfl)
theorem dX0_least_23 : decode cX0_least 23 = .ok (.iinc 4 1, 3) := dk_132 4 1 (dk_at dksX0_least_1 0 rfl rfl)
theorem dX0_least_26 : decode cX0_least 26 = .ok (.goto (-23), 3) := dk_167 255 233 (dk_at dksX0_least_1 3 rfl rfl)
theorem dX0_least_29 : decode cX0_least 29 = .ok (.aload_n 0, 1) := dk_42 (dk_at dksX0_least_1 6 rfl rfl)
theorem dX0_least_30 : decode cX0_least 30 = .ok (.iconst 0, 1) := dk_3 (dk_at dksX0_least_1 7 rfl rfl)
theorem dX0_least_31 : decode cX0_least 31 = .ok (.putfield 309, 3) := dk_181 1 53 (dk_at dksX0_least_1 8 rfl rfl)
theorem dX0_least_34 : decode cX0_least 34 = .ok (.aload_n 0, 1) := dk_42 (dk_at dksX0_least_1 11 rfl rfl)
theorem dX0_least_35 : decode cX0_least 35 = .ok (.iconst 4, 1) := dk_7 (dk_at dksX0_least_1 12 rfl rfl)
theorem dX0_least_36 : decode cX0_least 36 = .ok (.iload_n 1, 1) := dk_27 (dk_at dksX0_least_1 13 rfl rfl)
theorem dX0_least_37 : decode cX0_least 37 = .ok (.imul, 1) := dk_104 (dk_at dksX0_least_1 14 rfl rfl)
theorem dX0_least_38 : decode cX0_least 38 = .ok (.iload_n 2, 1) := dk_28 (dk_at dksX0_least_1 15 rfl rfl)
theorem dX0_least_39 : decode cX0_least 39 = .ok (.iadd, 1) := dk_96 (dk_at dksX0_least_1 16 rfl rfl)
theorem dX0_least_40 : decode cX0_least 40 = .ok (.iconst 0, 1) := dk_3 (dk_at dksX0_least_1 17 rfl rfl)
theorem dX0_least_41 : decode cX0_least 41 = .ok (.invokevirtual 319, 3) := dk_182 1 63 (dk_at dksX0_least_1 18 rfl rfl)
theorem dX0_least_44 : decode cX0_least 44 = .ok (.iconst 0, 1) := dk_3 (dk_at dksX0_least_1 21 rfl rfl)
theorem dX0_least_45 : decode cX0_least 45 = .ok (.istore 4, 2) := dk_54 4 (dk_at dksX0_least_1 22 rfl rfl)
theorem dX0_least_47 : decode cX0_least 47 = .ok (.iload 4, 2) := dk_21 4 (dk_at dksX0_least_2 0 rfl rfl)
theorem dX0_least_49 : decode cX0_least 49 = .ok (.aload_n 0, 1) := dk_42 (dk_at dksX0_least_2 2 rfl rfl)
theorem dX0_least_50 : decode cX0_least 50 = .ok (.getfield 309, 3) := dk_180 1 53 (dk_at dksX0_least_2 3 rfl rfl)
theorem dX0_least_53 : decode cX0_least 53 = .ok (.if_icmp .ge 135, 3) := dk_162 0 135 (dk_at dksX0_least_2 6 rfl rfl)
theorem dX0_least_56 : decode cX0_least 56 = .ok (.aload_n 0, 1) := dk_42 (dk_at dksX0_least_2 9 rfl rfl)
theorem dX0_least_57 : decode cX0_least 57 = .ok (.getfield 42, 3) := dk_180 0 42 (dk_at dksX0_least_2 10 rfl rfl)
theorem dX0_least_60 : decode cX0_least 60 = .ok (.iload 4, 2) := dk_21 4 (dk_at dksX0_least_2 13 rfl rfl)
theorem dX0_least_62 : decode cX0_least 62 = .ok (.iaload, 1) := dk_46 (dk_at dksX0_least_2 15 rfl rfl)
theorem dX0_least_63 : decode cX0_least 63 = .ok (.iconst 4, 1) := dk_7 (dk_at dksX0_least_2 16 rfl rfl)
theorem dX0_least_64 : decode cX0_least 64 = .ok (.idiv, 1) := dk_108 (dk_at dksX0_least_2 17 rfl rfl)
theorem dX0_least_65 : decode cX0_least 65 = .ok (.istore 5, 2) := dk_54 5 (dk_at dksX0_least_2 18 rfl rfl)
theorem dX0_least_67 : decode cX0_least 67 = .ok (.aload_n 0, 1) := dk_42 (dk_at dksX0_least_2 20 rfl rfl)
theorem dX0_least_68 : decode cX0_least 68 = .ok (.getfield 42, 3) := dk_180 0 42 (dk_at dksX0_least_2 21 rfl rfl)
theorem dX0_least_71 : decode cX0_least 71 = .ok (.iload 4, 2) := dk_21 4 (dk_at dksX0_least_3 0 rfl rfl)
theorem dX0_least_73 : decode cX0_least 73 = .ok (.iaload, 1) := dk_46 (dk_at dksX0_least_3 2 rfl rfl)
theorem dX0_least_74 : decode cX0_least 74 = .ok (.iconst 4, 1) := dk_7 (dk_at dksX0_least_3 3 rfl rfl)
theorem dX0_least_75 : decode cX0_least 75 = .ok (.irem, 1) := dk_112 (dk_at dksX0_least_3 4 rfl rfl)
theorem dX0_least_76 : decode cX0_least 76 = .ok (.istore 6, 2) := dk_54 6 (dk_at dksX0_least_3 5 rfl rfl)
theorem dX0_least_78 : decode cX0_least 78 = .ok (.aload_n 0, 1) := dk_42 (dk_at dksX0_least_3 7 rfl rfl)
theorem dX0_least_79 : decode cX0_least 79 = .ok (.getfield 38, 3) := dk_180 0 38 (dk_at dksX0_least_3 8 rfl rfl)
theorem dX0_least_82 : decode cX0_least 82 = .ok (.aload_n 0, 1) := dk_42 (dk_at dksX0_least_3 11 rfl rfl)
theorem dX0_least_83 : decode cX0_least 83 = .ok (.getfield 42, 3) := dk_180 0 42 (dk_at dksX0_least_3 12 rfl rfl)
theorem dX0_least_86 : decode cX0_least 86 = .ok (.iload 4, 2) := dk_21 4 (dk_at dksX0_least_3 15 rfl rfl)
theorem dX0_least_88 : decode cX0_least 88 = .ok (.iaload, 1) := dk_46 (dk_at dksX0_least_3 17 rfl rfl)
theorem dX0_least_89 : decode cX0_least 89 = .ok (.iaload, 1) := dk_46 (dk_at dksX0_least_3 18 rfl rfl)
theorem dX0_least_90 : decode cX0_least 90 = .ok (.iconst 1, 1) := dk_4 (dk_at dksX0_least_3 19 rfl rfl)
theorem dX0_least_91 : decode cX0_least 91 = .ok (.iadd, 1) := dk_96 (dk_at dksX0_least_3 20 rfl rfl)
theorem dX0_least_92 : decode cX0_least 92 = .ok (.istore 7, 2) := dk_54 7 (dk_at dksX0_least_3 21 rfl rfl)
theorem dX0_least_94 : decode cX0_least 94 = .ok (.iload 5, 2) := dk_21 5 (dk_at dksX0_least_4 0 rfl rfl)
theorem dX0_least_96 : decode cX0_least 96 = .ok (.iload_n 3, 1) := dk_29 (dk_at dksX0_least_4 2 rfl rfl)
theorem dX0_least_97 : decode cX0_least 97 = .ok (.if_icmp .ne 8, 3) := dk_160 0 8 (dk_at dksX0_least_4 3 rfl rfl)
theorem dX0_least_100 : decode cX0_least 100 = .ok (.iload 7, 2) := dk_21 7 (dk_at dksX0_least_4 6 rfl rfl)
theorem dX0_least_102 : decode cX0_least 102 = .ok (.iconst 1, 1) := dk_4 (dk_at dksX0_least_4 8 rfl rfl)
theorem dX0_least_103 : decode cX0_least 103 = .ok (.isub, 1) := dk_100 (dk_at dksX0_least_4 9 rfl rfl)
theorem dX0_least_104 : decode cX0_least 104 = .ok (.ireturn, 1) := dk_172 (dk_at dksX0_least_4 10 rfl rfl)
theorem dX0_least_105 : decode cX0_least 105 = .ok (.aload_n 0, 1) := dk_42 (dk_at dksX0_least_4 11 rfl rfl)
theorem dX0_least_106 : decode cX0_least 106 = .ok (.iconst 4, 1) := dk_7 (dk_at dksX0_least_4 12 rfl rfl)
theorem dX0_least_107 : decode cX0_least 107 = .ok (.iload 5, 2) := dk_21 5 (dk_at dksX0_least_4 13 rfl rfl)
theorem dX0_least_109 : decode cX0_least 109 = .ok (.imul, 1) := dk_104 (dk_at dksX0_least_4 15 rfl rfl)
theorem dX0_least_110 : decode cX0_least 110 = .ok (.iload 6, 2) := dk_21 6 (dk_at dksX0_least_4 16 rfl rfl)
theorem dX0_least_112 : decode cX0_least 112 = .ok (.iconst 1, 1) := dk_4 (dk_at dksX0_least_4 18 rfl rfl)
theorem dX0_least_113 : decode cX0_least 113 = .ok (.iadd, 1) := dk_96 (dk_at dksX0_least_4 19 rfl rfl)
theorem dX0_least_114 : decode cX0_least 114 = .ok (.iconst 4, 1) := dk_7 (dk_at dksX0_least_4 20 rfl rfl)
theorem dX0_least_115 : decode cX0_least 115 = .ok (.irem, 1) := dk_112 (dk_at dksX0_least_4 21 rfl rfl)
theorem dX0_least_116 : decode cX0_least 116 = .ok (.iadd, 1) := dk_96 (dk_at dksX0_least_4 22 rfl rfl)
theorem dX0_least_117 : decode cX0_least 117 = .ok (.iload 7, 2) := dk_21 7 (dk_at dksX0_least_5 0 rfl rfl)
theorem dX0_least_119 : decode cX0_least 119 = .ok (.invokevirtual 319, 3) := dk_182 1 63 (dk_at dksX0_least_5 2 rfl rfl)
theorem dX0_least_122 : decode cX0_least 122 = .ok (.aload_n 0, 1) := dk_42 (dk_at dksX0_least_5 5 rfl rfl)
theorem dX0_least_123 : decode cX0_least 123 = .ok (.iconst 4, 1) := dk_7 (dk_at dksX0_least_5 6 rfl rfl)
theorem dX0_least_124 : decode cX0_least 124 = .ok (.iload 5, 2) := dk_21 5 (dk_at dksX0_least_5 7 rfl rfl)
theorem dX0_least_126 : decode cX0_least 126 = .ok (.imul, 1) := dk_104 (dk_at dksX0_least_5 9 rfl rfl)
theorem dX0_least_127 : decode cX0_least 127 = .ok (.iload 6, 2) := dk_21 6 (dk_at dksX0_least_5 10 rfl rfl)
theorem dX0_least_129 : decode cX0_least 129 = .ok (.iconst 3, 1) := dk_6 (dk_at dksX0_least_5 12 rfl rfl)
theorem dX0_least_130 : decode cX0_least 130 = .ok (.iadd, 1) := dk_96 (dk_at dksX0_least_5 13 rfl rfl)
theorem dX0_least_131 : decode cX0_least 131 = .ok (.iconst 4, 1) := dk_7 (dk_at dksX0_least_5 14 rfl rfl)
theorem dX0_least_132 : decode cX0_least 132 = .ok (.irem, 1) := dk_112 (dk_at dksX0_least_5 15 rfl rfl)
theorem dX0_least_133 : decode cX0_least 133 = .ok (.iadd, 1) := dk_96 (dk_at dksX0_least_5 16 rfl rfl)
theorem dX0_least_134 : decode cX0_least 134 = .ok (.iload 7, 2) := dk_21 7 (dk_at dksX0_least_5 17 rfl rfl)
theorem dX0_least_136 : decode cX0_least 136 = .ok (.invokevirtual 319, 3) := dk_182 1 63 (dk_at dksX0_least_5 19 rfl rfl)
theorem dX0_least_139 : decode cX0_least 139 = .ok (.iload 5, 2) := dk_21 5 (dk_at dksX0_least_5 22 rfl rfl)
theorem dX0_least_141 : decode cX0_least 141 = .ok (.iload 6, 2) := dk_21 6 (dk_at dksX0_least_6 0 rfl rfl)
theorem dX0_least_143 : decode cX0_least 143 = .ok (.invokestatic 313, 3) := dk_184 1 57 (dk_at dksX0_least_6 2 rfl rfl)
theorem dX0_least_146 : decode cX0_least 146 = .ok (.iconst (-1), 1) := dk_2 (dk_at dksX0_least_6 5 rfl rfl)
theorem dX0_least_147 : decode cX0_least 147 = .ok (.if_icmp .eq 35, 3) := dk_159 0 35 (dk_at dksX0_least_6 6 rfl rfl)
theorem dX0_least_150 : decode cX0_least 150 = .ok (.aload_n 0, 1) := dk_42 (dk_at dksX0_least_6 9 rfl rfl)
theorem dX0_least_151 : decode cX0_least 151 = .ok (.iload 5, 2) := dk_21 5 (dk_at dksX0_least_6 10 rfl rfl)
theorem dX0_least_153 : decode cX0_least 153 = .ok (.iload 6, 2) := dk_21 6 (dk_at dksX0_least_6 12 rfl rfl)
theorem dX0_least_155 : decode cX0_least 155 = .ok (.invokestatic 313, 3) := dk_184 1 57 (dk_at dksX0_least_6 14 rfl rfl)
theorem dX0_least_158 : decode cX0_least 158 = .ok (.invokevirtual 316, 3) := dk_182 1 60 (dk_at dksX0_least_6 17 rfl rfl)
theorem dX0_least_161 : decode cX0_least 161 = .ok (.ifCond .eq 21, 3) := dk_153 0 21 (dk_at dksX0_least_6 20 rfl rfl)
theorem dX0_least_164 : decode cX0_least 164 = .ok (.aload_n 0, 1) := dk_42 (dk_at dksX0_least_6 23 rfl rfl)
theorem dX0_least_165 : decode cX0_least 165 = .ok (.iconst 4, 1) := dk_7 (dk_at dksX0_least_7 0 rfl rfl)
theorem dX0_least_166 : decode cX0_least 166 = .ok (.iload 5, 2) := dk_21 5 (dk_at dksX0_least_7 1 rfl rfl)
theorem dX0_least_168 : decode cX0_least 168 = .ok (.iload 6, 2) := dk_21 6 (dk_at dksX0_least_7 3 rfl rfl)
theorem dX0_least_170 : decode cX0_least 170 = .ok (.invokestatic 313, 3) := dk_184 1 57 (dk_at dksX0_least_7 5 rfl rfl)
theorem dX0_least_173 : decode cX0_least 173 = .ok (.imul, 1) := dk_104 (dk_at dksX0_least_7 8 rfl rfl)
theorem dX0_least_174 : decode cX0_least 174 = .ok (.iload 6, 2) := dk_21 6 (dk_at dksX0_least_7 9 rfl rfl)
theorem dX0_least_176 : decode cX0_least 176 = .ok (.iadd, 1) := dk_96 (dk_at dksX0_least_7 11 rfl rfl)
theorem dX0_least_177 : decode cX0_least 177 = .ok (.iload 7, 2) := dk_21 7 (dk_at dksX0_least_7 12 rfl rfl)
theorem dX0_least_179 : decode cX0_least 179 = .ok (.invokevirtual 319, 3) := dk_182 1 63 (dk_at dksX0_least_7 14 rfl rfl)
theorem dX0_least_182 : decode cX0_least 182 = .ok (.iinc 4 1, 3) := dk_132 4 1 (dk_at dksX0_least_7 17 rfl rfl)
theorem dX0_least_185 : decode cX0_least 185 = .ok (.goto (-138), 3) := dk_167 255 118 (dk_at dksX0_least_7 20 rfl rfl)
theorem dX0_least_188 : decode cX0_least 188 = .ok (.iconst (-1), 1) := dk_2 (dk_at dksX0_least_7 23 rfl rfl)
theorem dX0_least_189 : decode cX0_least 189 = .ok (.ireturn, 1) := dk_172 (dk_at dksX0_least_8 0 rfl rfl)
abbrev cX0_reaches : ByteArray := prog_1_method_31_code
def yX0_reaches : MethodName := ⟨RX0, "reaches", "(II)V"⟩
def dkwX0_reaches_1 : List UInt8 := [180, 1, 53, 27, 79, 42, 89, 180, 1, 53, 4, 96, 181, 1, 53, 177]
abbrev dktX0_reaches_1 : List UInt8 := dkwX0_reaches_1 ++ []
def dkwX0_reaches_0 : List UInt8 := [42, 180, 0, 38, 27, 46, 28, 163, 0, 4, 177, 42, 180, 0, 38, 27, 28, 79, 42, 180, 0, 42, 42]
abbrev dktX0_reaches_0 : List UInt8 := dkwX0_reaches_0 ++ dktX0_reaches_1
theorem dksX0_reaches_0 : cX0_reaches.data.toList.drop 0 = dktX0_reaches_0 := by decide +kernel
theorem dksX0_reaches_1 : cX0_reaches.data.toList.drop 23 = dktX0_reaches_1 := dk_seg dksX0_reaches_0 23 rfl rfl
theorem dX0_reaches_0 : decode cX0_reaches 0 = .ok (.aload_n 0, 1) := dk_42 (dk_at dksX0_reaches_0 0 rfl rfl)
theorem dX0_reaches_1 : decode cX0_reaches 1 = .ok (.getfield 38, 3) := dk_180 0 38 (dk_at dksX0_reaches_0 1 rfl rfl)
theorem dX0_reaches_4 : decode cX0_reaches 4 = .ok (.iload_n 1, 1) := dk_27 (dk_at dksX0_reaches_0 4 rfl rfl)
theorem dX0_reaches_5 : decode cX0_reaches 5 = .ok (.iaload, 1) := dk_46 (dk_at dksX0_reaches_0 5 rfl rfl)
theorem dX0_reaches_6 : decode cX0_reaches 6 = .ok (.iload_n 2, 1) := dk_28 (dk_at dksX0_reaches_0 6 rfl rfl)
theorem dX0_reaches_7 : decode cX0_reaches 7 = .ok (.if_icmp .gt 4, 3) := dk_163 0 4 (dk_at dksX0_reaches_0 7 rfl rfl)
theorem dX0_reaches_10 : decode cX0_reaches 10 = .ok (.return_, 1) := dk_177 (dk_at dksX0_reaches_0 10 rfl rfl)
theorem dX0_reaches_11 : decode cX0_reaches 11 = .ok (.aload_n 0, 1) := dk_42 (dk_at dksX0_reaches_0 11 rfl rfl)
theorem dX0_reaches_12 : decode cX0_reaches 12 = .ok (.getfield 38, 3) := dk_180 0 38 (dk_at dksX0_reaches_0 12 rfl rfl)
theorem dX0_reaches_15 : decode cX0_reaches 15 = .ok (.iload_n 1, 1) := dk_27 (dk_at dksX0_reaches_0 15 rfl rfl)
theorem dX0_reaches_16 : decode cX0_reaches 16 = .ok (.iload_n 2, 1) := dk_28 (dk_at dksX0_reaches_0 16 rfl rfl)
theorem dX0_reaches_17 : decode cX0_reaches 17 = .ok (.iastore, 1) := dk_79 (dk_at dksX0_reaches_0 17 rfl rfl)
theorem dX0_reaches_18 : decode cX0_reaches 18 = .ok (.aload_n 0, 1) := dk_42 (dk_at dksX0_reaches_0 18 rfl rfl)
theorem dX0_reaches_19 : decode cX0_reaches 19 = .ok (.getfield 42, 3) := dk_180 0 42 (dk_at dksX0_reaches_0 19 rfl rfl)
theorem dX0_reaches_22 : decode cX0_reaches 22 = .ok (.aload_n 0, 1) := dk_42 (dk_at dksX0_reaches_0 22 rfl rfl)
theorem dX0_reaches_23 : decode cX0_reaches 23 = .ok (.getfield 309, 3) := dk_180 1 53 (dk_at dksX0_reaches_1 0 rfl rfl)
theorem dX0_reaches_26 : decode cX0_reaches 26 = .ok (.iload_n 1, 1) := dk_27 (dk_at dksX0_reaches_1 3 rfl rfl)
theorem dX0_reaches_27 : decode cX0_reaches 27 = .ok (.iastore, 1) := dk_79 (dk_at dksX0_reaches_1 4 rfl rfl)
theorem dX0_reaches_28 : decode cX0_reaches 28 = .ok (.aload_n 0, 1) := dk_42 (dk_at dksX0_reaches_1 5 rfl rfl)
theorem dX0_reaches_29 : decode cX0_reaches 29 = .ok (.dup, 1) := dk_89 (dk_at dksX0_reaches_1 6 rfl rfl)
theorem dX0_reaches_30 : decode cX0_reaches 30 = .ok (.getfield 309, 3) := dk_180 1 53 (dk_at dksX0_reaches_1 7 rfl rfl)
theorem dX0_reaches_33 : decode cX0_reaches 33 = .ok (.iconst 1, 1) := dk_4 (dk_at dksX0_reaches_1 10 rfl rfl)
theorem dX0_reaches_34 : decode cX0_reaches 34 = .ok (.iadd, 1) := dk_96 (dk_at dksX0_reaches_1 11 rfl rfl)
theorem dX0_reaches_35 : decode cX0_reaches 35 = .ok (.putfield 309, 3) := dk_181 1 53 (dk_at dksX0_reaches_1 12 rfl rfl)
theorem dX0_reaches_38 : decode cX0_reaches 38 = .ok (.return_, 1) := dk_177 (dk_at dksX0_reaches_1 15 rfl rfl)
abbrev cX0_laysSteps : ByteArray := prog_1_method_32_code
def yX0_laysSteps : MethodName := ⟨RX0, "laysSteps", "(II)V"⟩
def dkwX0_laysSteps_12 : List UInt8 := [54, 5, 132, 6, 1, 167, 255, 130, 167, 255, 116, 132, 3, 1, 167, 254, 251, 177]
abbrev dktX0_laysSteps_12 : List UInt8 := dkwX0_laysSteps_12 ++ []
def dkwX0_laysSteps_11 : List UInt8 := [21, 7, 104, 96, 21, 6, 7, 112, 96, 42, 180, 0, 38, 21, 4, 21, 6, 96, 46, 4, 96, 79, 4]
abbrev dktX0_laysSteps_11 : List UInt8 := dkwX0_laysSteps_11 ++ dktX0_laysSteps_12
def dkwX0_laysSteps_10 : List UInt8 := [180, 0, 38, 21, 4, 21, 6, 96, 46, 4, 96, 163, 0, 6, 167, 0, 35, 42, 180, 0, 38, 21, 4, 7]
abbrev dktX0_laysSteps_10 : List UInt8 := dkwX0_laysSteps_10 ++ dktX0_laysSteps_11
def dkwX0_laysSteps_9 : List UInt8 := [182, 1, 60, 153, 0, 70, 42, 180, 0, 38, 21, 4, 7, 21, 7, 104, 96, 21, 6, 7, 112, 96, 46, 42]
abbrev dktX0_laysSteps_9 : List UInt8 := dkwX0_laysSteps_9 ++ dktX0_laysSteps_10
def dkwX0_laysSteps_8 : List UInt8 := [21, 6, 7, 108, 21, 6, 7, 112, 184, 1, 57, 54, 7, 21, 7, 2, 159, 0, 79, 42, 21, 7]
abbrev dktX0_laysSteps_8 : List UInt8 := dkwX0_laysSteps_8 ++ dktX0_laysSteps_9
def dkwX0_laysSteps_7 : List UInt8 := [162, 0, 124, 42, 180, 0, 38, 21, 4, 21, 6, 96, 46, 19, 1, 56, 160, 0, 7, 2, 167, 0, 14]
abbrev dktX0_laysSteps_7 : List UInt8 := dkwX0_laysSteps_7 ++ dktX0_laysSteps_8
def dkwX0_laysSteps_6 : List UInt8 := [167, 255, 178, 4, 54, 5, 21, 5, 153, 0, 141, 3, 54, 5, 3, 54, 6, 21, 6, 17, 2, 64]
abbrev dktX0_laysSteps_6 : List UInt8 := dkwX0_laysSteps_6 ++ dktX0_laysSteps_7
def dkwX0_laysSteps_5 : List UInt8 := [21, 5, 7, 108, 7, 104, 96, 21, 5, 6, 96, 7, 112, 96, 46, 184, 0, 101, 79, 132, 5, 1]
abbrev dktX0_laysSteps_5 : List UInt8 := dkwX0_laysSteps_5 ++ dktX0_laysSteps_6
def dkwX0_laysSteps_4 : List UInt8 := [7, 108, 7, 104, 96, 21, 5, 4, 96, 7, 112, 96, 46, 42, 180, 0, 38, 21, 4, 17, 2, 64, 100]
abbrev dktX0_laysSteps_4 : List UInt8 := dkwX0_laysSteps_4 ++ dktX0_laysSteps_5
def dkwX0_laysSteps_3 : List UInt8 := [158, 0, 72, 42, 180, 0, 38, 21, 4, 21, 5, 96, 42, 180, 0, 38, 21, 4, 17, 2, 64, 100, 21, 5]
abbrev dktX0_laysSteps_3 : List UInt8 := dkwX0_laysSteps_3 ++ dktX0_laysSteps_4
def dkwX0_laysSteps_2 : List UInt8 := [180, 0, 38, 7, 27, 104, 28, 96, 3, 79, 3, 54, 5, 21, 5, 17, 2, 64, 162, 0, 76, 29]
abbrev dktX0_laysSteps_2 : List UInt8 := dkwX0_laysSteps_2 ++ dktX0_laysSteps_3
def dkwX0_laysSteps_1 : List UInt8 := [167, 255, 235, 3, 62, 29, 16, 6, 163, 1, 5, 17, 2, 64, 29, 104, 54, 4, 29, 154, 0, 14, 42]
abbrev dktX0_laysSteps_1 : List UInt8 := dkwX0_laysSteps_1 ++ dktX0_laysSteps_2
def dkwX0_laysSteps_0 : List UInt8 := [3, 62, 29, 42, 180, 0, 38, 190, 162, 0, 18, 42, 180, 0, 38, 29, 19, 1, 56, 79, 132, 3, 1]
abbrev dktX0_laysSteps_0 : List UInt8 := dkwX0_laysSteps_0 ++ dktX0_laysSteps_1
theorem dksX0_laysSteps_0 : cX0_laysSteps.data.toList.drop 0 = dktX0_laysSteps_0 := by decide +kernel
theorem dksX0_laysSteps_1 : cX0_laysSteps.data.toList.drop 23 = dktX0_laysSteps_1 := dk_seg dksX0_laysSteps_0 23 rfl rfl
theorem dksX0_laysSteps_2 : cX0_laysSteps.data.toList.drop 46 = dktX0_laysSteps_2 := dk_seg dksX0_laysSteps_1 23 rfl rfl
theorem dksX0_laysSteps_3 : cX0_laysSteps.data.toList.drop 68 = dktX0_laysSteps_3 := dk_seg dksX0_laysSteps_2 22 rfl rfl
theorem dksX0_laysSteps_4 : cX0_laysSteps.data.toList.drop 92 = dktX0_laysSteps_4 := dk_seg dksX0_laysSteps_3 24 rfl rfl
theorem dksX0_laysSteps_5 : cX0_laysSteps.data.toList.drop 115 = dktX0_laysSteps_5 := dk_seg dksX0_laysSteps_4 23 rfl rfl
theorem dksX0_laysSteps_6 : cX0_laysSteps.data.toList.drop 137 = dktX0_laysSteps_6 := dk_seg dksX0_laysSteps_5 22 rfl rfl
theorem dksX0_laysSteps_7 : cX0_laysSteps.data.toList.drop 159 = dktX0_laysSteps_7 := dk_seg dksX0_laysSteps_6 22 rfl rfl
theorem dksX0_laysSteps_8 : cX0_laysSteps.data.toList.drop 182 = dktX0_laysSteps_8 := dk_seg dksX0_laysSteps_7 23 rfl rfl
theorem dksX0_laysSteps_9 : cX0_laysSteps.data.toList.drop 204 = dktX0_laysSteps_9 := dk_seg dksX0_laysSteps_8 22 rfl rfl
theorem dksX0_laysSteps_10 : cX0_laysSteps.data.toList.drop 228 = dktX0_laysSteps_10 := dk_seg dksX0_laysSteps_9 24 rfl rfl
theorem dksX0_laysSteps_11 : cX0_laysSteps.data.toList.drop 252 = dktX0_laysSteps_11 := dk_seg dksX0_laysSteps_10 24 rfl rfl
theorem dksX0_laysSteps_12 : cX0_laysSteps.data.toList.drop 275 = dktX0_laysSteps_12 := dk_seg dksX0_laysSteps_11 23 rfl rfl
theorem dX0_laysSteps_0 : decode cX0_laysSteps 0 = .ok (.iconst 0, 1) := dk_3 (dk_at dksX0_laysSteps_0 0 rfl rfl)
theorem dX0_laysSteps_1 : decode cX0_laysSteps 1 = .ok (.istore_n 3, 1) := dk_62 (dk_at dksX0_laysSteps_0 1 rfl rfl)
theorem dX0_laysSteps_2 : decode cX0_laysSteps 2 = .ok (.iload_n 3, 1) := dk_29 (dk_at dksX0_laysSteps_0 2 rfl rfl)
theorem dX0_laysSteps_3 : decode cX0_laysSteps 3 = .ok (.aload_n 0, 1) := dk_42 (dk_at dksX0_laysSteps_0 3 rfl rfl)
theorem dX0_laysSteps_4 : decode cX0_laysSteps 4 = .ok (.getfield 38, 3) := dk_180 0 38 (dk_at dksX0_laysSteps_0 4 rfl rfl)
theorem dX0_laysSteps_7 : decode cX0_laysSteps 7 = .ok (.arraylength, 1) := dk_190 (dk_at dksX0_laysSteps_0 7 rfl rfl)
theorem dX0_laysSteps_8 : decode cX0_laysSteps 8 = .ok (.if_icmp .ge 18, 3) := dk_162 0 18 (dk_at dksX0_laysSteps_0 8 rfl rfl)
theorem dX0_laysSteps_11 : decode cX0_laysSteps 11 = .ok (.aload_n 0, 1) := dk_42 (dk_at dksX0_laysSteps_0 11 rfl rfl)
theorem dX0_laysSteps_12 : decode cX0_laysSteps 12 = .ok (.getfield 38, 3) := dk_180 0 38 (dk_at dksX0_laysSteps_0 12 rfl rfl)
theorem dX0_laysSteps_15 : decode cX0_laysSteps 15 = .ok (.iload_n 3, 1) := dk_29 (dk_at dksX0_laysSteps_0 15 rfl rfl)
theorem dX0_laysSteps_16 : decode cX0_laysSteps 16 = .ok (.ldc_w 312, 3) := dk_19 1 56 (dk_at dksX0_laysSteps_0 16 rfl rfl)
theorem dX0_laysSteps_19 : decode cX0_laysSteps 19 = .ok (.iastore, 1) := dk_79 (dk_at dksX0_laysSteps_0 19 rfl rfl)
theorem dX0_laysSteps_20 : decode cX0_laysSteps 20 = .ok (.iinc 3 1, 3) := dk_132 3 1 (dk_at dksX0_laysSteps_0 20 rfl rfl)
theorem dX0_laysSteps_23 : decode cX0_laysSteps 23 = .ok (.goto (-21), 3) := dk_167 255 235 (dk_at dksX0_laysSteps_1 0 rfl rfl)
theorem dX0_laysSteps_26 : decode cX0_laysSteps 26 = .ok (.iconst 0, 1) := dk_3 (dk_at dksX0_laysSteps_1 3 rfl rfl)
theorem dX0_laysSteps_27 : decode cX0_laysSteps 27 = .ok (.istore_n 3, 1) := dk_62 (dk_at dksX0_laysSteps_1 4 rfl rfl)
theorem dX0_laysSteps_28 : decode cX0_laysSteps 28 = .ok (.iload_n 3, 1) := dk_29 (dk_at dksX0_laysSteps_1 5 rfl rfl)
theorem dX0_laysSteps_29 : decode cX0_laysSteps 29 = .ok (.bipush 6, 2) := dk_16 6 (dk_at dksX0_laysSteps_1 6 rfl rfl)
theorem dX0_laysSteps_31 : decode cX0_laysSteps 31 = .ok (.if_icmp .gt 261, 3) := dk_163 1 5 (dk_at dksX0_laysSteps_1 8 rfl rfl)
theorem dX0_laysSteps_34 : decode cX0_laysSteps 34 = .ok (.sipush 576, 3) := dk_17 2 64 (dk_at dksX0_laysSteps_1 11 rfl rfl)
theorem dX0_laysSteps_37 : decode cX0_laysSteps 37 = .ok (.iload_n 3, 1) := dk_29 (dk_at dksX0_laysSteps_1 14 rfl rfl)
theorem dX0_laysSteps_38 : decode cX0_laysSteps 38 = .ok (.imul, 1) := dk_104 (dk_at dksX0_laysSteps_1 15 rfl rfl)
theorem dX0_laysSteps_39 : decode cX0_laysSteps 39 = .ok (.istore 4, 2) := dk_54 4 (dk_at dksX0_laysSteps_1 16 rfl rfl)
theorem dX0_laysSteps_41 : decode cX0_laysSteps 41 = .ok (.iload_n 3, 1) := dk_29 (dk_at dksX0_laysSteps_1 18 rfl rfl)
theorem dX0_laysSteps_42 : decode cX0_laysSteps 42 = .ok (.ifCond .ne 14, 3) := dk_154 0 14 (dk_at dksX0_laysSteps_1 19 rfl rfl)
theorem dX0_laysSteps_45 : decode cX0_laysSteps 45 = .ok (.aload_n 0, 1) := dk_42 (dk_at dksX0_laysSteps_1 22 rfl rfl)
theorem dX0_laysSteps_46 : decode cX0_laysSteps 46 = .ok (.getfield 38, 3) := dk_180 0 38 (dk_at dksX0_laysSteps_2 0 rfl rfl)
theorem dX0_laysSteps_49 : decode cX0_laysSteps 49 = .ok (.iconst 4, 1) := dk_7 (dk_at dksX0_laysSteps_2 3 rfl rfl)
theorem dX0_laysSteps_50 : decode cX0_laysSteps 50 = .ok (.iload_n 1, 1) := dk_27 (dk_at dksX0_laysSteps_2 4 rfl rfl)
theorem dX0_laysSteps_51 : decode cX0_laysSteps 51 = .ok (.imul, 1) := dk_104 (dk_at dksX0_laysSteps_2 5 rfl rfl)
theorem dX0_laysSteps_52 : decode cX0_laysSteps 52 = .ok (.iload_n 2, 1) := dk_28 (dk_at dksX0_laysSteps_2 6 rfl rfl)
theorem dX0_laysSteps_53 : decode cX0_laysSteps 53 = .ok (.iadd, 1) := dk_96 (dk_at dksX0_laysSteps_2 7 rfl rfl)
theorem dX0_laysSteps_54 : decode cX0_laysSteps 54 = .ok (.iconst 0, 1) := dk_3 (dk_at dksX0_laysSteps_2 8 rfl rfl)
theorem dX0_laysSteps_55 : decode cX0_laysSteps 55 = .ok (.iastore, 1) := dk_79 (dk_at dksX0_laysSteps_2 9 rfl rfl)
theorem dX0_laysSteps_56 : decode cX0_laysSteps 56 = .ok (.iconst 0, 1) := dk_3 (dk_at dksX0_laysSteps_2 10 rfl rfl)
theorem dX0_laysSteps_57 : decode cX0_laysSteps 57 = .ok (.istore 5, 2) := dk_54 5 (dk_at dksX0_laysSteps_2 11 rfl rfl)
theorem dX0_laysSteps_59 : decode cX0_laysSteps 59 = .ok (.iload 5, 2) := dk_21 5 (dk_at dksX0_laysSteps_2 13 rfl rfl)
theorem dX0_laysSteps_61 : decode cX0_laysSteps 61 = .ok (.sipush 576, 3) := dk_17 2 64 (dk_at dksX0_laysSteps_2 15 rfl rfl)
theorem dX0_laysSteps_64 : decode cX0_laysSteps 64 = .ok (.if_icmp .ge 76, 3) := dk_162 0 76 (dk_at dksX0_laysSteps_2 18 rfl rfl)
theorem dX0_laysSteps_67 : decode cX0_laysSteps 67 = .ok (.iload_n 3, 1) := dk_29 (dk_at dksX0_laysSteps_2 21 rfl rfl)
theorem dX0_laysSteps_68 : decode cX0_laysSteps 68 = .ok (.ifCond .le 72, 3) := dk_158 0 72 (dk_at dksX0_laysSteps_3 0 rfl rfl)
theorem dX0_laysSteps_71 : decode cX0_laysSteps 71 = .ok (.aload_n 0, 1) := dk_42 (dk_at dksX0_laysSteps_3 3 rfl rfl)
theorem dX0_laysSteps_72 : decode cX0_laysSteps 72 = .ok (.getfield 38, 3) := dk_180 0 38 (dk_at dksX0_laysSteps_3 4 rfl rfl)
theorem dX0_laysSteps_75 : decode cX0_laysSteps 75 = .ok (.iload 4, 2) := dk_21 4 (dk_at dksX0_laysSteps_3 7 rfl rfl)
theorem dX0_laysSteps_77 : decode cX0_laysSteps 77 = .ok (.iload 5, 2) := dk_21 5 (dk_at dksX0_laysSteps_3 9 rfl rfl)
theorem dX0_laysSteps_79 : decode cX0_laysSteps 79 = .ok (.iadd, 1) := dk_96 (dk_at dksX0_laysSteps_3 11 rfl rfl)
theorem dX0_laysSteps_80 : decode cX0_laysSteps 80 = .ok (.aload_n 0, 1) := dk_42 (dk_at dksX0_laysSteps_3 12 rfl rfl)
theorem dX0_laysSteps_81 : decode cX0_laysSteps 81 = .ok (.getfield 38, 3) := dk_180 0 38 (dk_at dksX0_laysSteps_3 13 rfl rfl)
theorem dX0_laysSteps_84 : decode cX0_laysSteps 84 = .ok (.iload 4, 2) := dk_21 4 (dk_at dksX0_laysSteps_3 16 rfl rfl)
theorem dX0_laysSteps_86 : decode cX0_laysSteps 86 = .ok (.sipush 576, 3) := dk_17 2 64 (dk_at dksX0_laysSteps_3 18 rfl rfl)
theorem dX0_laysSteps_89 : decode cX0_laysSteps 89 = .ok (.isub, 1) := dk_100 (dk_at dksX0_laysSteps_3 21 rfl rfl)
theorem dX0_laysSteps_90 : decode cX0_laysSteps 90 = .ok (.iload 5, 2) := dk_21 5 (dk_at dksX0_laysSteps_3 22 rfl rfl)
theorem dX0_laysSteps_92 : decode cX0_laysSteps 92 = .ok (.iconst 4, 1) := dk_7 (dk_at dksX0_laysSteps_4 0 rfl rfl)
theorem dX0_laysSteps_93 : decode cX0_laysSteps 93 = .ok (.idiv, 1) := dk_108 (dk_at dksX0_laysSteps_4 1 rfl rfl)
theorem dX0_laysSteps_94 : decode cX0_laysSteps 94 = .ok (.iconst 4, 1) := dk_7 (dk_at dksX0_laysSteps_4 2 rfl rfl)
theorem dX0_laysSteps_95 : decode cX0_laysSteps 95 = .ok (.imul, 1) := dk_104 (dk_at dksX0_laysSteps_4 3 rfl rfl)
theorem dX0_laysSteps_96 : decode cX0_laysSteps 96 = .ok (.iadd, 1) := dk_96 (dk_at dksX0_laysSteps_4 4 rfl rfl)
theorem dX0_laysSteps_97 : decode cX0_laysSteps 97 = .ok (.iload 5, 2) := dk_21 5 (dk_at dksX0_laysSteps_4 5 rfl rfl)
theorem dX0_laysSteps_99 : decode cX0_laysSteps 99 = .ok (.iconst 1, 1) := dk_4 (dk_at dksX0_laysSteps_4 7 rfl rfl)
theorem dX0_laysSteps_100 : decode cX0_laysSteps 100 = .ok (.iadd, 1) := dk_96 (dk_at dksX0_laysSteps_4 8 rfl rfl)
theorem dX0_laysSteps_101 : decode cX0_laysSteps 101 = .ok (.iconst 4, 1) := dk_7 (dk_at dksX0_laysSteps_4 9 rfl rfl)
theorem dX0_laysSteps_102 : decode cX0_laysSteps 102 = .ok (.irem, 1) := dk_112 (dk_at dksX0_laysSteps_4 10 rfl rfl)
theorem dX0_laysSteps_103 : decode cX0_laysSteps 103 = .ok (.iadd, 1) := dk_96 (dk_at dksX0_laysSteps_4 11 rfl rfl)
theorem dX0_laysSteps_104 : decode cX0_laysSteps 104 = .ok (.iaload, 1) := dk_46 (dk_at dksX0_laysSteps_4 12 rfl rfl)
theorem dX0_laysSteps_105 : decode cX0_laysSteps 105 = .ok (.aload_n 0, 1) := dk_42 (dk_at dksX0_laysSteps_4 13 rfl rfl)
theorem dX0_laysSteps_106 : decode cX0_laysSteps 106 = .ok (.getfield 38, 3) := dk_180 0 38 (dk_at dksX0_laysSteps_4 14 rfl rfl)
theorem dX0_laysSteps_109 : decode cX0_laysSteps 109 = .ok (.iload 4, 2) := dk_21 4 (dk_at dksX0_laysSteps_4 17 rfl rfl)
theorem dX0_laysSteps_111 : decode cX0_laysSteps 111 = .ok (.sipush 576, 3) := dk_17 2 64 (dk_at dksX0_laysSteps_4 19 rfl rfl)
theorem dX0_laysSteps_114 : decode cX0_laysSteps 114 = .ok (.isub, 1) := dk_100 (dk_at dksX0_laysSteps_4 22 rfl rfl)
theorem dX0_laysSteps_115 : decode cX0_laysSteps 115 = .ok (.iload 5, 2) := dk_21 5 (dk_at dksX0_laysSteps_5 0 rfl rfl)
theorem dX0_laysSteps_117 : decode cX0_laysSteps 117 = .ok (.iconst 4, 1) := dk_7 (dk_at dksX0_laysSteps_5 2 rfl rfl)
theorem dX0_laysSteps_118 : decode cX0_laysSteps 118 = .ok (.idiv, 1) := dk_108 (dk_at dksX0_laysSteps_5 3 rfl rfl)
theorem dX0_laysSteps_119 : decode cX0_laysSteps 119 = .ok (.iconst 4, 1) := dk_7 (dk_at dksX0_laysSteps_5 4 rfl rfl)
theorem dX0_laysSteps_120 : decode cX0_laysSteps 120 = .ok (.imul, 1) := dk_104 (dk_at dksX0_laysSteps_5 5 rfl rfl)
theorem dX0_laysSteps_121 : decode cX0_laysSteps 121 = .ok (.iadd, 1) := dk_96 (dk_at dksX0_laysSteps_5 6 rfl rfl)
theorem dX0_laysSteps_122 : decode cX0_laysSteps 122 = .ok (.iload 5, 2) := dk_21 5 (dk_at dksX0_laysSteps_5 7 rfl rfl)
theorem dX0_laysSteps_124 : decode cX0_laysSteps 124 = .ok (.iconst 3, 1) := dk_6 (dk_at dksX0_laysSteps_5 9 rfl rfl)
theorem dX0_laysSteps_125 : decode cX0_laysSteps 125 = .ok (.iadd, 1) := dk_96 (dk_at dksX0_laysSteps_5 10 rfl rfl)
theorem dX0_laysSteps_126 : decode cX0_laysSteps 126 = .ok (.iconst 4, 1) := dk_7 (dk_at dksX0_laysSteps_5 11 rfl rfl)
theorem dX0_laysSteps_127 : decode cX0_laysSteps 127 = .ok (.irem, 1) := dk_112 (dk_at dksX0_laysSteps_5 12 rfl rfl)
theorem dX0_laysSteps_128 : decode cX0_laysSteps 128 = .ok (.iadd, 1) := dk_96 (dk_at dksX0_laysSteps_5 13 rfl rfl)
theorem dX0_laysSteps_129 : decode cX0_laysSteps 129 = .ok (.iaload, 1) := dk_46 (dk_at dksX0_laysSteps_5 14 rfl rfl)
theorem dX0_laysSteps_130 : decode cX0_laysSteps 130 = .ok (.invokestatic 101, 3) := dk_184 0 101 (dk_at dksX0_laysSteps_5 15 rfl rfl)
theorem dX0_laysSteps_133 : decode cX0_laysSteps 133 = .ok (.iastore, 1) := dk_79 (dk_at dksX0_laysSteps_5 18 rfl rfl)
theorem dX0_laysSteps_134 : decode cX0_laysSteps 134 = .ok (.iinc 5 1, 3) := dk_132 5 1 (dk_at dksX0_laysSteps_5 19 rfl rfl)
theorem dX0_laysSteps_137 : decode cX0_laysSteps 137 = .ok (.goto (-78), 3) := dk_167 255 178 (dk_at dksX0_laysSteps_6 0 rfl rfl)
theorem dX0_laysSteps_140 : decode cX0_laysSteps 140 = .ok (.iconst 1, 1) := dk_4 (dk_at dksX0_laysSteps_6 3 rfl rfl)
theorem dX0_laysSteps_141 : decode cX0_laysSteps 141 = .ok (.istore 5, 2) := dk_54 5 (dk_at dksX0_laysSteps_6 4 rfl rfl)
theorem dX0_laysSteps_143 : decode cX0_laysSteps 143 = .ok (.iload 5, 2) := dk_21 5 (dk_at dksX0_laysSteps_6 6 rfl rfl)
theorem dX0_laysSteps_145 : decode cX0_laysSteps 145 = .ok (.ifCond .eq 141, 3) := dk_153 0 141 (dk_at dksX0_laysSteps_6 8 rfl rfl)
theorem dX0_laysSteps_148 : decode cX0_laysSteps 148 = .ok (.iconst 0, 1) := dk_3 (dk_at dksX0_laysSteps_6 11 rfl rfl)
theorem dX0_laysSteps_149 : decode cX0_laysSteps 149 = .ok (.istore 5, 2) := dk_54 5 (dk_at dksX0_laysSteps_6 12 rfl rfl)
theorem dX0_laysSteps_151 : decode cX0_laysSteps 151 = .ok (.iconst 0, 1) := dk_3 (dk_at dksX0_laysSteps_6 14 rfl rfl)
theorem dX0_laysSteps_152 : decode cX0_laysSteps 152 = .ok (.istore 6, 2) := dk_54 6 (dk_at dksX0_laysSteps_6 15 rfl rfl)
theorem dX0_laysSteps_154 : decode cX0_laysSteps 154 = .ok (.iload 6, 2) := dk_21 6 (dk_at dksX0_laysSteps_6 17 rfl rfl)
theorem dX0_laysSteps_156 : decode cX0_laysSteps 156 = .ok (.sipush 576, 3) := dk_17 2 64 (dk_at dksX0_laysSteps_6 19 rfl rfl)
theorem dX0_laysSteps_159 : decode cX0_laysSteps 159 = .ok (.if_icmp .ge 124, 3) := dk_162 0 124 (dk_at dksX0_laysSteps_7 0 rfl rfl)
theorem dX0_laysSteps_162 : decode cX0_laysSteps 162 = .ok (.aload_n 0, 1) := dk_42 (dk_at dksX0_laysSteps_7 3 rfl rfl)
theorem dX0_laysSteps_163 : decode cX0_laysSteps 163 = .ok (.getfield 38, 3) := dk_180 0 38 (dk_at dksX0_laysSteps_7 4 rfl rfl)
theorem dX0_laysSteps_166 : decode cX0_laysSteps 166 = .ok (.iload 4, 2) := dk_21 4 (dk_at dksX0_laysSteps_7 7 rfl rfl)
theorem dX0_laysSteps_168 : decode cX0_laysSteps 168 = .ok (.iload 6, 2) := dk_21 6 (dk_at dksX0_laysSteps_7 9 rfl rfl)
theorem dX0_laysSteps_170 : decode cX0_laysSteps 170 = .ok (.iadd, 1) := dk_96 (dk_at dksX0_laysSteps_7 11 rfl rfl)
theorem dX0_laysSteps_171 : decode cX0_laysSteps 171 = .ok (.iaload, 1) := dk_46 (dk_at dksX0_laysSteps_7 12 rfl rfl)
theorem dX0_laysSteps_172 : decode cX0_laysSteps 172 = .ok (.ldc_w 312, 3) := dk_19 1 56 (dk_at dksX0_laysSteps_7 13 rfl rfl)
theorem dX0_laysSteps_175 : decode cX0_laysSteps 175 = .ok (.if_icmp .ne 7, 3) := dk_160 0 7 (dk_at dksX0_laysSteps_7 16 rfl rfl)
theorem dX0_laysSteps_178 : decode cX0_laysSteps 178 = .ok (.iconst (-1), 1) := dk_2 (dk_at dksX0_laysSteps_7 19 rfl rfl)
theorem dX0_laysSteps_179 : decode cX0_laysSteps 179 = .ok (.goto 14, 3) := dk_167 0 14 (dk_at dksX0_laysSteps_7 20 rfl rfl)
theorem dX0_laysSteps_182 : decode cX0_laysSteps 182 = .ok (.iload 6, 2) := dk_21 6 (dk_at dksX0_laysSteps_8 0 rfl rfl)
theorem dX0_laysSteps_184 : decode cX0_laysSteps 184 = .ok (.iconst 4, 1) := dk_7 (dk_at dksX0_laysSteps_8 2 rfl rfl)
theorem dX0_laysSteps_185 : decode cX0_laysSteps 185 = .ok (.idiv, 1) := dk_108 (dk_at dksX0_laysSteps_8 3 rfl rfl)
theorem dX0_laysSteps_186 : decode cX0_laysSteps 186 = .ok (.iload 6, 2) := dk_21 6 (dk_at dksX0_laysSteps_8 4 rfl rfl)
theorem dX0_laysSteps_188 : decode cX0_laysSteps 188 = .ok (.iconst 4, 1) := dk_7 (dk_at dksX0_laysSteps_8 6 rfl rfl)
theorem dX0_laysSteps_189 : decode cX0_laysSteps 189 = .ok (.irem, 1) := dk_112 (dk_at dksX0_laysSteps_8 7 rfl rfl)
theorem dX0_laysSteps_190 : decode cX0_laysSteps 190 = .ok (.invokestatic 313, 3) := dk_184 1 57 (dk_at dksX0_laysSteps_8 8 rfl rfl)
theorem dX0_laysSteps_193 : decode cX0_laysSteps 193 = .ok (.istore 7, 2) := dk_54 7 (dk_at dksX0_laysSteps_8 11 rfl rfl)
theorem dX0_laysSteps_195 : decode cX0_laysSteps 195 = .ok (.iload 7, 2) := dk_21 7 (dk_at dksX0_laysSteps_8 13 rfl rfl)
theorem dX0_laysSteps_197 : decode cX0_laysSteps 197 = .ok (.iconst (-1), 1) := dk_2 (dk_at dksX0_laysSteps_8 15 rfl rfl)
theorem dX0_laysSteps_198 : decode cX0_laysSteps 198 = .ok (.if_icmp .eq 79, 3) := dk_159 0 79 (dk_at dksX0_laysSteps_8 16 rfl rfl)
theorem dX0_laysSteps_201 : decode cX0_laysSteps 201 = .ok (.aload_n 0, 1) := dk_42 (dk_at dksX0_laysSteps_8 19 rfl rfl)
theorem dX0_laysSteps_202 : decode cX0_laysSteps 202 = .ok (.iload 7, 2) := dk_21 7 (dk_at dksX0_laysSteps_8 20 rfl rfl)
theorem dX0_laysSteps_204 : decode cX0_laysSteps 204 = .ok (.invokevirtual 316, 3) := dk_182 1 60 (dk_at dksX0_laysSteps_9 0 rfl rfl)
theorem dX0_laysSteps_207 : decode cX0_laysSteps 207 = .ok (.ifCond .eq 70, 3) := dk_153 0 70 (dk_at dksX0_laysSteps_9 3 rfl rfl)
theorem dX0_laysSteps_210 : decode cX0_laysSteps 210 = .ok (.aload_n 0, 1) := dk_42 (dk_at dksX0_laysSteps_9 6 rfl rfl)
theorem dX0_laysSteps_211 : decode cX0_laysSteps 211 = .ok (.getfield 38, 3) := dk_180 0 38 (dk_at dksX0_laysSteps_9 7 rfl rfl)
theorem dX0_laysSteps_214 : decode cX0_laysSteps 214 = .ok (.iload 4, 2) := dk_21 4 (dk_at dksX0_laysSteps_9 10 rfl rfl)
theorem dX0_laysSteps_216 : decode cX0_laysSteps 216 = .ok (.iconst 4, 1) := dk_7 (dk_at dksX0_laysSteps_9 12 rfl rfl)
theorem dX0_laysSteps_217 : decode cX0_laysSteps 217 = .ok (.iload 7, 2) := dk_21 7 (dk_at dksX0_laysSteps_9 13 rfl rfl)
theorem dX0_laysSteps_219 : decode cX0_laysSteps 219 = .ok (.imul, 1) := dk_104 (dk_at dksX0_laysSteps_9 15 rfl rfl)
theorem dX0_laysSteps_220 : decode cX0_laysSteps 220 = .ok (.iadd, 1) := dk_96 (dk_at dksX0_laysSteps_9 16 rfl rfl)
theorem dX0_laysSteps_221 : decode cX0_laysSteps 221 = .ok (.iload 6, 2) := dk_21 6 (dk_at dksX0_laysSteps_9 17 rfl rfl)
theorem dX0_laysSteps_223 : decode cX0_laysSteps 223 = .ok (.iconst 4, 1) := dk_7 (dk_at dksX0_laysSteps_9 19 rfl rfl)
theorem dX0_laysSteps_224 : decode cX0_laysSteps 224 = .ok (.irem, 1) := dk_112 (dk_at dksX0_laysSteps_9 20 rfl rfl)
theorem dX0_laysSteps_225 : decode cX0_laysSteps 225 = .ok (.iadd, 1) := dk_96 (dk_at dksX0_laysSteps_9 21 rfl rfl)
theorem dX0_laysSteps_226 : decode cX0_laysSteps 226 = .ok (.iaload, 1) := dk_46 (dk_at dksX0_laysSteps_9 22 rfl rfl)
theorem dX0_laysSteps_227 : decode cX0_laysSteps 227 = .ok (.aload_n 0, 1) := dk_42 (dk_at dksX0_laysSteps_9 23 rfl rfl)
theorem dX0_laysSteps_228 : decode cX0_laysSteps 228 = .ok (.getfield 38, 3) := dk_180 0 38 (dk_at dksX0_laysSteps_10 0 rfl rfl)
theorem dX0_laysSteps_231 : decode cX0_laysSteps 231 = .ok (.iload 4, 2) := dk_21 4 (dk_at dksX0_laysSteps_10 3 rfl rfl)
theorem dX0_laysSteps_233 : decode cX0_laysSteps 233 = .ok (.iload 6, 2) := dk_21 6 (dk_at dksX0_laysSteps_10 5 rfl rfl)
theorem dX0_laysSteps_235 : decode cX0_laysSteps 235 = .ok (.iadd, 1) := dk_96 (dk_at dksX0_laysSteps_10 7 rfl rfl)
theorem dX0_laysSteps_236 : decode cX0_laysSteps 236 = .ok (.iaload, 1) := dk_46 (dk_at dksX0_laysSteps_10 8 rfl rfl)
theorem dX0_laysSteps_237 : decode cX0_laysSteps 237 = .ok (.iconst 1, 1) := dk_4 (dk_at dksX0_laysSteps_10 9 rfl rfl)
theorem dX0_laysSteps_238 : decode cX0_laysSteps 238 = .ok (.iadd, 1) := dk_96 (dk_at dksX0_laysSteps_10 10 rfl rfl)
theorem dX0_laysSteps_239 : decode cX0_laysSteps 239 = .ok (.if_icmp .gt 6, 3) := dk_163 0 6 (dk_at dksX0_laysSteps_10 11 rfl rfl)
theorem dX0_laysSteps_242 : decode cX0_laysSteps 242 = .ok (.goto 35, 3) := dk_167 0 35 (dk_at dksX0_laysSteps_10 14 rfl rfl)
theorem dX0_laysSteps_245 : decode cX0_laysSteps 245 = .ok (.aload_n 0, 1) := dk_42 (dk_at dksX0_laysSteps_10 17 rfl rfl)
theorem dX0_laysSteps_246 : decode cX0_laysSteps 246 = .ok (.getfield 38, 3) := dk_180 0 38 (dk_at dksX0_laysSteps_10 18 rfl rfl)
theorem dX0_laysSteps_249 : decode cX0_laysSteps 249 = .ok (.iload 4, 2) := dk_21 4 (dk_at dksX0_laysSteps_10 21 rfl rfl)
theorem dX0_laysSteps_251 : decode cX0_laysSteps 251 = .ok (.iconst 4, 1) := dk_7 (dk_at dksX0_laysSteps_10 23 rfl rfl)
theorem dX0_laysSteps_252 : decode cX0_laysSteps 252 = .ok (.iload 7, 2) := dk_21 7 (dk_at dksX0_laysSteps_11 0 rfl rfl)
theorem dX0_laysSteps_254 : decode cX0_laysSteps 254 = .ok (.imul, 1) := dk_104 (dk_at dksX0_laysSteps_11 2 rfl rfl)
theorem dX0_laysSteps_255 : decode cX0_laysSteps 255 = .ok (.iadd, 1) := dk_96 (dk_at dksX0_laysSteps_11 3 rfl rfl)
theorem dX0_laysSteps_256 : decode cX0_laysSteps 256 = .ok (.iload 6, 2) := dk_21 6 (dk_at dksX0_laysSteps_11 4 rfl rfl)
theorem dX0_laysSteps_258 : decode cX0_laysSteps 258 = .ok (.iconst 4, 1) := dk_7 (dk_at dksX0_laysSteps_11 6 rfl rfl)
theorem dX0_laysSteps_259 : decode cX0_laysSteps 259 = .ok (.irem, 1) := dk_112 (dk_at dksX0_laysSteps_11 7 rfl rfl)
theorem dX0_laysSteps_260 : decode cX0_laysSteps 260 = .ok (.iadd, 1) := dk_96 (dk_at dksX0_laysSteps_11 8 rfl rfl)
theorem dX0_laysSteps_261 : decode cX0_laysSteps 261 = .ok (.aload_n 0, 1) := dk_42 (dk_at dksX0_laysSteps_11 9 rfl rfl)
theorem dX0_laysSteps_262 : decode cX0_laysSteps 262 = .ok (.getfield 38, 3) := dk_180 0 38 (dk_at dksX0_laysSteps_11 10 rfl rfl)
theorem dX0_laysSteps_265 : decode cX0_laysSteps 265 = .ok (.iload 4, 2) := dk_21 4 (dk_at dksX0_laysSteps_11 13 rfl rfl)
theorem dX0_laysSteps_267 : decode cX0_laysSteps 267 = .ok (.iload 6, 2) := dk_21 6 (dk_at dksX0_laysSteps_11 15 rfl rfl)
theorem dX0_laysSteps_269 : decode cX0_laysSteps 269 = .ok (.iadd, 1) := dk_96 (dk_at dksX0_laysSteps_11 17 rfl rfl)
theorem dX0_laysSteps_270 : decode cX0_laysSteps 270 = .ok (.iaload, 1) := dk_46 (dk_at dksX0_laysSteps_11 18 rfl rfl)
theorem dX0_laysSteps_271 : decode cX0_laysSteps 271 = .ok (.iconst 1, 1) := dk_4 (dk_at dksX0_laysSteps_11 19 rfl rfl)
theorem dX0_laysSteps_272 : decode cX0_laysSteps 272 = .ok (.iadd, 1) := dk_96 (dk_at dksX0_laysSteps_11 20 rfl rfl)
theorem dX0_laysSteps_273 : decode cX0_laysSteps 273 = .ok (.iastore, 1) := dk_79 (dk_at dksX0_laysSteps_11 21 rfl rfl)
theorem dX0_laysSteps_274 : decode cX0_laysSteps 274 = .ok (.iconst 1, 1) := dk_4 (dk_at dksX0_laysSteps_11 22 rfl rfl)
theorem dX0_laysSteps_275 : decode cX0_laysSteps 275 = .ok (.istore 5, 2) := dk_54 5 (dk_at dksX0_laysSteps_12 0 rfl rfl)
theorem dX0_laysSteps_277 : decode cX0_laysSteps 277 = .ok (.iinc 6 1, 3) := dk_132 6 1 (dk_at dksX0_laysSteps_12 2 rfl rfl)
theorem dX0_laysSteps_280 : decode cX0_laysSteps 280 = .ok (.goto (-126), 3) := dk_167 255 130 (dk_at dksX0_laysSteps_12 5 rfl rfl)
theorem dX0_laysSteps_283 : decode cX0_laysSteps 283 = .ok (.goto (-140), 3) := dk_167 255 116 (dk_at dksX0_laysSteps_12 8 rfl rfl)
theorem dX0_laysSteps_286 : decode cX0_laysSteps 286 = .ok (.iinc 3 1, 3) := dk_132 3 1 (dk_at dksX0_laysSteps_12 11 rfl rfl)
theorem dX0_laysSteps_289 : decode cX0_laysSteps 289 = .ok (.goto (-261), 3) := dk_167 254 251 (dk_at dksX0_laysSteps_12 14 rfl rfl)
theorem dX0_laysSteps_292 : decode cX0_laysSteps 292 = .ok (.return_, 1) := dk_177 (dk_at dksX0_laysSteps_12 17 rfl rfl)
abbrev cX0_with : ByteArray := prog_1_method_38_code
def yX0_with : MethodName := ⟨RX0, "with", "(IIII)I"⟩
def dkwX0_with_6 : List UInt8 := [46, 96, 19, 1, 80, 112, 54, 5, 132, 7, 1, 167, 255, 218, 132, 6, 1, 167, 255, 203, 21, 5, 172]
abbrev dktX0_with_6 : List UInt8 := dkwX0_with_6 ++ []
def dkwX0_with_5 : List UInt8 := [162, 0, 38, 21, 5, 42, 180, 0, 47, 21, 6, 50, 21, 4, 16, 10, 112, 50, 7, 29, 104, 21, 7, 96]
abbrev dktX0_with_5 : List UInt8 := dkwX0_with_5 ++ dktX0_with_6
def dkwX0_with_4 : List UInt8 := [132, 5, 1, 167, 255, 228, 3, 54, 5, 3, 54, 6, 21, 6, 6, 162, 0, 53, 3, 54, 7, 21, 7, 7]
abbrev dktX0_with_4 : List UInt8 := dkwX0_with_4 ++ dktX0_with_5
def dkwX0_with_3 : List UInt8 := [21, 4, 16, 10, 108, 21, 4, 16, 10, 112, 96, 162, 0, 18, 42, 21, 4, 16, 10, 112, 182, 1, 81]
abbrev dktX0_with_3 : List UInt8 := dkwX0_with_3 ++ dktX0_with_4
def dkwX0_with_2 : List UInt8 := [182, 1, 76, 42, 180, 0, 47, 3, 50, 3, 50, 7, 27, 104, 28, 96, 4, 79, 3, 54, 5, 21, 5]
abbrev dktX0_with_2 : List UInt8 := dkwX0_with_2 ++ dktX0_with_3
def dkwX0_with_1 : List UInt8 := [184, 0, 110, 153, 0, 13, 21, 4, 16, 10, 112, 16, 6, 164, 0, 5, 2, 172, 42, 42, 180, 0, 47]
abbrev dktX0_with_1 : List UInt8 := dkwX0_with_1 ++ dktX0_with_2
def dkwX0_with_0 : List UInt8 := [42, 27, 28, 29, 182, 1, 66, 153, 0, 32, 21, 4, 155, 0, 27, 21, 4, 16, 10, 108, 3, 16, 20]
abbrev dktX0_with_0 : List UInt8 := dkwX0_with_0 ++ dktX0_with_1
theorem dksX0_with_0 : cX0_with.data.toList.drop 0 = dktX0_with_0 := by decide +kernel
theorem dksX0_with_1 : cX0_with.data.toList.drop 23 = dktX0_with_1 := dk_seg dksX0_with_0 23 rfl rfl
theorem dksX0_with_2 : cX0_with.data.toList.drop 46 = dktX0_with_2 := dk_seg dksX0_with_1 23 rfl rfl
theorem dksX0_with_3 : cX0_with.data.toList.drop 69 = dktX0_with_3 := dk_seg dksX0_with_2 23 rfl rfl
theorem dksX0_with_4 : cX0_with.data.toList.drop 92 = dktX0_with_4 := dk_seg dksX0_with_3 23 rfl rfl
theorem dksX0_with_5 : cX0_with.data.toList.drop 116 = dktX0_with_5 := dk_seg dksX0_with_4 24 rfl rfl
theorem dksX0_with_6 : cX0_with.data.toList.drop 140 = dktX0_with_6 := dk_seg dksX0_with_5 24 rfl rfl
theorem dX0_with_0 : decode cX0_with 0 = .ok (.aload_n 0, 1) := dk_42 (dk_at dksX0_with_0 0 rfl rfl)
theorem dX0_with_1 : decode cX0_with 1 = .ok (.iload_n 1, 1) := dk_27 (dk_at dksX0_with_0 1 rfl rfl)
theorem dX0_with_2 : decode cX0_with 2 = .ok (.iload_n 2, 1) := dk_28 (dk_at dksX0_with_0 2 rfl rfl)
theorem dX0_with_3 : decode cX0_with 3 = .ok (.iload_n 3, 1) := dk_29 (dk_at dksX0_with_0 3 rfl rfl)
theorem dX0_with_4 : decode cX0_with 4 = .ok (.invokevirtual 322, 3) := dk_182 1 66 (dk_at dksX0_with_0 4 rfl rfl)
theorem dX0_with_7 : decode cX0_with 7 = .ok (.ifCond .eq 32, 3) := dk_153 0 32 (dk_at dksX0_with_0 7 rfl rfl)
theorem dX0_with_10 : decode cX0_with 10 = .ok (.iload 4, 2) := dk_21 4 (dk_at dksX0_with_0 10 rfl rfl)
theorem dX0_with_12 : decode cX0_with 12 = .ok (.ifCond .lt 27, 3) := dk_155 0 27 (dk_at dksX0_with_0 12 rfl rfl)
theorem dX0_with_15 : decode cX0_with 15 = .ok (.iload 4, 2) := dk_21 4 (dk_at dksX0_with_0 15 rfl rfl)
theorem dX0_with_17 : decode cX0_with 17 = .ok (.bipush 10, 2) := dk_16 10 (dk_at dksX0_with_0 17 rfl rfl)
theorem dX0_with_19 : decode cX0_with 19 = .ok (.idiv, 1) := dk_108 (dk_at dksX0_with_0 19 rfl rfl)
theorem dX0_with_20 : decode cX0_with 20 = .ok (.iconst 0, 1) := dk_3 (dk_at dksX0_with_0 20 rfl rfl)
theorem dX0_with_21 : decode cX0_with 21 = .ok (.bipush 20, 2) := dk_16 20 (dk_at dksX0_with_0 21 rfl rfl)
theorem dX0_with_23 : decode cX0_with 23 = .ok (.invokestatic 110, 3) := dk_184 0 110 (dk_at dksX0_with_1 0 rfl rfl)
theorem dX0_with_26 : decode cX0_with 26 = .ok (.ifCond .eq 13, 3) := dk_153 0 13 (dk_at dksX0_with_1 3 rfl rfl)
theorem dX0_with_29 : decode cX0_with 29 = .ok (.iload 4, 2) := dk_21 4 (dk_at dksX0_with_1 6 rfl rfl)
theorem dX0_with_31 : decode cX0_with 31 = .ok (.bipush 10, 2) := dk_16 10 (dk_at dksX0_with_1 8 rfl rfl)
theorem dX0_with_33 : decode cX0_with 33 = .ok (.irem, 1) := dk_112 (dk_at dksX0_with_1 10 rfl rfl)
theorem dX0_with_34 : decode cX0_with 34 = .ok (.bipush 6, 2) := dk_16 6 (dk_at dksX0_with_1 11 rfl rfl)
theorem dX0_with_36 : decode cX0_with 36 = .ok (.if_icmp .le 5, 3) := dk_164 0 5 (dk_at dksX0_with_1 13 rfl rfl)
theorem dX0_with_39 : decode cX0_with 39 = .ok (.iconst (-1), 1) := dk_2 (dk_at dksX0_with_1 16 rfl rfl)
theorem dX0_with_40 : decode cX0_with 40 = .ok (.ireturn, 1) := dk_172 (dk_at dksX0_with_1 17 rfl rfl)
theorem dX0_with_41 : decode cX0_with 41 = .ok (.aload_n 0, 1) := dk_42 (dk_at dksX0_with_1 18 rfl rfl)
theorem dX0_with_42 : decode cX0_with 42 = .ok (.aload_n 0, 1) := dk_42 (dk_at dksX0_with_1 19 rfl rfl)
theorem dX0_with_43 : decode cX0_with 43 = .ok (.getfield 47, 3) := dk_180 0 47 (dk_at dksX0_with_1 20 rfl rfl)
theorem dX0_with_46 : decode cX0_with 46 = .ok (.invokevirtual 332, 3) := dk_182 1 76 (dk_at dksX0_with_2 0 rfl rfl)
theorem dX0_with_49 : decode cX0_with 49 = .ok (.aload_n 0, 1) := dk_42 (dk_at dksX0_with_2 3 rfl rfl)
theorem dX0_with_50 : decode cX0_with 50 = .ok (.getfield 47, 3) := dk_180 0 47 (dk_at dksX0_with_2 4 rfl rfl)
theorem dX0_with_53 : decode cX0_with 53 = .ok (.iconst 0, 1) := dk_3 (dk_at dksX0_with_2 7 rfl rfl)
theorem dX0_with_54 : decode cX0_with 54 = .ok (.aaload, 1) := dk_50 (dk_at dksX0_with_2 8 rfl rfl)
theorem dX0_with_55 : decode cX0_with 55 = .ok (.iconst 0, 1) := dk_3 (dk_at dksX0_with_2 9 rfl rfl)
theorem dX0_with_56 : decode cX0_with 56 = .ok (.aaload, 1) := dk_50 (dk_at dksX0_with_2 10 rfl rfl)
theorem dX0_with_57 : decode cX0_with 57 = .ok (.iconst 4, 1) := dk_7 (dk_at dksX0_with_2 11 rfl rfl)
theorem dX0_with_58 : decode cX0_with 58 = .ok (.iload_n 1, 1) := dk_27 (dk_at dksX0_with_2 12 rfl rfl)
theorem dX0_with_59 : decode cX0_with 59 = .ok (.imul, 1) := dk_104 (dk_at dksX0_with_2 13 rfl rfl)
theorem dX0_with_60 : decode cX0_with 60 = .ok (.iload_n 2, 1) := dk_28 (dk_at dksX0_with_2 14 rfl rfl)
theorem dX0_with_61 : decode cX0_with 61 = .ok (.iadd, 1) := dk_96 (dk_at dksX0_with_2 15 rfl rfl)
theorem dX0_with_62 : decode cX0_with 62 = .ok (.iconst 1, 1) := dk_4 (dk_at dksX0_with_2 16 rfl rfl)
theorem dX0_with_63 : decode cX0_with 63 = .ok (.iastore, 1) := dk_79 (dk_at dksX0_with_2 17 rfl rfl)
theorem dX0_with_64 : decode cX0_with 64 = .ok (.iconst 0, 1) := dk_3 (dk_at dksX0_with_2 18 rfl rfl)
theorem dX0_with_65 : decode cX0_with 65 = .ok (.istore 5, 2) := dk_54 5 (dk_at dksX0_with_2 19 rfl rfl)
theorem dX0_with_67 : decode cX0_with 67 = .ok (.iload 5, 2) := dk_21 5 (dk_at dksX0_with_2 21 rfl rfl)
theorem dX0_with_69 : decode cX0_with 69 = .ok (.iload 4, 2) := dk_21 4 (dk_at dksX0_with_3 0 rfl rfl)
theorem dX0_with_71 : decode cX0_with 71 = .ok (.bipush 10, 2) := dk_16 10 (dk_at dksX0_with_3 2 rfl rfl)
theorem dX0_with_73 : decode cX0_with 73 = .ok (.idiv, 1) := dk_108 (dk_at dksX0_with_3 4 rfl rfl)
theorem dX0_with_74 : decode cX0_with 74 = .ok (.iload 4, 2) := dk_21 4 (dk_at dksX0_with_3 5 rfl rfl)
theorem dX0_with_76 : decode cX0_with 76 = .ok (.bipush 10, 2) := dk_16 10 (dk_at dksX0_with_3 7 rfl rfl)
theorem dX0_with_78 : decode cX0_with 78 = .ok (.irem, 1) := dk_112 (dk_at dksX0_with_3 9 rfl rfl)
theorem dX0_with_79 : decode cX0_with 79 = .ok (.iadd, 1) := dk_96 (dk_at dksX0_with_3 10 rfl rfl)
theorem dX0_with_80 : decode cX0_with 80 = .ok (.if_icmp .ge 18, 3) := dk_162 0 18 (dk_at dksX0_with_3 11 rfl rfl)
theorem dX0_with_83 : decode cX0_with 83 = .ok (.aload_n 0, 1) := dk_42 (dk_at dksX0_with_3 14 rfl rfl)
theorem dX0_with_84 : decode cX0_with 84 = .ok (.iload 4, 2) := dk_21 4 (dk_at dksX0_with_3 15 rfl rfl)
theorem dX0_with_86 : decode cX0_with 86 = .ok (.bipush 10, 2) := dk_16 10 (dk_at dksX0_with_3 17 rfl rfl)
theorem dX0_with_88 : decode cX0_with 88 = .ok (.irem, 1) := dk_112 (dk_at dksX0_with_3 19 rfl rfl)
theorem dX0_with_89 : decode cX0_with 89 = .ok (.invokevirtual 337, 3) := dk_182 1 81 (dk_at dksX0_with_3 20 rfl rfl)
theorem dX0_with_92 : decode cX0_with 92 = .ok (.iinc 5 1, 3) := dk_132 5 1 (dk_at dksX0_with_4 0 rfl rfl)
theorem dX0_with_95 : decode cX0_with 95 = .ok (.goto (-28), 3) := dk_167 255 228 (dk_at dksX0_with_4 3 rfl rfl)
theorem dX0_with_98 : decode cX0_with 98 = .ok (.iconst 0, 1) := dk_3 (dk_at dksX0_with_4 6 rfl rfl)
theorem dX0_with_99 : decode cX0_with 99 = .ok (.istore 5, 2) := dk_54 5 (dk_at dksX0_with_4 7 rfl rfl)
theorem dX0_with_101 : decode cX0_with 101 = .ok (.iconst 0, 1) := dk_3 (dk_at dksX0_with_4 9 rfl rfl)
theorem dX0_with_102 : decode cX0_with 102 = .ok (.istore 6, 2) := dk_54 6 (dk_at dksX0_with_4 10 rfl rfl)
theorem dX0_with_104 : decode cX0_with 104 = .ok (.iload 6, 2) := dk_21 6 (dk_at dksX0_with_4 12 rfl rfl)
theorem dX0_with_106 : decode cX0_with 106 = .ok (.iconst 3, 1) := dk_6 (dk_at dksX0_with_4 14 rfl rfl)
theorem dX0_with_107 : decode cX0_with 107 = .ok (.if_icmp .ge 53, 3) := dk_162 0 53 (dk_at dksX0_with_4 15 rfl rfl)
theorem dX0_with_110 : decode cX0_with 110 = .ok (.iconst 0, 1) := dk_3 (dk_at dksX0_with_4 18 rfl rfl)
theorem dX0_with_111 : decode cX0_with 111 = .ok (.istore 7, 2) := dk_54 7 (dk_at dksX0_with_4 19 rfl rfl)
theorem dX0_with_113 : decode cX0_with 113 = .ok (.iload 7, 2) := dk_21 7 (dk_at dksX0_with_4 21 rfl rfl)
theorem dX0_with_115 : decode cX0_with 115 = .ok (.iconst 4, 1) := dk_7 (dk_at dksX0_with_4 23 rfl rfl)
theorem dX0_with_116 : decode cX0_with 116 = .ok (.if_icmp .ge 38, 3) := dk_162 0 38 (dk_at dksX0_with_5 0 rfl rfl)
theorem dX0_with_119 : decode cX0_with 119 = .ok (.iload 5, 2) := dk_21 5 (dk_at dksX0_with_5 3 rfl rfl)
theorem dX0_with_121 : decode cX0_with 121 = .ok (.aload_n 0, 1) := dk_42 (dk_at dksX0_with_5 5 rfl rfl)
theorem dX0_with_122 : decode cX0_with 122 = .ok (.getfield 47, 3) := dk_180 0 47 (dk_at dksX0_with_5 6 rfl rfl)
theorem dX0_with_125 : decode cX0_with 125 = .ok (.iload 6, 2) := dk_21 6 (dk_at dksX0_with_5 9 rfl rfl)
theorem dX0_with_127 : decode cX0_with 127 = .ok (.aaload, 1) := dk_50 (dk_at dksX0_with_5 11 rfl rfl)
theorem dX0_with_128 : decode cX0_with 128 = .ok (.iload 4, 2) := dk_21 4 (dk_at dksX0_with_5 12 rfl rfl)
theorem dX0_with_130 : decode cX0_with 130 = .ok (.bipush 10, 2) := dk_16 10 (dk_at dksX0_with_5 14 rfl rfl)
theorem dX0_with_132 : decode cX0_with 132 = .ok (.irem, 1) := dk_112 (dk_at dksX0_with_5 16 rfl rfl)
theorem dX0_with_133 : decode cX0_with 133 = .ok (.aaload, 1) := dk_50 (dk_at dksX0_with_5 17 rfl rfl)
theorem dX0_with_134 : decode cX0_with 134 = .ok (.iconst 4, 1) := dk_7 (dk_at dksX0_with_5 18 rfl rfl)
theorem dX0_with_135 : decode cX0_with 135 = .ok (.iload_n 3, 1) := dk_29 (dk_at dksX0_with_5 19 rfl rfl)
theorem dX0_with_136 : decode cX0_with 136 = .ok (.imul, 1) := dk_104 (dk_at dksX0_with_5 20 rfl rfl)
theorem dX0_with_137 : decode cX0_with 137 = .ok (.iload 7, 2) := dk_21 7 (dk_at dksX0_with_5 21 rfl rfl)
theorem dX0_with_139 : decode cX0_with 139 = .ok (.iadd, 1) := dk_96 (dk_at dksX0_with_5 23 rfl rfl)
theorem dX0_with_140 : decode cX0_with 140 = .ok (.iaload, 1) := dk_46 (dk_at dksX0_with_6 0 rfl rfl)
theorem dX0_with_141 : decode cX0_with 141 = .ok (.iadd, 1) := dk_96 (dk_at dksX0_with_6 1 rfl rfl)
theorem dX0_with_142 : decode cX0_with 142 = .ok (.ldc_w 336, 3) := dk_19 1 80 (dk_at dksX0_with_6 2 rfl rfl)
theorem dX0_with_145 : decode cX0_with 145 = .ok (.irem, 1) := dk_112 (dk_at dksX0_with_6 5 rfl rfl)
theorem dX0_with_146 : decode cX0_with 146 = .ok (.istore 5, 2) := dk_54 5 (dk_at dksX0_with_6 6 rfl rfl)
theorem dX0_with_148 : decode cX0_with 148 = .ok (.iinc 7 1, 3) := dk_132 7 1 (dk_at dksX0_with_6 8 rfl rfl)
theorem dX0_with_151 : decode cX0_with 151 = .ok (.goto (-38), 3) := dk_167 255 218 (dk_at dksX0_with_6 11 rfl rfl)
theorem dX0_with_154 : decode cX0_with 154 = .ok (.iinc 6 1, 3) := dk_132 6 1 (dk_at dksX0_with_6 14 rfl rfl)
theorem dX0_with_157 : decode cX0_with 157 = .ok (.goto (-53), 3) := dk_167 255 203 (dk_at dksX0_with_6 17 rfl rfl)
theorem dX0_with_160 : decode cX0_with 160 = .ok (.iload 5, 2) := dk_21 5 (dk_at dksX0_with_6 20 rfl rfl)
theorem dX0_with_162 : decode cX0_with 162 = .ok (.ireturn, 1) := dk_172 (dk_at dksX0_with_6 22 rfl rfl)
abbrev cX0_clears : ByteArray := prog_1_method_36_code
def yX0_clears : MethodName := ⟨RX0, "clears", "([[[I)V"⟩
def dkwX0_clears_3 : List UInt8 := [132, 8, 1, 167, 255, 216, 132, 4, 1, 167, 255, 186, 177]
abbrev dktX0_clears_3 : List UInt8 := dkwX0_clears_3 ++ []
def dkwX0_clears_2 : List UInt8 := [54, 10, 21, 10, 25, 9, 190, 162, 0, 15, 25, 9, 21, 10, 3, 79, 132, 10, 1, 167, 255, 239]
abbrev dktX0_clears_2 : List UInt8 := dkwX0_clears_2 ++ dktX0_clears_3
def dkwX0_clears_1 : List UInt8 := [25, 6, 190, 54, 7, 3, 54, 8, 21, 8, 21, 7, 162, 0, 39, 25, 6, 21, 8, 50, 58, 9, 3]
abbrev dktX0_clears_1 : List UInt8 := dkwX0_clears_1 ++ dktX0_clears_2
def dkwX0_clears_0 : List UInt8 := [43, 77, 44, 190, 62, 3, 54, 4, 21, 4, 29, 162, 0, 70, 44, 21, 4, 50, 58, 5, 25, 5, 58, 6]
abbrev dktX0_clears_0 : List UInt8 := dkwX0_clears_0 ++ dktX0_clears_1
theorem dksX0_clears_0 : cX0_clears.data.toList.drop 0 = dktX0_clears_0 := by decide +kernel
theorem dksX0_clears_1 : cX0_clears.data.toList.drop 24 = dktX0_clears_1 := dk_seg dksX0_clears_0 24 rfl rfl
theorem dksX0_clears_2 : cX0_clears.data.toList.drop 47 = dktX0_clears_2 := dk_seg dksX0_clears_1 23 rfl rfl
theorem dksX0_clears_3 : cX0_clears.data.toList.drop 69 = dktX0_clears_3 := dk_seg dksX0_clears_2 22 rfl rfl
theorem dX0_clears_0 : decode cX0_clears 0 = .ok (.aload_n 1, 1) := dk_43 (dk_at dksX0_clears_0 0 rfl rfl)
theorem dX0_clears_1 : decode cX0_clears 1 = .ok (.astore_n 2, 1) := dk_77 (dk_at dksX0_clears_0 1 rfl rfl)
theorem dX0_clears_2 : decode cX0_clears 2 = .ok (.aload_n 2, 1) := dk_44 (dk_at dksX0_clears_0 2 rfl rfl)
theorem dX0_clears_3 : decode cX0_clears 3 = .ok (.arraylength, 1) := dk_190 (dk_at dksX0_clears_0 3 rfl rfl)
theorem dX0_clears_4 : decode cX0_clears 4 = .ok (.istore_n 3, 1) := dk_62 (dk_at dksX0_clears_0 4 rfl rfl)
theorem dX0_clears_5 : decode cX0_clears 5 = .ok (.iconst 0, 1) := dk_3 (dk_at dksX0_clears_0 5 rfl rfl)
theorem dX0_clears_6 : decode cX0_clears 6 = .ok (.istore 4, 2) := dk_54 4 (dk_at dksX0_clears_0 6 rfl rfl)
theorem dX0_clears_8 : decode cX0_clears 8 = .ok (.iload 4, 2) := dk_21 4 (dk_at dksX0_clears_0 8 rfl rfl)
theorem dX0_clears_10 : decode cX0_clears 10 = .ok (.iload_n 3, 1) := dk_29 (dk_at dksX0_clears_0 10 rfl rfl)
theorem dX0_clears_11 : decode cX0_clears 11 = .ok (.if_icmp .ge 70, 3) := dk_162 0 70 (dk_at dksX0_clears_0 11 rfl rfl)
theorem dX0_clears_14 : decode cX0_clears 14 = .ok (.aload_n 2, 1) := dk_44 (dk_at dksX0_clears_0 14 rfl rfl)
theorem dX0_clears_15 : decode cX0_clears 15 = .ok (.iload 4, 2) := dk_21 4 (dk_at dksX0_clears_0 15 rfl rfl)
theorem dX0_clears_17 : decode cX0_clears 17 = .ok (.aaload, 1) := dk_50 (dk_at dksX0_clears_0 17 rfl rfl)
theorem dX0_clears_18 : decode cX0_clears 18 = .ok (.astore 5, 2) := dk_58 5 (dk_at dksX0_clears_0 18 rfl rfl)
theorem dX0_clears_20 : decode cX0_clears 20 = .ok (.aload 5, 2) := dk_25 5 (dk_at dksX0_clears_0 20 rfl rfl)
theorem dX0_clears_22 : decode cX0_clears 22 = .ok (.astore 6, 2) := dk_58 6 (dk_at dksX0_clears_0 22 rfl rfl)
theorem dX0_clears_24 : decode cX0_clears 24 = .ok (.aload 6, 2) := dk_25 6 (dk_at dksX0_clears_1 0 rfl rfl)
theorem dX0_clears_26 : decode cX0_clears 26 = .ok (.arraylength, 1) := dk_190 (dk_at dksX0_clears_1 2 rfl rfl)
theorem dX0_clears_27 : decode cX0_clears 27 = .ok (.istore 7, 2) := dk_54 7 (dk_at dksX0_clears_1 3 rfl rfl)
theorem dX0_clears_29 : decode cX0_clears 29 = .ok (.iconst 0, 1) := dk_3 (dk_at dksX0_clears_1 5 rfl rfl)
theorem dX0_clears_30 : decode cX0_clears 30 = .ok (.istore 8, 2) := dk_54 8 (dk_at dksX0_clears_1 6 rfl rfl)
theorem dX0_clears_32 : decode cX0_clears 32 = .ok (.iload 8, 2) := dk_21 8 (dk_at dksX0_clears_1 8 rfl rfl)
theorem dX0_clears_34 : decode cX0_clears 34 = .ok (.iload 7, 2) := dk_21 7 (dk_at dksX0_clears_1 10 rfl rfl)
theorem dX0_clears_36 : decode cX0_clears 36 = .ok (.if_icmp .ge 39, 3) := dk_162 0 39 (dk_at dksX0_clears_1 12 rfl rfl)
theorem dX0_clears_39 : decode cX0_clears 39 = .ok (.aload 6, 2) := dk_25 6 (dk_at dksX0_clears_1 15 rfl rfl)
theorem dX0_clears_41 : decode cX0_clears 41 = .ok (.iload 8, 2) := dk_21 8 (dk_at dksX0_clears_1 17 rfl rfl)
theorem dX0_clears_43 : decode cX0_clears 43 = .ok (.aaload, 1) := dk_50 (dk_at dksX0_clears_1 19 rfl rfl)
theorem dX0_clears_44 : decode cX0_clears 44 = .ok (.astore 9, 2) := dk_58 9 (dk_at dksX0_clears_1 20 rfl rfl)
theorem dX0_clears_46 : decode cX0_clears 46 = .ok (.iconst 0, 1) := dk_3 (dk_at dksX0_clears_1 22 rfl rfl)
theorem dX0_clears_47 : decode cX0_clears 47 = .ok (.istore 10, 2) := dk_54 10 (dk_at dksX0_clears_2 0 rfl rfl)
theorem dX0_clears_49 : decode cX0_clears 49 = .ok (.iload 10, 2) := dk_21 10 (dk_at dksX0_clears_2 2 rfl rfl)
theorem dX0_clears_51 : decode cX0_clears 51 = .ok (.aload 9, 2) := dk_25 9 (dk_at dksX0_clears_2 4 rfl rfl)
theorem dX0_clears_53 : decode cX0_clears 53 = .ok (.arraylength, 1) := dk_190 (dk_at dksX0_clears_2 6 rfl rfl)
theorem dX0_clears_54 : decode cX0_clears 54 = .ok (.if_icmp .ge 15, 3) := dk_162 0 15 (dk_at dksX0_clears_2 7 rfl rfl)
theorem dX0_clears_57 : decode cX0_clears 57 = .ok (.aload 9, 2) := dk_25 9 (dk_at dksX0_clears_2 10 rfl rfl)
theorem dX0_clears_59 : decode cX0_clears 59 = .ok (.iload 10, 2) := dk_21 10 (dk_at dksX0_clears_2 12 rfl rfl)
theorem dX0_clears_61 : decode cX0_clears 61 = .ok (.iconst 0, 1) := dk_3 (dk_at dksX0_clears_2 14 rfl rfl)
theorem dX0_clears_62 : decode cX0_clears 62 = .ok (.iastore, 1) := dk_79 (dk_at dksX0_clears_2 15 rfl rfl)
theorem dX0_clears_63 : decode cX0_clears 63 = .ok (.iinc 10 1, 3) := dk_132 10 1 (dk_at dksX0_clears_2 16 rfl rfl)
theorem dX0_clears_66 : decode cX0_clears 66 = .ok (.goto (-17), 3) := dk_167 255 239 (dk_at dksX0_clears_2 19 rfl rfl)
theorem dX0_clears_69 : decode cX0_clears 69 = .ok (.iinc 8 1, 3) := dk_132 8 1 (dk_at dksX0_clears_3 0 rfl rfl)
theorem dX0_clears_72 : decode cX0_clears 72 = .ok (.goto (-40), 3) := dk_167 255 216 (dk_at dksX0_clears_3 3 rfl rfl)
theorem dX0_clears_75 : decode cX0_clears 75 = .ok (.iinc 4 1, 3) := dk_132 4 1 (dk_at dksX0_clears_3 6 rfl rfl)
theorem dX0_clears_78 : decode cX0_clears 78 = .ok (.goto (-70), 3) := dk_167 255 186 (dk_at dksX0_clears_3 9 rfl rfl)
theorem dX0_clears_81 : decode cX0_clears 81 = .ok (.return_, 1) := dk_177 (dk_at dksX0_clears_3 12 rfl rfl)
abbrev cX0_oneMore : ByteArray := prog_1_method_37_code
def yX0_oneMore : MethodName := ⟨RX0, "oneMore", "(I)V"⟩
def dkwX0_oneMore_12 : List UInt8 := [181, 0, 47, 42, 44, 181, 0, 50, 177]
abbrev dktX0_oneMore_12 : List UInt8 := dkwX0_oneMore_12 ++ []
def dkwX0_oneMore_11 : List UInt8 := [132, 3, 1, 167, 255, 9, 132, 2, 1, 167, 254, 252, 42, 180, 0, 47, 77, 42, 42, 180, 0, 50]
abbrev dktX0_oneMore_11 : List UInt8 := dkwX0_oneMore_11 ++ dktX0_oneMore_12
def dkwX0_oneMore_10 : List UInt8 := [7, 104, 21, 4, 6, 96, 7, 112, 96, 46, 21, 5, 96, 19, 1, 80, 112, 79, 132, 4, 1, 167, 255, 23]
abbrev dktX0_oneMore_10 : List UInt8 := dkwX0_oneMore_10 ++ dktX0_oneMore_11
def dkwX0_oneMore_9 : List UInt8 := [108, 7, 104, 21, 4, 6, 96, 7, 112, 96, 42, 180, 0, 50, 5, 50, 29, 4, 96, 50, 21, 4, 7, 108]
abbrev dktX0_oneMore_9 : List UInt8 := dkwX0_oneMore_9 ++ dktX0_oneMore_10
def dkwX0_oneMore_8 : List UInt8 := [79, 29, 27, 162, 0, 63, 28, 4, 159, 0, 58, 42, 180, 0, 50, 5, 50, 29, 4, 96, 50, 21, 4, 7]
abbrev dktX0_oneMore_8 : List UInt8 := dkwX0_oneMore_8 ++ dktX0_oneMore_9
def dkwX0_oneMore_7 : List UInt8 := [4, 96, 50, 21, 4, 7, 108, 7, 104, 21, 4, 4, 96, 7, 112, 96, 46, 21, 5, 96, 19, 1, 80, 112]
abbrev dktX0_oneMore_7 : List UInt8 := dkwX0_oneMore_7 ++ dktX0_oneMore_8
def dkwX0_oneMore_6 : List UInt8 := [29, 4, 96, 50, 21, 4, 7, 108, 7, 104, 21, 4, 4, 96, 7, 112, 96, 42, 180, 0, 50, 4, 50, 29]
abbrev dktX0_oneMore_6 : List UInt8 := dkwX0_oneMore_6 ++ dktX0_oneMore_7
def dkwX0_oneMore_5 : List UInt8 := [21, 5, 96, 19, 1, 80, 112, 79, 29, 27, 162, 0, 63, 28, 5, 159, 0, 58, 42, 180, 0, 50, 4, 50]
abbrev dktX0_oneMore_5 : List UInt8 := dkwX0_oneMore_5 ++ dktX0_oneMore_6
def dkwX0_oneMore_4 : List UInt8 := [21, 4, 7, 112, 96, 42, 180, 0, 50, 3, 50, 29, 50, 7, 21, 6, 104, 21, 4, 7, 112, 96, 46]
abbrev dktX0_oneMore_4 : List UInt8 := dkwX0_oneMore_4 ++ dktX0_oneMore_5
def dkwX0_oneMore_3 : List UInt8 := [159, 0, 55, 42, 21, 6, 182, 1, 60, 153, 0, 46, 42, 180, 0, 50, 3, 50, 29, 50, 7, 21, 6, 104]
abbrev dktX0_oneMore_3 : List UInt8 := dkwX0_oneMore_3 ++ dktX0_oneMore_4
def dkwX0_oneMore_2 : List UInt8 := [21, 5, 154, 0, 6, 167, 0, 204, 21, 4, 7, 108, 21, 4, 7, 112, 184, 1, 57, 54, 6, 21, 6, 2]
abbrev dktX0_oneMore_2 : List UInt8 := dkwX0_oneMore_2 ++ dktX0_oneMore_3
def dkwX0_oneMore_1 : List UInt8 := [54, 4, 21, 4, 17, 2, 64, 162, 0, 231, 42, 180, 0, 47, 28, 50, 29, 50, 21, 4, 46, 54, 5]
abbrev dktX0_oneMore_1 : List UInt8 := dkwX0_oneMore_1 ++ dktX0_oneMore_2
def dkwX0_oneMore_0 : List UInt8 := [42, 42, 180, 0, 50, 182, 1, 76, 3, 61, 28, 6, 162, 1, 5, 3, 62, 29, 27, 163, 0, 248, 3]
abbrev dktX0_oneMore_0 : List UInt8 := dkwX0_oneMore_0 ++ dktX0_oneMore_1
theorem dksX0_oneMore_0 : cX0_oneMore.data.toList.drop 0 = dktX0_oneMore_0 := by decide +kernel
theorem dksX0_oneMore_1 : cX0_oneMore.data.toList.drop 23 = dktX0_oneMore_1 := dk_seg dksX0_oneMore_0 23 rfl rfl
theorem dksX0_oneMore_2 : cX0_oneMore.data.toList.drop 46 = dktX0_oneMore_2 := dk_seg dksX0_oneMore_1 23 rfl rfl
theorem dksX0_oneMore_3 : cX0_oneMore.data.toList.drop 70 = dktX0_oneMore_3 := dk_seg dksX0_oneMore_2 24 rfl rfl
theorem dksX0_oneMore_4 : cX0_oneMore.data.toList.drop 94 = dktX0_oneMore_4 := dk_seg dksX0_oneMore_3 24 rfl rfl
theorem dksX0_oneMore_5 : cX0_oneMore.data.toList.drop 117 = dktX0_oneMore_5 := dk_seg dksX0_oneMore_4 23 rfl rfl
theorem dksX0_oneMore_6 : cX0_oneMore.data.toList.drop 141 = dktX0_oneMore_6 := dk_seg dksX0_oneMore_5 24 rfl rfl
theorem dksX0_oneMore_7 : cX0_oneMore.data.toList.drop 165 = dktX0_oneMore_7 := dk_seg dksX0_oneMore_6 24 rfl rfl
theorem dksX0_oneMore_8 : cX0_oneMore.data.toList.drop 189 = dktX0_oneMore_8 := dk_seg dksX0_oneMore_7 24 rfl rfl
theorem dksX0_oneMore_9 : cX0_oneMore.data.toList.drop 213 = dktX0_oneMore_9 := dk_seg dksX0_oneMore_8 24 rfl rfl
theorem dksX0_oneMore_10 : cX0_oneMore.data.toList.drop 237 = dktX0_oneMore_10 := dk_seg dksX0_oneMore_9 24 rfl rfl
theorem dksX0_oneMore_11 : cX0_oneMore.data.toList.drop 261 = dktX0_oneMore_11 := dk_seg dksX0_oneMore_10 24 rfl rfl
theorem dksX0_oneMore_12 : cX0_oneMore.data.toList.drop 283 = dktX0_oneMore_12 := dk_seg dksX0_oneMore_11 22 rfl rfl
theorem dX0_oneMore_0 : decode cX0_oneMore 0 = .ok (.aload_n 0, 1) := dk_42 (dk_at dksX0_oneMore_0 0 rfl rfl)
theorem dX0_oneMore_1 : decode cX0_oneMore 1 = .ok (.aload_n 0, 1) := dk_42 (dk_at dksX0_oneMore_0 1 rfl rfl)
theorem dX0_oneMore_2 : decode cX0_oneMore 2 = .ok (.getfield 50, 3) := dk_180 0 50 (dk_at dksX0_oneMore_0 2 rfl rfl)
theorem dX0_oneMore_5 : decode cX0_oneMore 5 = .ok (.invokevirtual 332, 3) := dk_182 1 76 (dk_at dksX0_oneMore_0 5 rfl rfl)
theorem dX0_oneMore_8 : decode cX0_oneMore 8 = .ok (.iconst 0, 1) := dk_3 (dk_at dksX0_oneMore_0 8 rfl rfl)
theorem dX0_oneMore_9 : decode cX0_oneMore 9 = .ok (.istore_n 2, 1) := dk_61 (dk_at dksX0_oneMore_0 9 rfl rfl)
theorem dX0_oneMore_10 : decode cX0_oneMore 10 = .ok (.iload_n 2, 1) := dk_28 (dk_at dksX0_oneMore_0 10 rfl rfl)
theorem dX0_oneMore_11 : decode cX0_oneMore 11 = .ok (.iconst 3, 1) := dk_6 (dk_at dksX0_oneMore_0 11 rfl rfl)
theorem dX0_oneMore_12 : decode cX0_oneMore 12 = .ok (.if_icmp .ge 261, 3) := dk_162 1 5 (dk_at dksX0_oneMore_0 12 rfl rfl)
theorem dX0_oneMore_15 : decode cX0_oneMore 15 = .ok (.iconst 0, 1) := dk_3 (dk_at dksX0_oneMore_0 15 rfl rfl)
theorem dX0_oneMore_16 : decode cX0_oneMore 16 = .ok (.istore_n 3, 1) := dk_62 (dk_at dksX0_oneMore_0 16 rfl rfl)
theorem dX0_oneMore_17 : decode cX0_oneMore 17 = .ok (.iload_n 3, 1) := dk_29 (dk_at dksX0_oneMore_0 17 rfl rfl)
theorem dX0_oneMore_18 : decode cX0_oneMore 18 = .ok (.iload_n 1, 1) := dk_27 (dk_at dksX0_oneMore_0 18 rfl rfl)
theorem dX0_oneMore_19 : decode cX0_oneMore 19 = .ok (.if_icmp .gt 248, 3) := dk_163 0 248 (dk_at dksX0_oneMore_0 19 rfl rfl)
theorem dX0_oneMore_22 : decode cX0_oneMore 22 = .ok (.iconst 0, 1) := dk_3 (dk_at dksX0_oneMore_0 22 rfl rfl)
theorem dX0_oneMore_23 : decode cX0_oneMore 23 = .ok (.istore 4, 2) := dk_54 4 (dk_at dksX0_oneMore_1 0 rfl rfl)
theorem dX0_oneMore_25 : decode cX0_oneMore 25 = .ok (.iload 4, 2) := dk_21 4 (dk_at dksX0_oneMore_1 2 rfl rfl)
theorem dX0_oneMore_27 : decode cX0_oneMore 27 = .ok (.sipush 576, 3) := dk_17 2 64 (dk_at dksX0_oneMore_1 4 rfl rfl)
theorem dX0_oneMore_30 : decode cX0_oneMore 30 = .ok (.if_icmp .ge 231, 3) := dk_162 0 231 (dk_at dksX0_oneMore_1 7 rfl rfl)
theorem dX0_oneMore_33 : decode cX0_oneMore 33 = .ok (.aload_n 0, 1) := dk_42 (dk_at dksX0_oneMore_1 10 rfl rfl)
theorem dX0_oneMore_34 : decode cX0_oneMore 34 = .ok (.getfield 47, 3) := dk_180 0 47 (dk_at dksX0_oneMore_1 11 rfl rfl)
theorem dX0_oneMore_37 : decode cX0_oneMore 37 = .ok (.iload_n 2, 1) := dk_28 (dk_at dksX0_oneMore_1 14 rfl rfl)
theorem dX0_oneMore_38 : decode cX0_oneMore 38 = .ok (.aaload, 1) := dk_50 (dk_at dksX0_oneMore_1 15 rfl rfl)
theorem dX0_oneMore_39 : decode cX0_oneMore 39 = .ok (.iload_n 3, 1) := dk_29 (dk_at dksX0_oneMore_1 16 rfl rfl)
theorem dX0_oneMore_40 : decode cX0_oneMore 40 = .ok (.aaload, 1) := dk_50 (dk_at dksX0_oneMore_1 17 rfl rfl)
theorem dX0_oneMore_41 : decode cX0_oneMore 41 = .ok (.iload 4, 2) := dk_21 4 (dk_at dksX0_oneMore_1 18 rfl rfl)
theorem dX0_oneMore_43 : decode cX0_oneMore 43 = .ok (.iaload, 1) := dk_46 (dk_at dksX0_oneMore_1 20 rfl rfl)
theorem dX0_oneMore_44 : decode cX0_oneMore 44 = .ok (.istore 5, 2) := dk_54 5 (dk_at dksX0_oneMore_1 21 rfl rfl)
theorem dX0_oneMore_46 : decode cX0_oneMore 46 = .ok (.iload 5, 2) := dk_21 5 (dk_at dksX0_oneMore_2 0 rfl rfl)
theorem dX0_oneMore_48 : decode cX0_oneMore 48 = .ok (.ifCond .ne 6, 3) := dk_154 0 6 (dk_at dksX0_oneMore_2 2 rfl rfl)
theorem dX0_oneMore_51 : decode cX0_oneMore 51 = .ok (.goto 204, 3) := dk_167 0 204 (dk_at dksX0_oneMore_2 5 rfl rfl)
theorem dX0_oneMore_54 : decode cX0_oneMore 54 = .ok (.iload 4, 2) := dk_21 4 (dk_at dksX0_oneMore_2 8 rfl rfl)
theorem dX0_oneMore_56 : decode cX0_oneMore 56 = .ok (.iconst 4, 1) := dk_7 (dk_at dksX0_oneMore_2 10 rfl rfl)
theorem dX0_oneMore_57 : decode cX0_oneMore 57 = .ok (.idiv, 1) := dk_108 (dk_at dksX0_oneMore_2 11 rfl rfl)
theorem dX0_oneMore_58 : decode cX0_oneMore 58 = .ok (.iload 4, 2) := dk_21 4 (dk_at dksX0_oneMore_2 12 rfl rfl)
theorem dX0_oneMore_60 : decode cX0_oneMore 60 = .ok (.iconst 4, 1) := dk_7 (dk_at dksX0_oneMore_2 14 rfl rfl)
theorem dX0_oneMore_61 : decode cX0_oneMore 61 = .ok (.irem, 1) := dk_112 (dk_at dksX0_oneMore_2 15 rfl rfl)
theorem dX0_oneMore_62 : decode cX0_oneMore 62 = .ok (.invokestatic 313, 3) := dk_184 1 57 (dk_at dksX0_oneMore_2 16 rfl rfl)
theorem dX0_oneMore_65 : decode cX0_oneMore 65 = .ok (.istore 6, 2) := dk_54 6 (dk_at dksX0_oneMore_2 19 rfl rfl)
theorem dX0_oneMore_67 : decode cX0_oneMore 67 = .ok (.iload 6, 2) := dk_21 6 (dk_at dksX0_oneMore_2 21 rfl rfl)
theorem dX0_oneMore_69 : decode cX0_oneMore 69 = .ok (.iconst (-1), 1) := dk_2 (dk_at dksX0_oneMore_2 23 rfl rfl)
theorem dX0_oneMore_70 : decode cX0_oneMore 70 = .ok (.if_icmp .eq 55, 3) := dk_159 0 55 (dk_at dksX0_oneMore_3 0 rfl rfl)
theorem dX0_oneMore_73 : decode cX0_oneMore 73 = .ok (.aload_n 0, 1) := dk_42 (dk_at dksX0_oneMore_3 3 rfl rfl)
theorem dX0_oneMore_74 : decode cX0_oneMore 74 = .ok (.iload 6, 2) := dk_21 6 (dk_at dksX0_oneMore_3 4 rfl rfl)
theorem dX0_oneMore_76 : decode cX0_oneMore 76 = .ok (.invokevirtual 316, 3) := dk_182 1 60 (dk_at dksX0_oneMore_3 6 rfl rfl)
theorem dX0_oneMore_79 : decode cX0_oneMore 79 = .ok (.ifCond .eq 46, 3) := dk_153 0 46 (dk_at dksX0_oneMore_3 9 rfl rfl)
theorem dX0_oneMore_82 : decode cX0_oneMore 82 = .ok (.aload_n 0, 1) := dk_42 (dk_at dksX0_oneMore_3 12 rfl rfl)
theorem dX0_oneMore_83 : decode cX0_oneMore 83 = .ok (.getfield 50, 3) := dk_180 0 50 (dk_at dksX0_oneMore_3 13 rfl rfl)
theorem dX0_oneMore_86 : decode cX0_oneMore 86 = .ok (.iconst 0, 1) := dk_3 (dk_at dksX0_oneMore_3 16 rfl rfl)
theorem dX0_oneMore_87 : decode cX0_oneMore 87 = .ok (.aaload, 1) := dk_50 (dk_at dksX0_oneMore_3 17 rfl rfl)
theorem dX0_oneMore_88 : decode cX0_oneMore 88 = .ok (.iload_n 3, 1) := dk_29 (dk_at dksX0_oneMore_3 18 rfl rfl)
theorem dX0_oneMore_89 : decode cX0_oneMore 89 = .ok (.aaload, 1) := dk_50 (dk_at dksX0_oneMore_3 19 rfl rfl)
theorem dX0_oneMore_90 : decode cX0_oneMore 90 = .ok (.iconst 4, 1) := dk_7 (dk_at dksX0_oneMore_3 20 rfl rfl)
theorem dX0_oneMore_91 : decode cX0_oneMore 91 = .ok (.iload 6, 2) := dk_21 6 (dk_at dksX0_oneMore_3 21 rfl rfl)
theorem dX0_oneMore_93 : decode cX0_oneMore 93 = .ok (.imul, 1) := dk_104 (dk_at dksX0_oneMore_3 23 rfl rfl)
theorem dX0_oneMore_94 : decode cX0_oneMore 94 = .ok (.iload 4, 2) := dk_21 4 (dk_at dksX0_oneMore_4 0 rfl rfl)
theorem dX0_oneMore_96 : decode cX0_oneMore 96 = .ok (.iconst 4, 1) := dk_7 (dk_at dksX0_oneMore_4 2 rfl rfl)
theorem dX0_oneMore_97 : decode cX0_oneMore 97 = .ok (.irem, 1) := dk_112 (dk_at dksX0_oneMore_4 3 rfl rfl)
theorem dX0_oneMore_98 : decode cX0_oneMore 98 = .ok (.iadd, 1) := dk_96 (dk_at dksX0_oneMore_4 4 rfl rfl)
theorem dX0_oneMore_99 : decode cX0_oneMore 99 = .ok (.aload_n 0, 1) := dk_42 (dk_at dksX0_oneMore_4 5 rfl rfl)
theorem dX0_oneMore_100 : decode cX0_oneMore 100 = .ok (.getfield 50, 3) := dk_180 0 50 (dk_at dksX0_oneMore_4 6 rfl rfl)
theorem dX0_oneMore_103 : decode cX0_oneMore 103 = .ok (.iconst 0, 1) := dk_3 (dk_at dksX0_oneMore_4 9 rfl rfl)
theorem dX0_oneMore_104 : decode cX0_oneMore 104 = .ok (.aaload, 1) := dk_50 (dk_at dksX0_oneMore_4 10 rfl rfl)
theorem dX0_oneMore_105 : decode cX0_oneMore 105 = .ok (.iload_n 3, 1) := dk_29 (dk_at dksX0_oneMore_4 11 rfl rfl)
theorem dX0_oneMore_106 : decode cX0_oneMore 106 = .ok (.aaload, 1) := dk_50 (dk_at dksX0_oneMore_4 12 rfl rfl)
theorem dX0_oneMore_107 : decode cX0_oneMore 107 = .ok (.iconst 4, 1) := dk_7 (dk_at dksX0_oneMore_4 13 rfl rfl)
theorem dX0_oneMore_108 : decode cX0_oneMore 108 = .ok (.iload 6, 2) := dk_21 6 (dk_at dksX0_oneMore_4 14 rfl rfl)
theorem dX0_oneMore_110 : decode cX0_oneMore 110 = .ok (.imul, 1) := dk_104 (dk_at dksX0_oneMore_4 16 rfl rfl)
theorem dX0_oneMore_111 : decode cX0_oneMore 111 = .ok (.iload 4, 2) := dk_21 4 (dk_at dksX0_oneMore_4 17 rfl rfl)
theorem dX0_oneMore_113 : decode cX0_oneMore 113 = .ok (.iconst 4, 1) := dk_7 (dk_at dksX0_oneMore_4 19 rfl rfl)
theorem dX0_oneMore_114 : decode cX0_oneMore 114 = .ok (.irem, 1) := dk_112 (dk_at dksX0_oneMore_4 20 rfl rfl)
theorem dX0_oneMore_115 : decode cX0_oneMore 115 = .ok (.iadd, 1) := dk_96 (dk_at dksX0_oneMore_4 21 rfl rfl)
theorem dX0_oneMore_116 : decode cX0_oneMore 116 = .ok (.iaload, 1) := dk_46 (dk_at dksX0_oneMore_4 22 rfl rfl)
theorem dX0_oneMore_117 : decode cX0_oneMore 117 = .ok (.iload 5, 2) := dk_21 5 (dk_at dksX0_oneMore_5 0 rfl rfl)
theorem dX0_oneMore_119 : decode cX0_oneMore 119 = .ok (.iadd, 1) := dk_96 (dk_at dksX0_oneMore_5 2 rfl rfl)
theorem dX0_oneMore_120 : decode cX0_oneMore 120 = .ok (.ldc_w 336, 3) := dk_19 1 80 (dk_at dksX0_oneMore_5 3 rfl rfl)
theorem dX0_oneMore_123 : decode cX0_oneMore 123 = .ok (.irem, 1) := dk_112 (dk_at dksX0_oneMore_5 6 rfl rfl)
theorem dX0_oneMore_124 : decode cX0_oneMore 124 = .ok (.iastore, 1) := dk_79 (dk_at dksX0_oneMore_5 7 rfl rfl)
theorem dX0_oneMore_125 : decode cX0_oneMore 125 = .ok (.iload_n 3, 1) := dk_29 (dk_at dksX0_oneMore_5 8 rfl rfl)
theorem dX0_oneMore_126 : decode cX0_oneMore 126 = .ok (.iload_n 1, 1) := dk_27 (dk_at dksX0_oneMore_5 9 rfl rfl)
theorem dX0_oneMore_127 : decode cX0_oneMore 127 = .ok (.if_icmp .ge 63, 3) := dk_162 0 63 (dk_at dksX0_oneMore_5 10 rfl rfl)
theorem dX0_oneMore_130 : decode cX0_oneMore 130 = .ok (.iload_n 2, 1) := dk_28 (dk_at dksX0_oneMore_5 13 rfl rfl)
theorem dX0_oneMore_131 : decode cX0_oneMore 131 = .ok (.iconst 2, 1) := dk_5 (dk_at dksX0_oneMore_5 14 rfl rfl)
theorem dX0_oneMore_132 : decode cX0_oneMore 132 = .ok (.if_icmp .eq 58, 3) := dk_159 0 58 (dk_at dksX0_oneMore_5 15 rfl rfl)
theorem dX0_oneMore_135 : decode cX0_oneMore 135 = .ok (.aload_n 0, 1) := dk_42 (dk_at dksX0_oneMore_5 18 rfl rfl)
theorem dX0_oneMore_136 : decode cX0_oneMore 136 = .ok (.getfield 50, 3) := dk_180 0 50 (dk_at dksX0_oneMore_5 19 rfl rfl)
theorem dX0_oneMore_139 : decode cX0_oneMore 139 = .ok (.iconst 1, 1) := dk_4 (dk_at dksX0_oneMore_5 22 rfl rfl)
theorem dX0_oneMore_140 : decode cX0_oneMore 140 = .ok (.aaload, 1) := dk_50 (dk_at dksX0_oneMore_5 23 rfl rfl)
theorem dX0_oneMore_141 : decode cX0_oneMore 141 = .ok (.iload_n 3, 1) := dk_29 (dk_at dksX0_oneMore_6 0 rfl rfl)
theorem dX0_oneMore_142 : decode cX0_oneMore 142 = .ok (.iconst 1, 1) := dk_4 (dk_at dksX0_oneMore_6 1 rfl rfl)
theorem dX0_oneMore_143 : decode cX0_oneMore 143 = .ok (.iadd, 1) := dk_96 (dk_at dksX0_oneMore_6 2 rfl rfl)
theorem dX0_oneMore_144 : decode cX0_oneMore 144 = .ok (.aaload, 1) := dk_50 (dk_at dksX0_oneMore_6 3 rfl rfl)
theorem dX0_oneMore_145 : decode cX0_oneMore 145 = .ok (.iload 4, 2) := dk_21 4 (dk_at dksX0_oneMore_6 4 rfl rfl)
theorem dX0_oneMore_147 : decode cX0_oneMore 147 = .ok (.iconst 4, 1) := dk_7 (dk_at dksX0_oneMore_6 6 rfl rfl)
theorem dX0_oneMore_148 : decode cX0_oneMore 148 = .ok (.idiv, 1) := dk_108 (dk_at dksX0_oneMore_6 7 rfl rfl)
theorem dX0_oneMore_149 : decode cX0_oneMore 149 = .ok (.iconst 4, 1) := dk_7 (dk_at dksX0_oneMore_6 8 rfl rfl)
theorem dX0_oneMore_150 : decode cX0_oneMore 150 = .ok (.imul, 1) := dk_104 (dk_at dksX0_oneMore_6 9 rfl rfl)
theorem dX0_oneMore_151 : decode cX0_oneMore 151 = .ok (.iload 4, 2) := dk_21 4 (dk_at dksX0_oneMore_6 10 rfl rfl)
theorem dX0_oneMore_153 : decode cX0_oneMore 153 = .ok (.iconst 1, 1) := dk_4 (dk_at dksX0_oneMore_6 12 rfl rfl)
theorem dX0_oneMore_154 : decode cX0_oneMore 154 = .ok (.iadd, 1) := dk_96 (dk_at dksX0_oneMore_6 13 rfl rfl)
theorem dX0_oneMore_155 : decode cX0_oneMore 155 = .ok (.iconst 4, 1) := dk_7 (dk_at dksX0_oneMore_6 14 rfl rfl)
theorem dX0_oneMore_156 : decode cX0_oneMore 156 = .ok (.irem, 1) := dk_112 (dk_at dksX0_oneMore_6 15 rfl rfl)
theorem dX0_oneMore_157 : decode cX0_oneMore 157 = .ok (.iadd, 1) := dk_96 (dk_at dksX0_oneMore_6 16 rfl rfl)
theorem dX0_oneMore_158 : decode cX0_oneMore 158 = .ok (.aload_n 0, 1) := dk_42 (dk_at dksX0_oneMore_6 17 rfl rfl)
theorem dX0_oneMore_159 : decode cX0_oneMore 159 = .ok (.getfield 50, 3) := dk_180 0 50 (dk_at dksX0_oneMore_6 18 rfl rfl)
theorem dX0_oneMore_162 : decode cX0_oneMore 162 = .ok (.iconst 1, 1) := dk_4 (dk_at dksX0_oneMore_6 21 rfl rfl)
theorem dX0_oneMore_163 : decode cX0_oneMore 163 = .ok (.aaload, 1) := dk_50 (dk_at dksX0_oneMore_6 22 rfl rfl)
theorem dX0_oneMore_164 : decode cX0_oneMore 164 = .ok (.iload_n 3, 1) := dk_29 (dk_at dksX0_oneMore_6 23 rfl rfl)
theorem dX0_oneMore_165 : decode cX0_oneMore 165 = .ok (.iconst 1, 1) := dk_4 (dk_at dksX0_oneMore_7 0 rfl rfl)
theorem dX0_oneMore_166 : decode cX0_oneMore 166 = .ok (.iadd, 1) := dk_96 (dk_at dksX0_oneMore_7 1 rfl rfl)
theorem dX0_oneMore_167 : decode cX0_oneMore 167 = .ok (.aaload, 1) := dk_50 (dk_at dksX0_oneMore_7 2 rfl rfl)
theorem dX0_oneMore_168 : decode cX0_oneMore 168 = .ok (.iload 4, 2) := dk_21 4 (dk_at dksX0_oneMore_7 3 rfl rfl)
theorem dX0_oneMore_170 : decode cX0_oneMore 170 = .ok (.iconst 4, 1) := dk_7 (dk_at dksX0_oneMore_7 5 rfl rfl)
theorem dX0_oneMore_171 : decode cX0_oneMore 171 = .ok (.idiv, 1) := dk_108 (dk_at dksX0_oneMore_7 6 rfl rfl)
theorem dX0_oneMore_172 : decode cX0_oneMore 172 = .ok (.iconst 4, 1) := dk_7 (dk_at dksX0_oneMore_7 7 rfl rfl)
theorem dX0_oneMore_173 : decode cX0_oneMore 173 = .ok (.imul, 1) := dk_104 (dk_at dksX0_oneMore_7 8 rfl rfl)
theorem dX0_oneMore_174 : decode cX0_oneMore 174 = .ok (.iload 4, 2) := dk_21 4 (dk_at dksX0_oneMore_7 9 rfl rfl)
theorem dX0_oneMore_176 : decode cX0_oneMore 176 = .ok (.iconst 1, 1) := dk_4 (dk_at dksX0_oneMore_7 11 rfl rfl)
theorem dX0_oneMore_177 : decode cX0_oneMore 177 = .ok (.iadd, 1) := dk_96 (dk_at dksX0_oneMore_7 12 rfl rfl)
theorem dX0_oneMore_178 : decode cX0_oneMore 178 = .ok (.iconst 4, 1) := dk_7 (dk_at dksX0_oneMore_7 13 rfl rfl)
theorem dX0_oneMore_179 : decode cX0_oneMore 179 = .ok (.irem, 1) := dk_112 (dk_at dksX0_oneMore_7 14 rfl rfl)
theorem dX0_oneMore_180 : decode cX0_oneMore 180 = .ok (.iadd, 1) := dk_96 (dk_at dksX0_oneMore_7 15 rfl rfl)
theorem dX0_oneMore_181 : decode cX0_oneMore 181 = .ok (.iaload, 1) := dk_46 (dk_at dksX0_oneMore_7 16 rfl rfl)
theorem dX0_oneMore_182 : decode cX0_oneMore 182 = .ok (.iload 5, 2) := dk_21 5 (dk_at dksX0_oneMore_7 17 rfl rfl)
theorem dX0_oneMore_184 : decode cX0_oneMore 184 = .ok (.iadd, 1) := dk_96 (dk_at dksX0_oneMore_7 19 rfl rfl)
theorem dX0_oneMore_185 : decode cX0_oneMore 185 = .ok (.ldc_w 336, 3) := dk_19 1 80 (dk_at dksX0_oneMore_7 20 rfl rfl)
theorem dX0_oneMore_188 : decode cX0_oneMore 188 = .ok (.irem, 1) := dk_112 (dk_at dksX0_oneMore_7 23 rfl rfl)
theorem dX0_oneMore_189 : decode cX0_oneMore 189 = .ok (.iastore, 1) := dk_79 (dk_at dksX0_oneMore_8 0 rfl rfl)
theorem dX0_oneMore_190 : decode cX0_oneMore 190 = .ok (.iload_n 3, 1) := dk_29 (dk_at dksX0_oneMore_8 1 rfl rfl)
theorem dX0_oneMore_191 : decode cX0_oneMore 191 = .ok (.iload_n 1, 1) := dk_27 (dk_at dksX0_oneMore_8 2 rfl rfl)
theorem dX0_oneMore_192 : decode cX0_oneMore 192 = .ok (.if_icmp .ge 63, 3) := dk_162 0 63 (dk_at dksX0_oneMore_8 3 rfl rfl)
theorem dX0_oneMore_195 : decode cX0_oneMore 195 = .ok (.iload_n 2, 1) := dk_28 (dk_at dksX0_oneMore_8 6 rfl rfl)
theorem dX0_oneMore_196 : decode cX0_oneMore 196 = .ok (.iconst 1, 1) := dk_4 (dk_at dksX0_oneMore_8 7 rfl rfl)
theorem dX0_oneMore_197 : decode cX0_oneMore 197 = .ok (.if_icmp .eq 58, 3) := dk_159 0 58 (dk_at dksX0_oneMore_8 8 rfl rfl)
theorem dX0_oneMore_200 : decode cX0_oneMore 200 = .ok (.aload_n 0, 1) := dk_42 (dk_at dksX0_oneMore_8 11 rfl rfl)
theorem dX0_oneMore_201 : decode cX0_oneMore 201 = .ok (.getfield 50, 3) := dk_180 0 50 (dk_at dksX0_oneMore_8 12 rfl rfl)
theorem dX0_oneMore_204 : decode cX0_oneMore 204 = .ok (.iconst 2, 1) := dk_5 (dk_at dksX0_oneMore_8 15 rfl rfl)
theorem dX0_oneMore_205 : decode cX0_oneMore 205 = .ok (.aaload, 1) := dk_50 (dk_at dksX0_oneMore_8 16 rfl rfl)
theorem dX0_oneMore_206 : decode cX0_oneMore 206 = .ok (.iload_n 3, 1) := dk_29 (dk_at dksX0_oneMore_8 17 rfl rfl)
theorem dX0_oneMore_207 : decode cX0_oneMore 207 = .ok (.iconst 1, 1) := dk_4 (dk_at dksX0_oneMore_8 18 rfl rfl)
theorem dX0_oneMore_208 : decode cX0_oneMore 208 = .ok (.iadd, 1) := dk_96 (dk_at dksX0_oneMore_8 19 rfl rfl)
theorem dX0_oneMore_209 : decode cX0_oneMore 209 = .ok (.aaload, 1) := dk_50 (dk_at dksX0_oneMore_8 20 rfl rfl)
theorem dX0_oneMore_210 : decode cX0_oneMore 210 = .ok (.iload 4, 2) := dk_21 4 (dk_at dksX0_oneMore_8 21 rfl rfl)
theorem dX0_oneMore_212 : decode cX0_oneMore 212 = .ok (.iconst 4, 1) := dk_7 (dk_at dksX0_oneMore_8 23 rfl rfl)
theorem dX0_oneMore_213 : decode cX0_oneMore 213 = .ok (.idiv, 1) := dk_108 (dk_at dksX0_oneMore_9 0 rfl rfl)
theorem dX0_oneMore_214 : decode cX0_oneMore 214 = .ok (.iconst 4, 1) := dk_7 (dk_at dksX0_oneMore_9 1 rfl rfl)
theorem dX0_oneMore_215 : decode cX0_oneMore 215 = .ok (.imul, 1) := dk_104 (dk_at dksX0_oneMore_9 2 rfl rfl)
theorem dX0_oneMore_216 : decode cX0_oneMore 216 = .ok (.iload 4, 2) := dk_21 4 (dk_at dksX0_oneMore_9 3 rfl rfl)
theorem dX0_oneMore_218 : decode cX0_oneMore 218 = .ok (.iconst 3, 1) := dk_6 (dk_at dksX0_oneMore_9 5 rfl rfl)
theorem dX0_oneMore_219 : decode cX0_oneMore 219 = .ok (.iadd, 1) := dk_96 (dk_at dksX0_oneMore_9 6 rfl rfl)
theorem dX0_oneMore_220 : decode cX0_oneMore 220 = .ok (.iconst 4, 1) := dk_7 (dk_at dksX0_oneMore_9 7 rfl rfl)
theorem dX0_oneMore_221 : decode cX0_oneMore 221 = .ok (.irem, 1) := dk_112 (dk_at dksX0_oneMore_9 8 rfl rfl)
theorem dX0_oneMore_222 : decode cX0_oneMore 222 = .ok (.iadd, 1) := dk_96 (dk_at dksX0_oneMore_9 9 rfl rfl)
theorem dX0_oneMore_223 : decode cX0_oneMore 223 = .ok (.aload_n 0, 1) := dk_42 (dk_at dksX0_oneMore_9 10 rfl rfl)
theorem dX0_oneMore_224 : decode cX0_oneMore 224 = .ok (.getfield 50, 3) := dk_180 0 50 (dk_at dksX0_oneMore_9 11 rfl rfl)
theorem dX0_oneMore_227 : decode cX0_oneMore 227 = .ok (.iconst 2, 1) := dk_5 (dk_at dksX0_oneMore_9 14 rfl rfl)
theorem dX0_oneMore_228 : decode cX0_oneMore 228 = .ok (.aaload, 1) := dk_50 (dk_at dksX0_oneMore_9 15 rfl rfl)
theorem dX0_oneMore_229 : decode cX0_oneMore 229 = .ok (.iload_n 3, 1) := dk_29 (dk_at dksX0_oneMore_9 16 rfl rfl)
theorem dX0_oneMore_230 : decode cX0_oneMore 230 = .ok (.iconst 1, 1) := dk_4 (dk_at dksX0_oneMore_9 17 rfl rfl)
theorem dX0_oneMore_231 : decode cX0_oneMore 231 = .ok (.iadd, 1) := dk_96 (dk_at dksX0_oneMore_9 18 rfl rfl)
theorem dX0_oneMore_232 : decode cX0_oneMore 232 = .ok (.aaload, 1) := dk_50 (dk_at dksX0_oneMore_9 19 rfl rfl)
theorem dX0_oneMore_233 : decode cX0_oneMore 233 = .ok (.iload 4, 2) := dk_21 4 (dk_at dksX0_oneMore_9 20 rfl rfl)
theorem dX0_oneMore_235 : decode cX0_oneMore 235 = .ok (.iconst 4, 1) := dk_7 (dk_at dksX0_oneMore_9 22 rfl rfl)
theorem dX0_oneMore_236 : decode cX0_oneMore 236 = .ok (.idiv, 1) := dk_108 (dk_at dksX0_oneMore_9 23 rfl rfl)
theorem dX0_oneMore_237 : decode cX0_oneMore 237 = .ok (.iconst 4, 1) := dk_7 (dk_at dksX0_oneMore_10 0 rfl rfl)
theorem dX0_oneMore_238 : decode cX0_oneMore 238 = .ok (.imul, 1) := dk_104 (dk_at dksX0_oneMore_10 1 rfl rfl)
theorem dX0_oneMore_239 : decode cX0_oneMore 239 = .ok (.iload 4, 2) := dk_21 4 (dk_at dksX0_oneMore_10 2 rfl rfl)
theorem dX0_oneMore_241 : decode cX0_oneMore 241 = .ok (.iconst 3, 1) := dk_6 (dk_at dksX0_oneMore_10 4 rfl rfl)
theorem dX0_oneMore_242 : decode cX0_oneMore 242 = .ok (.iadd, 1) := dk_96 (dk_at dksX0_oneMore_10 5 rfl rfl)
theorem dX0_oneMore_243 : decode cX0_oneMore 243 = .ok (.iconst 4, 1) := dk_7 (dk_at dksX0_oneMore_10 6 rfl rfl)
theorem dX0_oneMore_244 : decode cX0_oneMore 244 = .ok (.irem, 1) := dk_112 (dk_at dksX0_oneMore_10 7 rfl rfl)
theorem dX0_oneMore_245 : decode cX0_oneMore 245 = .ok (.iadd, 1) := dk_96 (dk_at dksX0_oneMore_10 8 rfl rfl)
theorem dX0_oneMore_246 : decode cX0_oneMore 246 = .ok (.iaload, 1) := dk_46 (dk_at dksX0_oneMore_10 9 rfl rfl)
theorem dX0_oneMore_247 : decode cX0_oneMore 247 = .ok (.iload 5, 2) := dk_21 5 (dk_at dksX0_oneMore_10 10 rfl rfl)
theorem dX0_oneMore_249 : decode cX0_oneMore 249 = .ok (.iadd, 1) := dk_96 (dk_at dksX0_oneMore_10 12 rfl rfl)
theorem dX0_oneMore_250 : decode cX0_oneMore 250 = .ok (.ldc_w 336, 3) := dk_19 1 80 (dk_at dksX0_oneMore_10 13 rfl rfl)
theorem dX0_oneMore_253 : decode cX0_oneMore 253 = .ok (.irem, 1) := dk_112 (dk_at dksX0_oneMore_10 16 rfl rfl)
theorem dX0_oneMore_254 : decode cX0_oneMore 254 = .ok (.iastore, 1) := dk_79 (dk_at dksX0_oneMore_10 17 rfl rfl)
theorem dX0_oneMore_255 : decode cX0_oneMore 255 = .ok (.iinc 4 1, 3) := dk_132 4 1 (dk_at dksX0_oneMore_10 18 rfl rfl)
theorem dX0_oneMore_258 : decode cX0_oneMore 258 = .ok (.goto (-233), 3) := dk_167 255 23 (dk_at dksX0_oneMore_10 21 rfl rfl)
theorem dX0_oneMore_261 : decode cX0_oneMore 261 = .ok (.iinc 3 1, 3) := dk_132 3 1 (dk_at dksX0_oneMore_11 0 rfl rfl)
theorem dX0_oneMore_264 : decode cX0_oneMore 264 = .ok (.goto (-247), 3) := dk_167 255 9 (dk_at dksX0_oneMore_11 3 rfl rfl)
theorem dX0_oneMore_267 : decode cX0_oneMore 267 = .ok (.iinc 2 1, 3) := dk_132 2 1 (dk_at dksX0_oneMore_11 6 rfl rfl)
theorem dX0_oneMore_270 : decode cX0_oneMore 270 = .ok (.goto (-260), 3) := dk_167 254 252 (dk_at dksX0_oneMore_11 9 rfl rfl)
theorem dX0_oneMore_273 : decode cX0_oneMore 273 = .ok (.aload_n 0, 1) := dk_42 (dk_at dksX0_oneMore_11 12 rfl rfl)
theorem dX0_oneMore_274 : decode cX0_oneMore 274 = .ok (.getfield 47, 3) := dk_180 0 47 (dk_at dksX0_oneMore_11 13 rfl rfl)
theorem dX0_oneMore_277 : decode cX0_oneMore 277 = .ok (.astore_n 2, 1) := dk_77 (dk_at dksX0_oneMore_11 16 rfl rfl)
theorem dX0_oneMore_278 : decode cX0_oneMore 278 = .ok (.aload_n 0, 1) := dk_42 (dk_at dksX0_oneMore_11 17 rfl rfl)
theorem dX0_oneMore_279 : decode cX0_oneMore 279 = .ok (.aload_n 0, 1) := dk_42 (dk_at dksX0_oneMore_11 18 rfl rfl)
theorem dX0_oneMore_280 : decode cX0_oneMore 280 = .ok (.getfield 50, 3) := dk_180 0 50 (dk_at dksX0_oneMore_11 19 rfl rfl)
theorem dX0_oneMore_283 : decode cX0_oneMore 283 = .ok (.putfield 47, 3) := dk_181 0 47 (dk_at dksX0_oneMore_12 0 rfl rfl)
theorem dX0_oneMore_286 : decode cX0_oneMore 286 = .ok (.aload_n 0, 1) := dk_42 (dk_at dksX0_oneMore_12 3 rfl rfl)
theorem dX0_oneMore_287 : decode cX0_oneMore 287 = .ok (.aload_n 2, 1) := dk_44 (dk_at dksX0_oneMore_12 4 rfl rfl)
theorem dX0_oneMore_288 : decode cX0_oneMore 288 = .ok (.putfield 50, 3) := dk_181 0 50 (dk_at dksX0_oneMore_12 5 rfl rfl)
theorem dX0_oneMore_291 : decode cX0_oneMore 291 = .ok (.return_, 1) := dk_177 (dk_at dksX0_oneMore_12 8 rfl rfl)
abbrev cX0_seen : ByteArray := prog_1_method_40_code
def yX0_seen : MethodName := ⟨RX0, "seen", "(II)I"⟩
def dkwX0_seen_3 : List UInt8 := [167, 0, 4, 3, 96, 62, 132, 4, 1, 167, 255, 227, 29, 172]
abbrev dktX0_seen_3 : List UInt8 := dkwX0_seen_3 ++ []
def dkwX0_seen_2 : List UInt8 := [54, 4, 21, 4, 17, 0, 144, 162, 0, 27, 29, 42, 27, 21, 4, 182, 1, 93, 153, 0, 7, 4]
abbrev dktX0_seen_2 : List UInt8 := dkwX0_seen_2 ++ dktX0_seen_3
def dkwX0_seen_1 : List UInt8 := [28, 2, 159, 0, 18, 42, 27, 28, 182, 1, 93, 153, 0, 7, 4, 167, 0, 4, 3, 172, 3, 62, 3]
abbrev dktX0_seen_1 : List UInt8 := dkwX0_seen_1 ++ dktX0_seen_2
def dkwX0_seen_0 : List UInt8 := [27, 3, 17, 0, 143, 184, 0, 110, 153, 0, 14, 28, 2, 17, 0, 143, 184, 0, 110, 154, 0, 5, 2, 172]
abbrev dktX0_seen_0 : List UInt8 := dkwX0_seen_0 ++ dktX0_seen_1
theorem dksX0_seen_0 : cX0_seen.data.toList.drop 0 = dktX0_seen_0 := by decide +kernel
theorem dksX0_seen_1 : cX0_seen.data.toList.drop 24 = dktX0_seen_1 := dk_seg dksX0_seen_0 24 rfl rfl
theorem dksX0_seen_2 : cX0_seen.data.toList.drop 47 = dktX0_seen_2 := dk_seg dksX0_seen_1 23 rfl rfl
theorem dksX0_seen_3 : cX0_seen.data.toList.drop 69 = dktX0_seen_3 := dk_seg dksX0_seen_2 22 rfl rfl
theorem dX0_seen_0 : decode cX0_seen 0 = .ok (.iload_n 1, 1) := dk_27 (dk_at dksX0_seen_0 0 rfl rfl)
theorem dX0_seen_1 : decode cX0_seen 1 = .ok (.iconst 0, 1) := dk_3 (dk_at dksX0_seen_0 1 rfl rfl)
theorem dX0_seen_2 : decode cX0_seen 2 = .ok (.sipush 143, 3) := dk_17 0 143 (dk_at dksX0_seen_0 2 rfl rfl)
theorem dX0_seen_5 : decode cX0_seen 5 = .ok (.invokestatic 110, 3) := dk_184 0 110 (dk_at dksX0_seen_0 5 rfl rfl)
theorem dX0_seen_8 : decode cX0_seen 8 = .ok (.ifCond .eq 14, 3) := dk_153 0 14 (dk_at dksX0_seen_0 8 rfl rfl)
theorem dX0_seen_11 : decode cX0_seen 11 = .ok (.iload_n 2, 1) := dk_28 (dk_at dksX0_seen_0 11 rfl rfl)
theorem dX0_seen_12 : decode cX0_seen 12 = .ok (.iconst (-1), 1) := dk_2 (dk_at dksX0_seen_0 12 rfl rfl)
theorem dX0_seen_13 : decode cX0_seen 13 = .ok (.sipush 143, 3) := dk_17 0 143 (dk_at dksX0_seen_0 13 rfl rfl)
theorem dX0_seen_16 : decode cX0_seen 16 = .ok (.invokestatic 110, 3) := dk_184 0 110 (dk_at dksX0_seen_0 16 rfl rfl)
theorem dX0_seen_19 : decode cX0_seen 19 = .ok (.ifCond .ne 5, 3) := dk_154 0 5 (dk_at dksX0_seen_0 19 rfl rfl)
theorem dX0_seen_22 : decode cX0_seen 22 = .ok (.iconst (-1), 1) := dk_2 (dk_at dksX0_seen_0 22 rfl rfl)
theorem dX0_seen_23 : decode cX0_seen 23 = .ok (.ireturn, 1) := dk_172 (dk_at dksX0_seen_0 23 rfl rfl)
theorem dX0_seen_24 : decode cX0_seen 24 = .ok (.iload_n 2, 1) := dk_28 (dk_at dksX0_seen_1 0 rfl rfl)
theorem dX0_seen_25 : decode cX0_seen 25 = .ok (.iconst (-1), 1) := dk_2 (dk_at dksX0_seen_1 1 rfl rfl)
theorem dX0_seen_26 : decode cX0_seen 26 = .ok (.if_icmp .eq 18, 3) := dk_159 0 18 (dk_at dksX0_seen_1 2 rfl rfl)
theorem dX0_seen_29 : decode cX0_seen 29 = .ok (.aload_n 0, 1) := dk_42 (dk_at dksX0_seen_1 5 rfl rfl)
theorem dX0_seen_30 : decode cX0_seen 30 = .ok (.iload_n 1, 1) := dk_27 (dk_at dksX0_seen_1 6 rfl rfl)
theorem dX0_seen_31 : decode cX0_seen 31 = .ok (.iload_n 2, 1) := dk_28 (dk_at dksX0_seen_1 7 rfl rfl)
theorem dX0_seen_32 : decode cX0_seen 32 = .ok (.invokevirtual 349, 3) := dk_182 1 93 (dk_at dksX0_seen_1 8 rfl rfl)
theorem dX0_seen_35 : decode cX0_seen 35 = .ok (.ifCond .eq 7, 3) := dk_153 0 7 (dk_at dksX0_seen_1 11 rfl rfl)
theorem dX0_seen_38 : decode cX0_seen 38 = .ok (.iconst 1, 1) := dk_4 (dk_at dksX0_seen_1 14 rfl rfl)
theorem dX0_seen_39 : decode cX0_seen 39 = .ok (.goto 4, 3) := dk_167 0 4 (dk_at dksX0_seen_1 15 rfl rfl)
theorem dX0_seen_42 : decode cX0_seen 42 = .ok (.iconst 0, 1) := dk_3 (dk_at dksX0_seen_1 18 rfl rfl)
theorem dX0_seen_43 : decode cX0_seen 43 = .ok (.ireturn, 1) := dk_172 (dk_at dksX0_seen_1 19 rfl rfl)
theorem dX0_seen_44 : decode cX0_seen 44 = .ok (.iconst 0, 1) := dk_3 (dk_at dksX0_seen_1 20 rfl rfl)
theorem dX0_seen_45 : decode cX0_seen 45 = .ok (.istore_n 3, 1) := dk_62 (dk_at dksX0_seen_1 21 rfl rfl)
theorem dX0_seen_46 : decode cX0_seen 46 = .ok (.iconst 0, 1) := dk_3 (dk_at dksX0_seen_1 22 rfl rfl)
theorem dX0_seen_47 : decode cX0_seen 47 = .ok (.istore 4, 2) := dk_54 4 (dk_at dksX0_seen_2 0 rfl rfl)
theorem dX0_seen_49 : decode cX0_seen 49 = .ok (.iload 4, 2) := dk_21 4 (dk_at dksX0_seen_2 2 rfl rfl)
theorem dX0_seen_51 : decode cX0_seen 51 = .ok (.sipush 144, 3) := dk_17 0 144 (dk_at dksX0_seen_2 4 rfl rfl)
theorem dX0_seen_54 : decode cX0_seen 54 = .ok (.if_icmp .ge 27, 3) := dk_162 0 27 (dk_at dksX0_seen_2 7 rfl rfl)
theorem dX0_seen_57 : decode cX0_seen 57 = .ok (.iload_n 3, 1) := dk_29 (dk_at dksX0_seen_2 10 rfl rfl)
theorem dX0_seen_58 : decode cX0_seen 58 = .ok (.aload_n 0, 1) := dk_42 (dk_at dksX0_seen_2 11 rfl rfl)
theorem dX0_seen_59 : decode cX0_seen 59 = .ok (.iload_n 1, 1) := dk_27 (dk_at dksX0_seen_2 12 rfl rfl)
theorem dX0_seen_60 : decode cX0_seen 60 = .ok (.iload 4, 2) := dk_21 4 (dk_at dksX0_seen_2 13 rfl rfl)
theorem dX0_seen_62 : decode cX0_seen 62 = .ok (.invokevirtual 349, 3) := dk_182 1 93 (dk_at dksX0_seen_2 15 rfl rfl)
theorem dX0_seen_65 : decode cX0_seen 65 = .ok (.ifCond .eq 7, 3) := dk_153 0 7 (dk_at dksX0_seen_2 18 rfl rfl)
theorem dX0_seen_68 : decode cX0_seen 68 = .ok (.iconst 1, 1) := dk_4 (dk_at dksX0_seen_2 21 rfl rfl)
theorem dX0_seen_69 : decode cX0_seen 69 = .ok (.goto 4, 3) := dk_167 0 4 (dk_at dksX0_seen_3 0 rfl rfl)
theorem dX0_seen_72 : decode cX0_seen 72 = .ok (.iconst 0, 1) := dk_3 (dk_at dksX0_seen_3 3 rfl rfl)
theorem dX0_seen_73 : decode cX0_seen 73 = .ok (.iadd, 1) := dk_96 (dk_at dksX0_seen_3 4 rfl rfl)
theorem dX0_seen_74 : decode cX0_seen 74 = .ok (.istore_n 3, 1) := dk_62 (dk_at dksX0_seen_3 5 rfl rfl)
theorem dX0_seen_75 : decode cX0_seen 75 = .ok (.iinc 4 1, 3) := dk_132 4 1 (dk_at dksX0_seen_3 6 rfl rfl)
theorem dX0_seen_78 : decode cX0_seen 78 = .ok (.goto (-29), 3) := dk_167 255 227 (dk_at dksX0_seen_3 9 rfl rfl)
theorem dX0_seen_81 : decode cX0_seen 81 = .ok (.iload_n 3, 1) := dk_29 (dk_at dksX0_seen_3 12 rfl rfl)
theorem dX0_seen_82 : decode cX0_seen 82 = .ok (.ireturn, 1) := dk_172 (dk_at dksX0_seen_3 13 rfl rfl)
abbrev cX0_isSeen : ByteArray := prog_1_method_39_code
def yX0_isSeen : MethodName := ⟨RX0, "isSeen", "(II)Z"⟩
def dkwX0_isSeen_7 : List UInt8 := [132, 7, 1, 167, 255, 146, 4, 172]
abbrev dktX0_isSeen_7 : List UInt8 := dkwX0_isSeen_7 ++ []
def dkwX0_isSeen_6 : List UInt8 := [54, 9, 42, 180, 0, 20, 180, 0, 219, 16, 12, 21, 9, 104, 21, 8, 96, 46, 4, 160, 0, 5, 3, 172]
abbrev dktX0_isSeen_6 : List UInt8 := dkwX0_isSeen_6 ++ dktX0_isSeen_7
def dkwX0_isSeen_5 : List UInt8 := [104, 21, 5, 96, 5, 21, 5, 104, 184, 1, 90, 167, 0, 11, 21, 7, 21, 4, 184, 1, 87, 104, 96]
abbrev dktX0_isSeen_5 : List UInt8 := dkwX0_isSeen_5 ++ dktX0_isSeen_6
def dkwX0_isSeen_4 : List UInt8 := [21, 5, 104, 184, 1, 90, 96, 54, 8, 27, 16, 12, 108, 21, 6, 153, 0, 23, 5, 21, 7, 104, 21, 4]
abbrev dktX0_isSeen_4 : List UInt8 := dkwX0_isSeen_4 ++ dktX0_isSeen_5
def dkwX0_isSeen_3 : List UInt8 := [153, 0, 13, 21, 7, 29, 184, 1, 87, 104, 167, 0, 19, 5, 21, 7, 104, 29, 104, 21, 5, 96, 5]
abbrev dktX0_isSeen_3 : List UInt8 := dkwX0_isSeen_3 ++ dktX0_isSeen_4
def dkwX0_isSeen_2 : List UInt8 := [167, 0, 4, 3, 54, 6, 4, 54, 7, 21, 7, 21, 5, 162, 0, 109, 27, 16, 12, 112, 21, 6]
abbrev dktX0_isSeen_2 : List UInt8 := dkwX0_isSeen_2 ++ dktX0_isSeen_3
def dkwX0_isSeen_1 : List UInt8 := [184, 1, 84, 21, 4, 184, 1, 84, 184, 0, 107, 54, 5, 29, 184, 1, 84, 21, 5, 160, 0, 7, 4]
abbrev dktX0_isSeen_1 : List UInt8 := dkwX0_isSeen_1 ++ dktX0_isSeen_2
def dkwX0_isSeen_0 : List UInt8 := [28, 16, 12, 112, 27, 16, 12, 112, 100, 62, 28, 16, 12, 108, 27, 16, 12, 108, 100, 54, 4, 29]
abbrev dktX0_isSeen_0 : List UInt8 := dkwX0_isSeen_0 ++ dktX0_isSeen_1
theorem dksX0_isSeen_0 : cX0_isSeen.data.toList.drop 0 = dktX0_isSeen_0 := by decide +kernel
theorem dksX0_isSeen_1 : cX0_isSeen.data.toList.drop 22 = dktX0_isSeen_1 := dk_seg dksX0_isSeen_0 22 rfl rfl
theorem dksX0_isSeen_2 : cX0_isSeen.data.toList.drop 45 = dktX0_isSeen_2 := dk_seg dksX0_isSeen_1 23 rfl rfl
theorem dksX0_isSeen_3 : cX0_isSeen.data.toList.drop 67 = dktX0_isSeen_3 := dk_seg dksX0_isSeen_2 22 rfl rfl
theorem dksX0_isSeen_4 : cX0_isSeen.data.toList.drop 90 = dktX0_isSeen_4 := dk_seg dksX0_isSeen_3 23 rfl rfl
theorem dksX0_isSeen_5 : cX0_isSeen.data.toList.drop 114 = dktX0_isSeen_5 := dk_seg dksX0_isSeen_4 24 rfl rfl
theorem dksX0_isSeen_6 : cX0_isSeen.data.toList.drop 137 = dktX0_isSeen_6 := dk_seg dksX0_isSeen_5 23 rfl rfl
theorem dksX0_isSeen_7 : cX0_isSeen.data.toList.drop 161 = dktX0_isSeen_7 := dk_seg dksX0_isSeen_6 24 rfl rfl
theorem dX0_isSeen_0 : decode cX0_isSeen 0 = .ok (.iload_n 2, 1) := dk_28 (dk_at dksX0_isSeen_0 0 rfl rfl)
theorem dX0_isSeen_1 : decode cX0_isSeen 1 = .ok (.bipush 12, 2) := dk_16 12 (dk_at dksX0_isSeen_0 1 rfl rfl)
theorem dX0_isSeen_3 : decode cX0_isSeen 3 = .ok (.irem, 1) := dk_112 (dk_at dksX0_isSeen_0 3 rfl rfl)
theorem dX0_isSeen_4 : decode cX0_isSeen 4 = .ok (.iload_n 1, 1) := dk_27 (dk_at dksX0_isSeen_0 4 rfl rfl)
theorem dX0_isSeen_5 : decode cX0_isSeen 5 = .ok (.bipush 12, 2) := dk_16 12 (dk_at dksX0_isSeen_0 5 rfl rfl)
theorem dX0_isSeen_7 : decode cX0_isSeen 7 = .ok (.irem, 1) := dk_112 (dk_at dksX0_isSeen_0 7 rfl rfl)
theorem dX0_isSeen_8 : decode cX0_isSeen 8 = .ok (.isub, 1) := dk_100 (dk_at dksX0_isSeen_0 8 rfl rfl)
theorem dX0_isSeen_9 : decode cX0_isSeen 9 = .ok (.istore_n 3, 1) := dk_62 (dk_at dksX0_isSeen_0 9 rfl rfl)
theorem dX0_isSeen_10 : decode cX0_isSeen 10 = .ok (.iload_n 2, 1) := dk_28 (dk_at dksX0_isSeen_0 10 rfl rfl)
theorem dX0_isSeen_11 : decode cX0_isSeen 11 = .ok (.bipush 12, 2) := dk_16 12 (dk_at dksX0_isSeen_0 11 rfl rfl)
theorem dX0_isSeen_13 : decode cX0_isSeen 13 = .ok (.idiv, 1) := dk_108 (dk_at dksX0_isSeen_0 13 rfl rfl)
theorem dX0_isSeen_14 : decode cX0_isSeen 14 = .ok (.iload_n 1, 1) := dk_27 (dk_at dksX0_isSeen_0 14 rfl rfl)
theorem dX0_isSeen_15 : decode cX0_isSeen 15 = .ok (.bipush 12, 2) := dk_16 12 (dk_at dksX0_isSeen_0 15 rfl rfl)
theorem dX0_isSeen_17 : decode cX0_isSeen 17 = .ok (.idiv, 1) := dk_108 (dk_at dksX0_isSeen_0 17 rfl rfl)
theorem dX0_isSeen_18 : decode cX0_isSeen 18 = .ok (.isub, 1) := dk_100 (dk_at dksX0_isSeen_0 18 rfl rfl)
theorem dX0_isSeen_19 : decode cX0_isSeen 19 = .ok (.istore 4, 2) := dk_54 4 (dk_at dksX0_isSeen_0 19 rfl rfl)
theorem dX0_isSeen_21 : decode cX0_isSeen 21 = .ok (.iload_n 3, 1) := dk_29 (dk_at dksX0_isSeen_0 21 rfl rfl)
theorem dX0_isSeen_22 : decode cX0_isSeen 22 = .ok (.invokestatic 340, 3) := dk_184 1 84 (dk_at dksX0_isSeen_1 0 rfl rfl)
theorem dX0_isSeen_25 : decode cX0_isSeen 25 = .ok (.iload 4, 2) := dk_21 4 (dk_at dksX0_isSeen_1 3 rfl rfl)
theorem dX0_isSeen_27 : decode cX0_isSeen 27 = .ok (.invokestatic 340, 3) := dk_184 1 84 (dk_at dksX0_isSeen_1 5 rfl rfl)
theorem dX0_isSeen_30 : decode cX0_isSeen 30 = .ok (.invokestatic 107, 3) := dk_184 0 107 (dk_at dksX0_isSeen_1 8 rfl rfl)
theorem dX0_isSeen_33 : decode cX0_isSeen 33 = .ok (.istore 5, 2) := dk_54 5 (dk_at dksX0_isSeen_1 11 rfl rfl)
theorem dX0_isSeen_35 : decode cX0_isSeen 35 = .ok (.iload_n 3, 1) := dk_29 (dk_at dksX0_isSeen_1 13 rfl rfl)
theorem dX0_isSeen_36 : decode cX0_isSeen 36 = .ok (.invokestatic 340, 3) := dk_184 1 84 (dk_at dksX0_isSeen_1 14 rfl rfl)
theorem dX0_isSeen_39 : decode cX0_isSeen 39 = .ok (.iload 5, 2) := dk_21 5 (dk_at dksX0_isSeen_1 17 rfl rfl)
theorem dX0_isSeen_41 : decode cX0_isSeen 41 = .ok (.if_icmp .ne 7, 3) := dk_160 0 7 (dk_at dksX0_isSeen_1 19 rfl rfl)
theorem dX0_isSeen_44 : decode cX0_isSeen 44 = .ok (.iconst 1, 1) := dk_4 (dk_at dksX0_isSeen_1 22 rfl rfl)
theorem dX0_isSeen_45 : decode cX0_isSeen 45 = .ok (.goto 4, 3) := dk_167 0 4 (dk_at dksX0_isSeen_2 0 rfl rfl)
theorem dX0_isSeen_48 : decode cX0_isSeen 48 = .ok (.iconst 0, 1) := dk_3 (dk_at dksX0_isSeen_2 3 rfl rfl)
theorem dX0_isSeen_49 : decode cX0_isSeen 49 = .ok (.istore 6, 2) := dk_54 6 (dk_at dksX0_isSeen_2 4 rfl rfl)
theorem dX0_isSeen_51 : decode cX0_isSeen 51 = .ok (.iconst 1, 1) := dk_4 (dk_at dksX0_isSeen_2 6 rfl rfl)
theorem dX0_isSeen_52 : decode cX0_isSeen 52 = .ok (.istore 7, 2) := dk_54 7 (dk_at dksX0_isSeen_2 7 rfl rfl)
theorem dX0_isSeen_54 : decode cX0_isSeen 54 = .ok (.iload 7, 2) := dk_21 7 (dk_at dksX0_isSeen_2 9 rfl rfl)
theorem dX0_isSeen_56 : decode cX0_isSeen 56 = .ok (.iload 5, 2) := dk_21 5 (dk_at dksX0_isSeen_2 11 rfl rfl)
theorem dX0_isSeen_58 : decode cX0_isSeen 58 = .ok (.if_icmp .ge 109, 3) := dk_162 0 109 (dk_at dksX0_isSeen_2 13 rfl rfl)
theorem dX0_isSeen_61 : decode cX0_isSeen 61 = .ok (.iload_n 1, 1) := dk_27 (dk_at dksX0_isSeen_2 16 rfl rfl)
theorem dX0_isSeen_62 : decode cX0_isSeen 62 = .ok (.bipush 12, 2) := dk_16 12 (dk_at dksX0_isSeen_2 17 rfl rfl)
theorem dX0_isSeen_64 : decode cX0_isSeen 64 = .ok (.irem, 1) := dk_112 (dk_at dksX0_isSeen_2 19 rfl rfl)
theorem dX0_isSeen_65 : decode cX0_isSeen 65 = .ok (.iload 6, 2) := dk_21 6 (dk_at dksX0_isSeen_2 20 rfl rfl)
theorem dX0_isSeen_67 : decode cX0_isSeen 67 = .ok (.ifCond .eq 13, 3) := dk_153 0 13 (dk_at dksX0_isSeen_3 0 rfl rfl)
theorem dX0_isSeen_70 : decode cX0_isSeen 70 = .ok (.iload 7, 2) := dk_21 7 (dk_at dksX0_isSeen_3 3 rfl rfl)
theorem dX0_isSeen_72 : decode cX0_isSeen 72 = .ok (.iload_n 3, 1) := dk_29 (dk_at dksX0_isSeen_3 5 rfl rfl)
theorem dX0_isSeen_73 : decode cX0_isSeen 73 = .ok (.invokestatic 343, 3) := dk_184 1 87 (dk_at dksX0_isSeen_3 6 rfl rfl)
theorem dX0_isSeen_76 : decode cX0_isSeen 76 = .ok (.imul, 1) := dk_104 (dk_at dksX0_isSeen_3 9 rfl rfl)
theorem dX0_isSeen_77 : decode cX0_isSeen 77 = .ok (.goto 19, 3) := dk_167 0 19 (dk_at dksX0_isSeen_3 10 rfl rfl)
theorem dX0_isSeen_80 : decode cX0_isSeen 80 = .ok (.iconst 2, 1) := dk_5 (dk_at dksX0_isSeen_3 13 rfl rfl)
theorem dX0_isSeen_81 : decode cX0_isSeen 81 = .ok (.iload 7, 2) := dk_21 7 (dk_at dksX0_isSeen_3 14 rfl rfl)
theorem dX0_isSeen_83 : decode cX0_isSeen 83 = .ok (.imul, 1) := dk_104 (dk_at dksX0_isSeen_3 16 rfl rfl)
theorem dX0_isSeen_84 : decode cX0_isSeen 84 = .ok (.iload_n 3, 1) := dk_29 (dk_at dksX0_isSeen_3 17 rfl rfl)
theorem dX0_isSeen_85 : decode cX0_isSeen 85 = .ok (.imul, 1) := dk_104 (dk_at dksX0_isSeen_3 18 rfl rfl)
theorem dX0_isSeen_86 : decode cX0_isSeen 86 = .ok (.iload 5, 2) := dk_21 5 (dk_at dksX0_isSeen_3 19 rfl rfl)
theorem dX0_isSeen_88 : decode cX0_isSeen 88 = .ok (.iadd, 1) := dk_96 (dk_at dksX0_isSeen_3 21 rfl rfl)
theorem dX0_isSeen_89 : decode cX0_isSeen 89 = .ok (.iconst 2, 1) := dk_5 (dk_at dksX0_isSeen_3 22 rfl rfl)
theorem dX0_isSeen_90 : decode cX0_isSeen 90 = .ok (.iload 5, 2) := dk_21 5 (dk_at dksX0_isSeen_4 0 rfl rfl)
theorem dX0_isSeen_92 : decode cX0_isSeen 92 = .ok (.imul, 1) := dk_104 (dk_at dksX0_isSeen_4 2 rfl rfl)
theorem dX0_isSeen_93 : decode cX0_isSeen 93 = .ok (.invokestatic 346, 3) := dk_184 1 90 (dk_at dksX0_isSeen_4 3 rfl rfl)
theorem dX0_isSeen_96 : decode cX0_isSeen 96 = .ok (.iadd, 1) := dk_96 (dk_at dksX0_isSeen_4 6 rfl rfl)
theorem dX0_isSeen_97 : decode cX0_isSeen 97 = .ok (.istore 8, 2) := dk_54 8 (dk_at dksX0_isSeen_4 7 rfl rfl)
theorem dX0_isSeen_99 : decode cX0_isSeen 99 = .ok (.iload_n 1, 1) := dk_27 (dk_at dksX0_isSeen_4 9 rfl rfl)
theorem dX0_isSeen_100 : decode cX0_isSeen 100 = .ok (.bipush 12, 2) := dk_16 12 (dk_at dksX0_isSeen_4 10 rfl rfl)
theorem dX0_isSeen_102 : decode cX0_isSeen 102 = .ok (.idiv, 1) := dk_108 (dk_at dksX0_isSeen_4 12 rfl rfl)
theorem dX0_isSeen_103 : decode cX0_isSeen 103 = .ok (.iload 6, 2) := dk_21 6 (dk_at dksX0_isSeen_4 13 rfl rfl)
theorem dX0_isSeen_105 : decode cX0_isSeen 105 = .ok (.ifCond .eq 23, 3) := dk_153 0 23 (dk_at dksX0_isSeen_4 15 rfl rfl)
theorem dX0_isSeen_108 : decode cX0_isSeen 108 = .ok (.iconst 2, 1) := dk_5 (dk_at dksX0_isSeen_4 18 rfl rfl)
theorem dX0_isSeen_109 : decode cX0_isSeen 109 = .ok (.iload 7, 2) := dk_21 7 (dk_at dksX0_isSeen_4 19 rfl rfl)
theorem dX0_isSeen_111 : decode cX0_isSeen 111 = .ok (.imul, 1) := dk_104 (dk_at dksX0_isSeen_4 21 rfl rfl)
theorem dX0_isSeen_112 : decode cX0_isSeen 112 = .ok (.iload 4, 2) := dk_21 4 (dk_at dksX0_isSeen_4 22 rfl rfl)
theorem dX0_isSeen_114 : decode cX0_isSeen 114 = .ok (.imul, 1) := dk_104 (dk_at dksX0_isSeen_5 0 rfl rfl)
theorem dX0_isSeen_115 : decode cX0_isSeen 115 = .ok (.iload 5, 2) := dk_21 5 (dk_at dksX0_isSeen_5 1 rfl rfl)
theorem dX0_isSeen_117 : decode cX0_isSeen 117 = .ok (.iadd, 1) := dk_96 (dk_at dksX0_isSeen_5 3 rfl rfl)
theorem dX0_isSeen_118 : decode cX0_isSeen 118 = .ok (.iconst 2, 1) := dk_5 (dk_at dksX0_isSeen_5 4 rfl rfl)
theorem dX0_isSeen_119 : decode cX0_isSeen 119 = .ok (.iload 5, 2) := dk_21 5 (dk_at dksX0_isSeen_5 5 rfl rfl)
theorem dX0_isSeen_121 : decode cX0_isSeen 121 = .ok (.imul, 1) := dk_104 (dk_at dksX0_isSeen_5 7 rfl rfl)
theorem dX0_isSeen_122 : decode cX0_isSeen 122 = .ok (.invokestatic 346, 3) := dk_184 1 90 (dk_at dksX0_isSeen_5 8 rfl rfl)
theorem dX0_isSeen_125 : decode cX0_isSeen 125 = .ok (.goto 11, 3) := dk_167 0 11 (dk_at dksX0_isSeen_5 11 rfl rfl)
theorem dX0_isSeen_128 : decode cX0_isSeen 128 = .ok (.iload 7, 2) := dk_21 7 (dk_at dksX0_isSeen_5 14 rfl rfl)
theorem dX0_isSeen_130 : decode cX0_isSeen 130 = .ok (.iload 4, 2) := dk_21 4 (dk_at dksX0_isSeen_5 16 rfl rfl)
theorem dX0_isSeen_132 : decode cX0_isSeen 132 = .ok (.invokestatic 343, 3) := dk_184 1 87 (dk_at dksX0_isSeen_5 18 rfl rfl)
theorem dX0_isSeen_135 : decode cX0_isSeen 135 = .ok (.imul, 1) := dk_104 (dk_at dksX0_isSeen_5 21 rfl rfl)
theorem dX0_isSeen_136 : decode cX0_isSeen 136 = .ok (.iadd, 1) := dk_96 (dk_at dksX0_isSeen_5 22 rfl rfl)
theorem dX0_isSeen_137 : decode cX0_isSeen 137 = .ok (.istore 9, 2) := dk_54 9 (dk_at dksX0_isSeen_6 0 rfl rfl)
theorem dX0_isSeen_139 : decode cX0_isSeen 139 = .ok (.aload_n 0, 1) := dk_42 (dk_at dksX0_isSeen_6 2 rfl rfl)
theorem dX0_isSeen_140 : decode cX0_isSeen 140 = .ok (.getfield 20, 3) := dk_180 0 20 (dk_at dksX0_isSeen_6 3 rfl rfl)
theorem dX0_isSeen_143 : decode cX0_isSeen 143 = .ok (.getfield 219, 3) := dk_180 0 219 (dk_at dksX0_isSeen_6 6 rfl rfl)
theorem dX0_isSeen_146 : decode cX0_isSeen 146 = .ok (.bipush 12, 2) := dk_16 12 (dk_at dksX0_isSeen_6 9 rfl rfl)
theorem dX0_isSeen_148 : decode cX0_isSeen 148 = .ok (.iload 9, 2) := dk_21 9 (dk_at dksX0_isSeen_6 11 rfl rfl)
theorem dX0_isSeen_150 : decode cX0_isSeen 150 = .ok (.imul, 1) := dk_104 (dk_at dksX0_isSeen_6 13 rfl rfl)
theorem dX0_isSeen_151 : decode cX0_isSeen 151 = .ok (.iload 8, 2) := dk_21 8 (dk_at dksX0_isSeen_6 14 rfl rfl)
theorem dX0_isSeen_153 : decode cX0_isSeen 153 = .ok (.iadd, 1) := dk_96 (dk_at dksX0_isSeen_6 16 rfl rfl)
theorem dX0_isSeen_154 : decode cX0_isSeen 154 = .ok (.iaload, 1) := dk_46 (dk_at dksX0_isSeen_6 17 rfl rfl)
theorem dX0_isSeen_155 : decode cX0_isSeen 155 = .ok (.iconst 1, 1) := dk_4 (dk_at dksX0_isSeen_6 18 rfl rfl)
theorem dX0_isSeen_156 : decode cX0_isSeen 156 = .ok (.if_icmp .ne 5, 3) := dk_160 0 5 (dk_at dksX0_isSeen_6 19 rfl rfl)
theorem dX0_isSeen_159 : decode cX0_isSeen 159 = .ok (.iconst 0, 1) := dk_3 (dk_at dksX0_isSeen_6 22 rfl rfl)
theorem dX0_isSeen_160 : decode cX0_isSeen 160 = .ok (.ireturn, 1) := dk_172 (dk_at dksX0_isSeen_6 23 rfl rfl)
theorem dX0_isSeen_161 : decode cX0_isSeen 161 = .ok (.iinc 7 1, 3) := dk_132 7 1 (dk_at dksX0_isSeen_7 0 rfl rfl)
theorem dX0_isSeen_164 : decode cX0_isSeen 164 = .ok (.goto (-110), 3) := dk_167 255 146 (dk_at dksX0_isSeen_7 3 rfl rfl)
theorem dX0_isSeen_167 : decode cX0_isSeen 167 = .ok (.iconst 1, 1) := dk_4 (dk_at dksX0_isSeen_7 6 rfl rfl)
theorem dX0_isSeen_168 : decode cX0_isSeen 168 = .ok (.ireturn, 1) := dk_172 (dk_at dksX0_isSeen_7 7 rfl rfl)
abbrev cX0_known : ByteArray := prog_1_method_41_code
def yX0_known : MethodName := ⟨RX0, "known", "(II)I"⟩
def dkwX0_known_2 : List UInt8 := [180, 1, 96, 27, 50, 28, 3, 182, 1, 105, 167, 0, 4, 2, 172]
abbrev dktX0_known_2 : List UInt8 := dkwX0_known_2 ++ []
def dkwX0_known_1 : List UInt8 := [180, 1, 96, 27, 50, 182, 1, 100, 167, 0, 30, 28, 3, 5, 184, 0, 110, 153, 0, 20, 42, 180, 0, 20]
abbrev dktX0_known_1 : List UInt8 := dkwX0_known_1 ++ dktX0_known_2
def dkwX0_known_0 : List UInt8 := [27, 3, 4, 184, 0, 110, 154, 0, 7, 2, 167, 0, 50, 28, 2, 160, 0, 18, 42, 180, 0, 20]
abbrev dktX0_known_0 : List UInt8 := dkwX0_known_0 ++ dktX0_known_1
theorem dksX0_known_0 : cX0_known.data.toList.drop 0 = dktX0_known_0 := by decide +kernel
theorem dksX0_known_1 : cX0_known.data.toList.drop 22 = dktX0_known_1 := dk_seg dksX0_known_0 22 rfl rfl
theorem dksX0_known_2 : cX0_known.data.toList.drop 46 = dktX0_known_2 := dk_seg dksX0_known_1 24 rfl rfl
theorem dX0_known_0 : decode cX0_known 0 = .ok (.iload_n 1, 1) := dk_27 (dk_at dksX0_known_0 0 rfl rfl)
theorem dX0_known_1 : decode cX0_known 1 = .ok (.iconst 0, 1) := dk_3 (dk_at dksX0_known_0 1 rfl rfl)
theorem dX0_known_2 : decode cX0_known 2 = .ok (.iconst 1, 1) := dk_4 (dk_at dksX0_known_0 2 rfl rfl)
theorem dX0_known_3 : decode cX0_known 3 = .ok (.invokestatic 110, 3) := dk_184 0 110 (dk_at dksX0_known_0 3 rfl rfl)
theorem dX0_known_6 : decode cX0_known 6 = .ok (.ifCond .ne 7, 3) := dk_154 0 7 (dk_at dksX0_known_0 6 rfl rfl)
theorem dX0_known_9 : decode cX0_known 9 = .ok (.iconst (-1), 1) := dk_2 (dk_at dksX0_known_0 9 rfl rfl)
theorem dX0_known_10 : decode cX0_known 10 = .ok (.goto 50, 3) := dk_167 0 50 (dk_at dksX0_known_0 10 rfl rfl)
theorem dX0_known_13 : decode cX0_known 13 = .ok (.iload_n 2, 1) := dk_28 (dk_at dksX0_known_0 13 rfl rfl)
theorem dX0_known_14 : decode cX0_known 14 = .ok (.iconst (-1), 1) := dk_2 (dk_at dksX0_known_0 14 rfl rfl)
theorem dX0_known_15 : decode cX0_known 15 = .ok (.if_icmp .ne 18, 3) := dk_160 0 18 (dk_at dksX0_known_0 15 rfl rfl)
theorem dX0_known_18 : decode cX0_known 18 = .ok (.aload_n 0, 1) := dk_42 (dk_at dksX0_known_0 18 rfl rfl)
theorem dX0_known_19 : decode cX0_known 19 = .ok (.getfield 20, 3) := dk_180 0 20 (dk_at dksX0_known_0 19 rfl rfl)
theorem dX0_known_22 : decode cX0_known 22 = .ok (.getfield 352, 3) := dk_180 1 96 (dk_at dksX0_known_1 0 rfl rfl)
theorem dX0_known_25 : decode cX0_known 25 = .ok (.iload_n 1, 1) := dk_27 (dk_at dksX0_known_1 3 rfl rfl)
theorem dX0_known_26 : decode cX0_known 26 = .ok (.aaload, 1) := dk_50 (dk_at dksX0_known_1 4 rfl rfl)
theorem dX0_known_27 : decode cX0_known 27 = .ok (.invokevirtual 356, 3) := dk_182 1 100 (dk_at dksX0_known_1 5 rfl rfl)
theorem dX0_known_30 : decode cX0_known 30 = .ok (.goto 30, 3) := dk_167 0 30 (dk_at dksX0_known_1 8 rfl rfl)
theorem dX0_known_33 : decode cX0_known 33 = .ok (.iload_n 2, 1) := dk_28 (dk_at dksX0_known_1 11 rfl rfl)
theorem dX0_known_34 : decode cX0_known 34 = .ok (.iconst 0, 1) := dk_3 (dk_at dksX0_known_1 12 rfl rfl)
theorem dX0_known_35 : decode cX0_known 35 = .ok (.iconst 2, 1) := dk_5 (dk_at dksX0_known_1 13 rfl rfl)
theorem dX0_known_36 : decode cX0_known 36 = .ok (.invokestatic 110, 3) := dk_184 0 110 (dk_at dksX0_known_1 14 rfl rfl)
theorem dX0_known_39 : decode cX0_known 39 = .ok (.ifCond .eq 20, 3) := dk_153 0 20 (dk_at dksX0_known_1 17 rfl rfl)
theorem dX0_known_42 : decode cX0_known 42 = .ok (.aload_n 0, 1) := dk_42 (dk_at dksX0_known_1 20 rfl rfl)
theorem dX0_known_43 : decode cX0_known 43 = .ok (.getfield 20, 3) := dk_180 0 20 (dk_at dksX0_known_1 21 rfl rfl)
theorem dX0_known_46 : decode cX0_known 46 = .ok (.getfield 352, 3) := dk_180 1 96 (dk_at dksX0_known_2 0 rfl rfl)
theorem dX0_known_49 : decode cX0_known 49 = .ok (.iload_n 1, 1) := dk_27 (dk_at dksX0_known_2 3 rfl rfl)
theorem dX0_known_50 : decode cX0_known 50 = .ok (.aaload, 1) := dk_50 (dk_at dksX0_known_2 4 rfl rfl)
theorem dX0_known_51 : decode cX0_known 51 = .ok (.iload_n 2, 1) := dk_28 (dk_at dksX0_known_2 5 rfl rfl)
theorem dX0_known_52 : decode cX0_known 52 = .ok (.iconst 0, 1) := dk_3 (dk_at dksX0_known_2 6 rfl rfl)
theorem dX0_known_53 : decode cX0_known 53 = .ok (.invokevirtual 361, 3) := dk_182 1 105 (dk_at dksX0_known_2 7 rfl rfl)
theorem dX0_known_56 : decode cX0_known 56 = .ok (.goto 4, 3) := dk_167 0 4 (dk_at dksX0_known_2 10 rfl rfl)
theorem dX0_known_59 : decode cX0_known 59 = .ok (.iconst (-1), 1) := dk_2 (dk_at dksX0_known_2 13 rfl rfl)
theorem dX0_known_60 : decode cX0_known 60 = .ok (.ireturn, 1) := dk_172 (dk_at dksX0_known_2 14 rfl rfl)
