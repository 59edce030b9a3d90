set_option maxRecDepth 100000
/-! WindingSquare$Square -/
def RX1 : String := "WindingSquare$Square"
def TX1 : u_T := fun k => match k with
  | 0 => ("WindingSquare$Square", "cell", "[I", true)
  | 1 => ("WindingSquare$Square", "walker", "[LWindingSquare$Walker;", true)
  | 2 => ("WindingSquare$Square", "ahead", "LWindingSquare$Step;", true)
  | 3 => ("WindingSquare$Square", "book", "[[I", true)
  | 4 => ("WindingSquare$Square", "known", "[LWindingSquare$Rows;", true)
  | 5 => ("WindingSquare$Square", "moved", "LWindingSquare$Rows;", true)
  | 6 => ("WindingSquare$Square", "gaps", "LWindingSquare$Rows;", true)
  | 7 => ("WindingSquare$Square", "law", "Ljava/util/ArrayList;", false)
  | 8 => ("WindingSquare$Square", "way", "Ljava/util/ArrayList;", false)
  | 9 => ("WindingSquare$Square", "watches", "Ljava/util/ArrayList;", false)
  | 10 => ("WindingSquare$Square", "walkers", "I", false)
  | 11 => ("WindingSquare$Square", "minute", "I", false)
  | 12 => ("WindingSquare$Square", "paid", "I", false)
  | 13 => ("WindingSquare$Square", "state", "I", false)
  | 14 => ("WindingSquare$Square", "lines", "I", false)
  | 15 => ("WindingSquare$Square", "stoneLines", "I", false)
  | 16 => ("WindingSquare$Square", "wayLines", "I", false)
  | 17 => ("WindingSquare$Square", "isThought", "Z", false)
  | _ => ("WindingSquare$Square", "asked", "LWindingSquare$Walker;", false)
def tyX1 : Nat → FieldType := fun k => match k with
  | 0 => .array .int
  | 1 => .array (.object "WindingSquare$Walker")
  | 2 => .object "WindingSquare$Step"
  | 3 => .array (.array .int)
  | 4 => .array (.object "WindingSquare$Rows")
  | 5 => .object "WindingSquare$Rows"
  | 6 => .object "WindingSquare$Rows"
  | 7 => .object "java/util/ArrayList"
  | 8 => .object "java/util/ArrayList"
  | 9 => .object "java/util/ArrayList"
  | 10 => .int
  | 11 => .int
  | 12 => .int
  | 13 => .int
  | 14 => .int
  | 15 => .int
  | 16 => .int
  | 17 => .boolean
  | _ => .object "WindingSquare$Walker"
abbrev wsX10 : List Cond := u_ws RX1 TX1 19
set_option maxRecDepth 100000 in
theorem nmX1 : ∀ a, a < 19 → ∀ b, b < 19 → a ≠ b → (TX1 a).2.1 ≠ (TX1 b).2.1 := by decide +kernel
set_option maxRecDepth 100000 in
theorem tyX1_ok : ∀ k, k < 19 → parseFieldDescriptor (TX1 k).2.2.1 = some (tyX1 k) := by decide +kernel
abbrev cX1_init : ByteArray := prog_11_method_1_code
def yX1_init : MethodName := ⟨RX1, "<init>", "()V"⟩
def dkwX1_init_8 : List UInt8 := [132, 1, 1, 167, 255, 210, 177]
abbrev dktX1_init_8 : List UInt8 := dkwX1_init_8 ++ []
def dkwX1_init_7 : List UInt8 := [42, 180, 0, 17, 27, 50, 182, 0, 65, 42, 180, 0, 58, 187, 0, 51, 89, 183, 0, 53, 182, 0, 68, 87]
abbrev dktX1_init_7 : List UInt8 := dkwX1_init_7 ++ dktX1_init_8
def dkwX1_init_6 : List UInt8 := [181, 0, 61, 3, 60, 27, 16, 16, 162, 0, 46, 42, 180, 0, 17, 27, 187, 0, 15, 89, 183, 0, 64, 83]
abbrev dktX1_init_6 : List UInt8 := dkwX1_init_6 ++ dktX1_init_7
def dkwX1_init_5 : List UInt8 := [181, 0, 54, 42, 187, 0, 51, 89, 183, 0, 53, 181, 0, 58, 42, 187, 0, 51, 89, 183, 0, 53]
abbrev dktX1_init_5 : List UInt8 := dkwX1_init_5 ++ dktX1_init_6
def dkwX1_init_4 : List UInt8 := [181, 0, 44, 42, 187, 0, 35, 89, 16, 8, 183, 0, 37, 181, 0, 48, 42, 187, 0, 51, 89, 183, 0, 53]
abbrev dktX1_init_4 : List UInt8 := dkwX1_init_4 ++ dktX1_init_5
def dkwX1_init_3 : List UInt8 := [187, 0, 35, 89, 16, 12, 183, 0, 37, 83, 181, 0, 40, 42, 187, 0, 35, 89, 16, 24, 183, 0, 37]
abbrev dktX1_init_3 : List UInt8 := dkwX1_init_3 ++ dktX1_init_4
def dkwX1_init_2 : List UInt8 := [181, 0, 32, 42, 5, 189, 0, 35, 89, 3, 187, 0, 35, 89, 16, 12, 183, 0, 37, 83, 89, 4]
abbrev dktX1_init_2 : List UInt8 := dkwX1_init_2 ++ dktX1_init_3
def dkwX1_init_1 : List UInt8 := [187, 0, 21, 89, 4, 4, 3, 183, 0, 23, 181, 0, 26, 42, 17, 0, 150, 7, 197, 0, 30, 2]
abbrev dktX1_init_1 : List UInt8 := dkwX1_init_1 ++ dktX1_init_2
def dkwX1_init_0 : List UInt8 := [42, 183, 0, 3, 42, 17, 0, 144, 188, 10, 181, 0, 9, 42, 16, 16, 189, 0, 15, 181, 0, 17, 42]
abbrev dktX1_init_0 : List UInt8 := dkwX1_init_0 ++ dktX1_init_1
theorem dksX1_init_0 : cX1_init.data.toList.drop 0 = dktX1_init_0 := by decide +kernel
theorem dksX1_init_1 : cX1_init.data.toList.drop 23 = dktX1_init_1 := dk_seg dksX1_init_0 23 rfl rfl
theorem dksX1_init_2 : cX1_init.data.toList.drop 45 = dktX1_init_2 := dk_seg dksX1_init_1 22 rfl rfl
theorem dksX1_init_3 : cX1_init.data.toList.drop 67 = dktX1_init_3 := dk_seg dksX1_init_2 22 rfl rfl
theorem dksX1_init_4 : cX1_init.data.toList.drop 90 = dktX1_init_4 := dk_seg dksX1_init_3 23 rfl rfl
theorem dksX1_init_5 : cX1_init.data.toList.drop 114 = dktX1_init_5 := dk_seg dksX1_init_4 24 rfl rfl
theorem dksX1_init_6 : cX1_init.data.toList.drop 136 = dktX1_init_6 := dk_seg dksX1_init_5 22 rfl rfl
theorem dksX1_init_7 : cX1_init.data.toList.drop 160 = dktX1_init_7 := dk_seg dksX1_init_6 24 rfl rfl
theorem dksX1_init_8 : cX1_init.data.toList.drop 184 = dktX1_init_8 := dk_seg dksX1_init_7 24 rfl rfl
theorem dX1_init_0 : decode cX1_init 0 = .ok (.aload_n 0, 1) := dk_42 (dk_at dksX1_init_0 0 rfl rfl)
theorem dX1_init_1 : decode cX1_init 1 = .ok (.invokespecial 3, 3) := dk_183 0 3 (dk_at dksX1_init_0 1 rfl rfl)
theorem dX1_init_4 : decode cX1_init 4 = .ok (.aload_n 0, 1) := dk_42 (dk_at dksX1_init_0 4 rfl rfl)
theorem dX1_init_5 : decode cX1_init 5 = .ok (.sipush 144, 3) := dk_17 0 144 (dk_at dksX1_init_0 5 rfl rfl)
theorem dX1_init_8 : decode cX1_init 8 = .ok (.newarray .int, 2) := dk_188_10 (dk_at dksX1_init_0 8 rfl rfl)
theorem dX1_init_10 : decode cX1_init 10 = .ok (.putfield 9, 3) := dk_181 0 9 (dk_at dksX1_init_0 10 rfl rfl)
theorem dX1_init_13 : decode cX1_init 13 = .ok (.aload_n 0, 1) := dk_42 (dk_at dksX1_init_0 13 rfl rfl)
theorem dX1_init_14 : decode cX1_init 14 = .ok (.bipush 16, 2) := dk_16 16 (dk_at dksX1_init_0 14 rfl rfl)
theorem dX1_init_16 : decode cX1_init 16 = .ok (.anewarray 15, 3) := dk_189 0 15 (dk_at dksX1_init_0 16 rfl rfl)
theorem dX1_init_19 : decode cX1_init 19 = .ok (.putfield 17, 3) := dk_181 0 17 (dk_at dksX1_init_0 19 rfl rfl)
theorem dX1_init_22 : decode cX1_init 22 = .ok (.aload_n 0, 1) := dk_42 (dk_at dksX1_init_0 22 rfl rfl)
theorem dX1_init_23 : decode cX1_init 23 = .ok (.new 21, 3) := dk_187 0 21 (dk_at dksX1_init_1 0 rfl rfl)
theorem dX1_init_26 : decode cX1_init 26 = .ok (.dup, 1) := dk_89 (dk_at dksX1_init_1 3 rfl rfl)
theorem dX1_init_27 : decode cX1_init 27 = .ok (.iconst 1, 1) := dk_4 (dk_at dksX1_init_1 4 rfl rfl)
theorem dX1_init_28 : decode cX1_init 28 = .ok (.iconst 1, 1) := dk_4 (dk_at dksX1_init_1 5 rfl rfl)
theorem dX1_init_29 : decode cX1_init 29 = .ok (.iconst 0, 1) := dk_3 (dk_at dksX1_init_1 6 rfl rfl)
theorem dX1_init_30 : decode cX1_init 30 = .ok (.invokespecial 23, 3) := dk_183 0 23 (dk_at dksX1_init_1 7 rfl rfl)
theorem dX1_init_33 : decode cX1_init 33 = .ok (.putfield 26, 3) := dk_181 0 26 (dk_at dksX1_init_1 10 rfl rfl)
theorem dX1_init_36 : decode cX1_init 36 = .ok (.aload_n 0, 1) := dk_42 (dk_at dksX1_init_1 13 rfl rfl)
theorem dX1_init_37 : decode cX1_init 37 = .ok (.sipush 150, 3) := dk_17 0 150 (dk_at dksX1_init_1 14 rfl rfl)
theorem dX1_init_40 : decode cX1_init 40 = .ok (.iconst 4, 1) := dk_7 (dk_at dksX1_init_1 17 rfl rfl)
theorem dX1_init_41 : decode cX1_init 41 = .ok (.multianewarray 30 2, 4) := by decide +kernel
theorem dX1_init_45 : decode cX1_init 45 = .ok (.putfield 32, 3) := dk_181 0 32 (dk_at dksX1_init_2 0 rfl rfl)
theorem dX1_init_48 : decode cX1_init 48 = .ok (.aload_n 0, 1) := dk_42 (dk_at dksX1_init_2 3 rfl rfl)
theorem dX1_init_49 : decode cX1_init 49 = .ok (.iconst 2, 1) := dk_5 (dk_at dksX1_init_2 4 rfl rfl)
theorem dX1_init_50 : decode cX1_init 50 = .ok (.anewarray 35, 3) := dk_189 0 35 (dk_at dksX1_init_2 5 rfl rfl)
theorem dX1_init_53 : decode cX1_init 53 = .ok (.dup, 1) := dk_89 (dk_at dksX1_init_2 8 rfl rfl)
theorem dX1_init_54 : decode cX1_init 54 = .ok (.iconst 0, 1) := dk_3 (dk_at dksX1_init_2 9 rfl rfl)
theorem dX1_init_55 : decode cX1_init 55 = .ok (.new 35, 3) := dk_187 0 35 (dk_at dksX1_init_2 10 rfl rfl)
theorem dX1_init_58 : decode cX1_init 58 = .ok (.dup, 1) := dk_89 (dk_at dksX1_init_2 13 rfl rfl)
theorem dX1_init_59 : decode cX1_init 59 = .ok (.bipush 12, 2) := dk_16 12 (dk_at dksX1_init_2 14 rfl rfl)
theorem dX1_init_61 : decode cX1_init 61 = .ok (.invokespecial 37, 3) := dk_183 0 37 (dk_at dksX1_init_2 16 rfl rfl)
theorem dX1_init_64 : decode cX1_init 64 = .ok (.aastore, 1) := dk_83 (dk_at dksX1_init_2 19 rfl rfl)
theorem dX1_init_65 : decode cX1_init 65 = .ok (.dup, 1) := dk_89 (dk_at dksX1_init_2 20 rfl rfl)
theorem dX1_init_66 : decode cX1_init 66 = .ok (.iconst 1, 1) := dk_4 (dk_at dksX1_init_2 21 rfl rfl)
theorem dX1_init_67 : decode cX1_init 67 = .ok (.new 35, 3) := dk_187 0 35 (dk_at dksX1_init_3 0 rfl rfl)
theorem dX1_init_70 : decode cX1_init 70 = .ok (.dup, 1) := dk_89 (dk_at dksX1_init_3 3 rfl rfl)
theorem dX1_init_71 : decode cX1_init 71 = .ok (.bipush 12, 2) := dk_16 12 (dk_at dksX1_init_3 4 rfl rfl)
theorem dX1_init_73 : decode cX1_init 73 = .ok (.invokespecial 37, 3) := dk_183 0 37 (dk_at dksX1_init_3 6 rfl rfl)
theorem dX1_init_76 : decode cX1_init 76 = .ok (.aastore, 1) := dk_83 (dk_at dksX1_init_3 9 rfl rfl)
theorem dX1_init_77 : decode cX1_init 77 = .ok (.putfield 40, 3) := dk_181 0 40 (dk_at dksX1_init_3 10 rfl rfl)
theorem dX1_init_80 : decode cX1_init 80 = .ok (.aload_n 0, 1) := dk_42 (dk_at dksX1_init_3 13 rfl rfl)
theorem dX1_init_81 : decode cX1_init 81 = .ok (.new 35, 3) := dk_187 0 35 (dk_at dksX1_init_3 14 rfl rfl)
theorem dX1_init_84 : decode cX1_init 84 = .ok (.dup, 1) := dk_89 (dk_at dksX1_init_3 17 rfl rfl)
theorem dX1_init_85 : decode cX1_init 85 = .ok (.bipush 24, 2) := dk_16 24 (dk_at dksX1_init_3 18 rfl rfl)
theorem dX1_init_87 : decode cX1_init 87 = .ok (.invokespecial 37, 3) := dk_183 0 37 (dk_at dksX1_init_3 20 rfl rfl)
theorem dX1_init_90 : decode cX1_init 90 = .ok (.putfield 44, 3) := dk_181 0 44 (dk_at dksX1_init_4 0 rfl rfl)
theorem dX1_init_93 : decode cX1_init 93 = .ok (.aload_n 0, 1) := dk_42 (dk_at dksX1_init_4 3 rfl rfl)
theorem dX1_init_94 : decode cX1_init 94 = .ok (.new 35, 3) := dk_187 0 35 (dk_at dksX1_init_4 4 rfl rfl)
theorem dX1_init_97 : decode cX1_init 97 = .ok (.dup, 1) := dk_89 (dk_at dksX1_init_4 7 rfl rfl)
theorem dX1_init_98 : decode cX1_init 98 = .ok (.bipush 8, 2) := dk_16 8 (dk_at dksX1_init_4 8 rfl rfl)
theorem dX1_init_100 : decode cX1_init 100 = .ok (.invokespecial 37, 3) := dk_183 0 37 (dk_at dksX1_init_4 10 rfl rfl)
theorem dX1_init_103 : decode cX1_init 103 = .ok (.putfield 48, 3) := dk_181 0 48 (dk_at dksX1_init_4 13 rfl rfl)
theorem dX1_init_106 : decode cX1_init 106 = .ok (.aload_n 0, 1) := dk_42 (dk_at dksX1_init_4 16 rfl rfl)
theorem dX1_init_107 : decode cX1_init 107 = .ok (.new 51, 3) := dk_187 0 51 (dk_at dksX1_init_4 17 rfl rfl)
theorem dX1_init_110 : decode cX1_init 110 = .ok (.dup, 1) := dk_89 (dk_at dksX1_init_4 20 rfl rfl)
theorem dX1_init_111 : decode cX1_init 111 = .ok (.invokespecial 53, 3) := dk_183 0 53 (dk_at dksX1_init_4 21 rfl rfl)
theorem dX1_init_114 : decode cX1_init 114 = .ok (.putfield 54, 3) := dk_181 0 54 (dk_at dksX1_init_5 0 rfl rfl)
theorem dX1_init_117 : decode cX1_init 117 = .ok (.aload_n 0, 1) := dk_42 (dk_at dksX1_init_5 3 rfl rfl)
theorem dX1_init_118 : decode cX1_init 118 = .ok (.new 51, 3) := dk_187 0 51 (dk_at dksX1_init_5 4 rfl rfl)
theorem dX1_init_121 : decode cX1_init 121 = .ok (.dup, 1) := dk_89 (dk_at dksX1_init_5 7 rfl rfl)
theorem dX1_init_122 : decode cX1_init 122 = .ok (.invokespecial 53, 3) := dk_183 0 53 (dk_at dksX1_init_5 8 rfl rfl)
theorem dX1_init_125 : decode cX1_init 125 = .ok (.putfield 58, 3) := dk_181 0 58 (dk_at dksX1_init_5 11 rfl rfl)
theorem dX1_init_128 : decode cX1_init 128 = .ok (.aload_n 0, 1) := dk_42 (dk_at dksX1_init_5 14 rfl rfl)
theorem dX1_init_129 : decode cX1_init 129 = .ok (.new 51, 3) := dk_187 0 51 (dk_at dksX1_init_5 15 rfl rfl)
theorem dX1_init_132 : decode cX1_init 132 = .ok (.dup, 1) := dk_89 (dk_at dksX1_init_5 18 rfl rfl)
theorem dX1_init_133 : decode cX1_init 133 = .ok (.invokespecial 53, 3) := dk_183 0 53 (dk_at dksX1_init_5 19 rfl rfl)
theorem dX1_init_136 : decode cX1_init 136 = .ok (.putfield 61, 3) := dk_181 0 61 (dk_at dksX1_init_6 0 rfl rfl)
theorem dX1_init_139 : decode cX1_init 139 = .ok (.iconst 0, 1) := dk_3 (dk_at dksX1_init_6 3 rfl rfl)
theorem dX1_init_140 : decode cX1_init 140 = .ok (.istore_n 1, 1) := dk_60 (dk_at dksX1_init_6 4 rfl rfl)
theorem dX1_init_141 : decode cX1_init 141 = .ok (.iload_n 1, 1) := dk_27 (dk_at dksX1_init_6 5 rfl rfl)
theorem dX1_init_142 : decode cX1_init 142 = .ok (.bipush 16, 2) := dk_16 16 (dk_at dksX1_init_6 6 rfl rfl)
theorem dX1_init_144 : decode cX1_init 144 = .ok (.if_icmp .ge 46, 3) := dk_162 0 46 (dk_at dksX1_init_6 8 rfl rfl)
theorem dX1_init_147 : decode cX1_init 147 = .ok (.aload_n 0, 1) := dk_42 (dk_at dksX1_init_6 11 rfl rfl)
theorem dX1_init_148 : decode cX1_init 148 = .ok (.getfield 17, 3) := dk_180 0 17 (dk_at dksX1_init_6 12 rfl rfl)
theorem dX1_init_151 : decode cX1_init 151 = .ok (.iload_n 1, 1) := dk_27 (dk_at dksX1_init_6 15 rfl rfl)
theorem dX1_init_152 : decode cX1_init 152 = .ok (.new 15, 3) := dk_187 0 15 (dk_at dksX1_init_6 16 rfl rfl)
theorem dX1_init_155 : decode cX1_init 155 = .ok (.dup, 1) := dk_89 (dk_at dksX1_init_6 19 rfl rfl)
theorem dX1_init_156 : decode cX1_init 156 = .ok (.invokespecial 64, 3) := dk_183 0 64 (dk_at dksX1_init_6 20 rfl rfl)
theorem dX1_init_159 : decode cX1_init 159 = .ok (.aastore, 1) := dk_83 (dk_at dksX1_init_6 23 rfl rfl)
theorem dX1_init_160 : decode cX1_init 160 = .ok (.aload_n 0, 1) := dk_42 (dk_at dksX1_init_7 0 rfl rfl)
theorem dX1_init_161 : decode cX1_init 161 = .ok (.getfield 17, 3) := dk_180 0 17 (dk_at dksX1_init_7 1 rfl rfl)
theorem dX1_init_164 : decode cX1_init 164 = .ok (.iload_n 1, 1) := dk_27 (dk_at dksX1_init_7 4 rfl rfl)
theorem dX1_init_165 : decode cX1_init 165 = .ok (.aaload, 1) := dk_50 (dk_at dksX1_init_7 5 rfl rfl)
theorem dX1_init_166 : decode cX1_init 166 = .ok (.invokevirtual 65, 3) := dk_182 0 65 (dk_at dksX1_init_7 6 rfl rfl)
theorem dX1_init_169 : decode cX1_init 169 = .ok (.aload_n 0, 1) := dk_42 (dk_at dksX1_init_7 9 rfl rfl)
theorem dX1_init_170 : decode cX1_init 170 = .ok (.getfield 58, 3) := dk_180 0 58 (dk_at dksX1_init_7 10 rfl rfl)
theorem dX1_init_173 : decode cX1_init 173 = .ok (.new 51, 3) := dk_187 0 51 (dk_at dksX1_init_7 13 rfl rfl)
theorem dX1_init_176 : decode cX1_init 176 = .ok (.dup, 1) := dk_89 (dk_at dksX1_init_7 16 rfl rfl)
theorem dX1_init_177 : decode cX1_init 177 = .ok (.invokespecial 53, 3) := dk_183 0 53 (dk_at dksX1_init_7 17 rfl rfl)
theorem dX1_init_180 : decode cX1_init 180 = .ok (.invokevirtual 68, 3) := dk_182 0 68 (dk_at dksX1_init_7 20 rfl rfl)
theorem dX1_init_183 : decode cX1_init 183 = .ok (.pop, 1) := dk_87 (dk_at dksX1_init_7 23 rfl rfl)
theorem dX1_init_184 : decode cX1_init 184 = .ok (.iinc 1 1, 3) := dk_132 1 1 (dk_at dksX1_init_8 0 rfl rfl)
theorem dX1_init_187 : decode cX1_init 187 = .ok (.goto (-46), 3) := dk_167 255 210 (dk_at dksX1_init_8 3 rfl rfl)
theorem dX1_init_190 : decode cX1_init 190 = .ok (.return_, 1) := dk_177 (dk_at dksX1_init_8 6 rfl rfl)
abbrev cX1_isLaid : ByteArray := prog_11_method_16_code
def yX1_isLaid : MethodName := ⟨RX1, "isLaid", "([I)V"⟩
def dkwX1_isLaid_3 : List UInt8 := [182, 0, 65, 132, 2, 1, 167, 255, 206, 177]
abbrev dktX1_isLaid_3 : List UInt8 := dkwX1_isLaid_3 ++ []
def dkwX1_isLaid_2 : List UInt8 := [180, 0, 9, 42, 180, 0, 17, 28, 50, 180, 0, 118, 46, 4, 160, 0, 12, 42, 180, 0, 17, 28, 50]
abbrev dktX1_isLaid_2 : List UInt8 := dkwX1_isLaid_2 ++ dktX1_isLaid_3
def dkwX1_isLaid_1 : List UInt8 := [3, 61, 28, 42, 180, 0, 93, 162, 0, 48, 42, 180, 0, 17, 28, 50, 182, 0, 120, 153, 0, 30, 42]
abbrev dktX1_isLaid_1 : List UInt8 := dkwX1_isLaid_1 ++ dktX1_isLaid_2
def dkwX1_isLaid_0 : List UInt8 := [3, 61, 28, 17, 0, 144, 162, 0, 18, 42, 180, 0, 9, 28, 43, 28, 46, 79, 132, 2, 1, 167, 255, 237]
abbrev dktX1_isLaid_0 : List UInt8 := dkwX1_isLaid_0 ++ dktX1_isLaid_1
theorem dksX1_isLaid_0 : cX1_isLaid.data.toList.drop 0 = dktX1_isLaid_0 := by decide +kernel
theorem dksX1_isLaid_1 : cX1_isLaid.data.toList.drop 24 = dktX1_isLaid_1 := dk_seg dksX1_isLaid_0 24 rfl rfl
theorem dksX1_isLaid_2 : cX1_isLaid.data.toList.drop 47 = dktX1_isLaid_2 := dk_seg dksX1_isLaid_1 23 rfl rfl
theorem dksX1_isLaid_3 : cX1_isLaid.data.toList.drop 70 = dktX1_isLaid_3 := dk_seg dksX1_isLaid_2 23 rfl rfl
theorem dX1_isLaid_0 : decode cX1_isLaid 0 = .ok (.iconst 0, 1) := dk_3 (dk_at dksX1_isLaid_0 0 rfl rfl)
theorem dX1_isLaid_1 : decode cX1_isLaid 1 = .ok (.istore_n 2, 1) := dk_61 (dk_at dksX1_isLaid_0 1 rfl rfl)
theorem dX1_isLaid_2 : decode cX1_isLaid 2 = .ok (.iload_n 2, 1) := dk_28 (dk_at dksX1_isLaid_0 2 rfl rfl)
theorem dX1_isLaid_3 : decode cX1_isLaid 3 = .ok (.sipush 144, 3) := dk_17 0 144 (dk_at dksX1_isLaid_0 3 rfl rfl)
theorem dX1_isLaid_6 : decode cX1_isLaid 6 = .ok (.if_icmp .ge 18, 3) := dk_162 0 18 (dk_at dksX1_isLaid_0 6 rfl rfl)
theorem dX1_isLaid_9 : decode cX1_isLaid 9 = .ok (.aload_n 0, 1) := dk_42 (dk_at dksX1_isLaid_0 9 rfl rfl)
theorem dX1_isLaid_10 : decode cX1_isLaid 10 = .ok (.getfield 9, 3) := dk_180 0 9 (dk_at dksX1_isLaid_0 10 rfl rfl)
theorem dX1_isLaid_13 : decode cX1_isLaid 13 = .ok (.iload_n 2, 1) := dk_28 (dk_at dksX1_isLaid_0 13 rfl rfl)
theorem dX1_isLaid_14 : decode cX1_isLaid 14 = .ok (.aload_n 1, 1) := dk_43 (dk_at dksX1_isLaid_0 14 rfl rfl)
theorem dX1_isLaid_15 : decode cX1_isLaid 15 = .ok (.iload_n 2, 1) := dk_28 (dk_at dksX1_isLaid_0 15 rfl rfl)
theorem dX1_isLaid_16 : decode cX1_isLaid 16 = .ok (.iaload, 1) := dk_46 (dk_at dksX1_isLaid_0 16 rfl rfl)
theorem dX1_isLaid_17 : decode cX1_isLaid 17 = .ok (.iastore, 1) := dk_79 (dk_at dksX1_isLaid_0 17 rfl rfl)
theorem dX1_isLaid_18 : decode cX1_isLaid 18 = .ok (.iinc 2 1, 3) := dk_132 2 1 (dk_at dksX1_isLaid_0 18 rfl rfl)
theorem dX1_isLaid_21 : decode cX1_isLaid 21 = .ok (.goto (-19), 3) := dk_167 255 237 (dk_at dksX1_isLaid_0 21 rfl rfl)
theorem dX1_isLaid_24 : decode cX1_isLaid 24 = .ok (.iconst 0, 1) := dk_3 (dk_at dksX1_isLaid_1 0 rfl rfl)
theorem dX1_isLaid_25 : decode cX1_isLaid 25 = .ok (.istore_n 2, 1) := dk_61 (dk_at dksX1_isLaid_1 1 rfl rfl)
theorem dX1_isLaid_26 : decode cX1_isLaid 26 = .ok (.iload_n 2, 1) := dk_28 (dk_at dksX1_isLaid_1 2 rfl rfl)
theorem dX1_isLaid_27 : decode cX1_isLaid 27 = .ok (.aload_n 0, 1) := dk_42 (dk_at dksX1_isLaid_1 3 rfl rfl)
theorem dX1_isLaid_28 : decode cX1_isLaid 28 = .ok (.getfield 93, 3) := dk_180 0 93 (dk_at dksX1_isLaid_1 4 rfl rfl)
theorem dX1_isLaid_31 : decode cX1_isLaid 31 = .ok (.if_icmp .ge 48, 3) := dk_162 0 48 (dk_at dksX1_isLaid_1 7 rfl rfl)
theorem dX1_isLaid_34 : decode cX1_isLaid 34 = .ok (.aload_n 0, 1) := dk_42 (dk_at dksX1_isLaid_1 10 rfl rfl)
theorem dX1_isLaid_35 : decode cX1_isLaid 35 = .ok (.getfield 17, 3) := dk_180 0 17 (dk_at dksX1_isLaid_1 11 rfl rfl)
theorem dX1_isLaid_38 : decode cX1_isLaid 38 = .ok (.iload_n 2, 1) := dk_28 (dk_at dksX1_isLaid_1 14 rfl rfl)
theorem dX1_isLaid_39 : decode cX1_isLaid 39 = .ok (.aaload, 1) := dk_50 (dk_at dksX1_isLaid_1 15 rfl rfl)
theorem dX1_isLaid_40 : decode cX1_isLaid 40 = .ok (.invokevirtual 120, 3) := dk_182 0 120 (dk_at dksX1_isLaid_1 16 rfl rfl)
theorem dX1_isLaid_43 : decode cX1_isLaid 43 = .ok (.ifCond .eq 30, 3) := dk_153 0 30 (dk_at dksX1_isLaid_1 19 rfl rfl)
theorem dX1_isLaid_46 : decode cX1_isLaid 46 = .ok (.aload_n 0, 1) := dk_42 (dk_at dksX1_isLaid_1 22 rfl rfl)
theorem dX1_isLaid_47 : decode cX1_isLaid 47 = .ok (.getfield 9, 3) := dk_180 0 9 (dk_at dksX1_isLaid_2 0 rfl rfl)
theorem dX1_isLaid_50 : decode cX1_isLaid 50 = .ok (.aload_n 0, 1) := dk_42 (dk_at dksX1_isLaid_2 3 rfl rfl)
theorem dX1_isLaid_51 : decode cX1_isLaid 51 = .ok (.getfield 17, 3) := dk_180 0 17 (dk_at dksX1_isLaid_2 4 rfl rfl)
theorem dX1_isLaid_54 : decode cX1_isLaid 54 = .ok (.iload_n 2, 1) := dk_28 (dk_at dksX1_isLaid_2 7 rfl rfl)
theorem dX1_isLaid_55 : decode cX1_isLaid 55 = .ok (.aaload, 1) := dk_50 (dk_at dksX1_isLaid_2 8 rfl rfl)
theorem dX1_isLaid_56 : decode cX1_isLaid 56 = .ok (.getfield 118, 3) := dk_180 0 118 (dk_at dksX1_isLaid_2 9 rfl rfl)
theorem dX1_isLaid_59 : decode cX1_isLaid 59 = .ok (.iaload, 1) := dk_46 (dk_at dksX1_isLaid_2 12 rfl rfl)
theorem dX1_isLaid_60 : decode cX1_isLaid 60 = .ok (.iconst 1, 1) := dk_4 (dk_at dksX1_isLaid_2 13 rfl rfl)
theorem dX1_isLaid_61 : decode cX1_isLaid 61 = .ok (.if_icmp .ne 12, 3) := dk_160 0 12 (dk_at dksX1_isLaid_2 14 rfl rfl)
theorem dX1_isLaid_64 : decode cX1_isLaid 64 = .ok (.aload_n 0, 1) := dk_42 (dk_at dksX1_isLaid_2 17 rfl rfl)
theorem dX1_isLaid_65 : decode cX1_isLaid 65 = .ok (.getfield 17, 3) := dk_180 0 17 (dk_at dksX1_isLaid_2 18 rfl rfl)
theorem dX1_isLaid_68 : decode cX1_isLaid 68 = .ok (.iload_n 2, 1) := dk_28 (dk_at dksX1_isLaid_2 21 rfl rfl)
theorem dX1_isLaid_69 : decode cX1_isLaid 69 = .ok (.aaload, 1) := dk_50 (dk_at dksX1_isLaid_2 22 rfl rfl)
theorem dX1_isLaid_70 : decode cX1_isLaid 70 = .ok (.invokevirtual 65, 3) := dk_182 0 65 (dk_at dksX1_isLaid_3 0 rfl rfl)
theorem dX1_isLaid_73 : decode cX1_isLaid 73 = .ok (.iinc 2 1, 3) := dk_132 2 1 (dk_at dksX1_isLaid_3 3 rfl rfl)
theorem dX1_isLaid_76 : decode cX1_isLaid 76 = .ok (.goto (-50), 3) := dk_167 255 206 (dk_at dksX1_isLaid_3 6 rfl rfl)
theorem dX1_isLaid_79 : decode cX1_isLaid 79 = .ok (.return_, 1) := dk_177 (dk_at dksX1_isLaid_3 9 rfl rfl)
abbrev cX1_moves : ByteArray := prog_11_method_2_code
def yX1_moves : MethodName := ⟨RX1, "moves", "(LWindingSquare$Square;)V"⟩
def dkwX1_moves_3 : List UInt8 := [181, 0, 80, 42, 43, 180, 0, 83, 181, 0, 83, 42, 43, 180, 0, 86, 181, 0, 86, 177]
abbrev dktX1_moves_3 : List UInt8 := dkwX1_moves_3 ++ []
def dkwX1_moves_2 : List UInt8 := [182, 0, 72, 132, 2, 1, 167, 255, 232, 42, 43, 180, 0, 76, 181, 0, 76, 42, 43, 180, 0, 80]
abbrev dktX1_moves_2 : List UInt8 := dkwX1_moves_2 ++ dktX1_moves_3
def dkwX1_moves_1 : List UInt8 := [167, 255, 234, 3, 61, 28, 16, 16, 162, 0, 24, 42, 180, 0, 17, 28, 50, 43, 180, 0, 17, 28, 50]
abbrev dktX1_moves_1 : List UInt8 := dkwX1_moves_1 ++ dktX1_moves_2
def dkwX1_moves_0 : List UInt8 := [3, 61, 28, 17, 0, 144, 162, 0, 21, 42, 180, 0, 9, 28, 43, 180, 0, 9, 28, 46, 79, 132, 2, 1]
abbrev dktX1_moves_0 : List UInt8 := dkwX1_moves_0 ++ dktX1_moves_1
theorem dksX1_moves_0 : cX1_moves.data.toList.drop 0 = dktX1_moves_0 := by decide +kernel
theorem dksX1_moves_1 : cX1_moves.data.toList.drop 24 = dktX1_moves_1 := dk_seg dksX1_moves_0 24 rfl rfl
theorem dksX1_moves_2 : cX1_moves.data.toList.drop 47 = dktX1_moves_2 := dk_seg dksX1_moves_1 23 rfl rfl
theorem dksX1_moves_3 : cX1_moves.data.toList.drop 69 = dktX1_moves_3 := dk_seg dksX1_moves_2 22 rfl rfl
theorem dX1_moves_0 : decode cX1_moves 0 = .ok (.iconst 0, 1) := dk_3 (dk_at dksX1_moves_0 0 rfl rfl)
theorem dX1_moves_1 : decode cX1_moves 1 = .ok (.istore_n 2, 1) := dk_61 (dk_at dksX1_moves_0 1 rfl rfl)
theorem dX1_moves_2 : decode cX1_moves 2 = .ok (.iload_n 2, 1) := dk_28 (dk_at dksX1_moves_0 2 rfl rfl)
theorem dX1_moves_3 : decode cX1_moves 3 = .ok (.sipush 144, 3) := dk_17 0 144 (dk_at dksX1_moves_0 3 rfl rfl)
theorem dX1_moves_6 : decode cX1_moves 6 = .ok (.if_icmp .ge 21, 3) := dk_162 0 21 (dk_at dksX1_moves_0 6 rfl rfl)
theorem dX1_moves_9 : decode cX1_moves 9 = .ok (.aload_n 0, 1) := dk_42 (dk_at dksX1_moves_0 9 rfl rfl)
theorem dX1_moves_10 : decode cX1_moves 10 = .ok (.getfield 9, 3) := dk_180 0 9 (dk_at dksX1_moves_0 10 rfl rfl)
theorem dX1_moves_13 : decode cX1_moves 13 = .ok (.iload_n 2, 1) := dk_28 (dk_at dksX1_moves_0 13 rfl rfl)
theorem dX1_moves_14 : decode cX1_moves 14 = .ok (.aload_n 1, 1) := dk_43 (dk_at dksX1_moves_0 14 rfl rfl)
theorem dX1_moves_15 : decode cX1_moves 15 = .ok (.getfield 9, 3) := dk_180 0 9 (dk_at dksX1_moves_0 15 rfl rfl)
theorem dX1_moves_18 : decode cX1_moves 18 = .ok (.iload_n 2, 1) := dk_28 (dk_at dksX1_moves_0 18 rfl rfl)
theorem dX1_moves_19 : decode cX1_moves 19 = .ok (.iaload, 1) := dk_46 (dk_at dksX1_moves_0 19 rfl rfl)
theorem dX1_moves_20 : decode cX1_moves 20 = .ok (.iastore, 1) := dk_79 (dk_at dksX1_moves_0 20 rfl rfl)
theorem dX1_moves_21 : decode cX1_moves 21 = .ok (.iinc 2 1, 3) := dk_132 2 1 (dk_at dksX1_moves_0 21 rfl rfl)
theorem dX1_moves_24 : decode cX1_moves 24 = .ok (.goto (-22), 3) := dk_167 255 234 (dk_at dksX1_moves_1 0 rfl rfl)
theorem dX1_moves_27 : decode cX1_moves 27 = .ok (.iconst 0, 1) := dk_3 (dk_at dksX1_moves_1 3 rfl rfl)
theorem dX1_moves_28 : decode cX1_moves 28 = .ok (.istore_n 2, 1) := dk_61 (dk_at dksX1_moves_1 4 rfl rfl)
theorem dX1_moves_29 : decode cX1_moves 29 = .ok (.iload_n 2, 1) := dk_28 (dk_at dksX1_moves_1 5 rfl rfl)
theorem dX1_moves_30 : decode cX1_moves 30 = .ok (.bipush 16, 2) := dk_16 16 (dk_at dksX1_moves_1 6 rfl rfl)
theorem dX1_moves_32 : decode cX1_moves 32 = .ok (.if_icmp .ge 24, 3) := dk_162 0 24 (dk_at dksX1_moves_1 8 rfl rfl)
theorem dX1_moves_35 : decode cX1_moves 35 = .ok (.aload_n 0, 1) := dk_42 (dk_at dksX1_moves_1 11 rfl rfl)
theorem dX1_moves_36 : decode cX1_moves 36 = .ok (.getfield 17, 3) := dk_180 0 17 (dk_at dksX1_moves_1 12 rfl rfl)
theorem dX1_moves_39 : decode cX1_moves 39 = .ok (.iload_n 2, 1) := dk_28 (dk_at dksX1_moves_1 15 rfl rfl)
theorem dX1_moves_40 : decode cX1_moves 40 = .ok (.aaload, 1) := dk_50 (dk_at dksX1_moves_1 16 rfl rfl)
theorem dX1_moves_41 : decode cX1_moves 41 = .ok (.aload_n 1, 1) := dk_43 (dk_at dksX1_moves_1 17 rfl rfl)
theorem dX1_moves_42 : decode cX1_moves 42 = .ok (.getfield 17, 3) := dk_180 0 17 (dk_at dksX1_moves_1 18 rfl rfl)
theorem dX1_moves_45 : decode cX1_moves 45 = .ok (.iload_n 2, 1) := dk_28 (dk_at dksX1_moves_1 21 rfl rfl)
theorem dX1_moves_46 : decode cX1_moves 46 = .ok (.aaload, 1) := dk_50 (dk_at dksX1_moves_1 22 rfl rfl)
theorem dX1_moves_47 : decode cX1_moves 47 = .ok (.invokevirtual 72, 3) := dk_182 0 72 (dk_at dksX1_moves_2 0 rfl rfl)
theorem dX1_moves_50 : decode cX1_moves 50 = .ok (.iinc 2 1, 3) := dk_132 2 1 (dk_at dksX1_moves_2 3 rfl rfl)
theorem dX1_moves_53 : decode cX1_moves 53 = .ok (.goto (-24), 3) := dk_167 255 232 (dk_at dksX1_moves_2 6 rfl rfl)
theorem dX1_moves_56 : decode cX1_moves 56 = .ok (.aload_n 0, 1) := dk_42 (dk_at dksX1_moves_2 9 rfl rfl)
theorem dX1_moves_57 : decode cX1_moves 57 = .ok (.aload_n 1, 1) := dk_43 (dk_at dksX1_moves_2 10 rfl rfl)
theorem dX1_moves_58 : decode cX1_moves 58 = .ok (.getfield 76, 3) := dk_180 0 76 (dk_at dksX1_moves_2 11 rfl rfl)
theorem dX1_moves_61 : decode cX1_moves 61 = .ok (.putfield 76, 3) := dk_181 0 76 (dk_at dksX1_moves_2 14 rfl rfl)
theorem dX1_moves_64 : decode cX1_moves 64 = .ok (.aload_n 0, 1) := dk_42 (dk_at dksX1_moves_2 17 rfl rfl)
theorem dX1_moves_65 : decode cX1_moves 65 = .ok (.aload_n 1, 1) := dk_43 (dk_at dksX1_moves_2 18 rfl rfl)
theorem dX1_moves_66 : decode cX1_moves 66 = .ok (.getfield 80, 3) := dk_180 0 80 (dk_at dksX1_moves_2 19 rfl rfl)
theorem dX1_moves_69 : decode cX1_moves 69 = .ok (.putfield 80, 3) := dk_181 0 80 (dk_at dksX1_moves_3 0 rfl rfl)
theorem dX1_moves_72 : decode cX1_moves 72 = .ok (.aload_n 0, 1) := dk_42 (dk_at dksX1_moves_3 3 rfl rfl)
theorem dX1_moves_73 : decode cX1_moves 73 = .ok (.aload_n 1, 1) := dk_43 (dk_at dksX1_moves_3 4 rfl rfl)
theorem dX1_moves_74 : decode cX1_moves 74 = .ok (.getfield 83, 3) := dk_180 0 83 (dk_at dksX1_moves_3 5 rfl rfl)
theorem dX1_moves_77 : decode cX1_moves 77 = .ok (.putfield 83, 3) := dk_181 0 83 (dk_at dksX1_moves_3 8 rfl rfl)
theorem dX1_moves_80 : decode cX1_moves 80 = .ok (.aload_n 0, 1) := dk_42 (dk_at dksX1_moves_3 11 rfl rfl)
theorem dX1_moves_81 : decode cX1_moves 81 = .ok (.aload_n 1, 1) := dk_43 (dk_at dksX1_moves_3 12 rfl rfl)
theorem dX1_moves_82 : decode cX1_moves 82 = .ok (.getfield 86, 3) := dk_180 0 86 (dk_at dksX1_moves_3 13 rfl rfl)
theorem dX1_moves_85 : decode cX1_moves 85 = .ok (.putfield 86, 3) := dk_181 0 86 (dk_at dksX1_moves_3 16 rfl rfl)
theorem dX1_moves_88 : decode cX1_moves 88 = .ok (.return_, 1) := dk_177 (dk_at dksX1_moves_3 19 rfl rfl)
abbrev cX1_isFree : ByteArray := prog_11_method_17_code
def yX1_isFree : MethodName := ⟨RX1, "isFree", "(I)Z"⟩
def dkwX1_isFree_1 : List UInt8 := [172]
abbrev dktX1_isFree_1 : List UInt8 := dkwX1_isFree_1 ++ []
def dkwX1_isFree_0 : List UInt8 := [42, 180, 0, 9, 27, 46, 4, 159, 0, 16, 42, 27, 182, 0, 193, 2, 160, 0, 7, 4, 167, 0, 4, 3]
abbrev dktX1_isFree_0 : List UInt8 := dkwX1_isFree_0 ++ dktX1_isFree_1
theorem dksX1_isFree_0 : cX1_isFree.data.toList.drop 0 = dktX1_isFree_0 := by decide +kernel
theorem dksX1_isFree_1 : cX1_isFree.data.toList.drop 24 = dktX1_isFree_1 := dk_seg dksX1_isFree_0 24 rfl rfl
theorem dX1_isFree_0 : decode cX1_isFree 0 = .ok (.aload_n 0, 1) := dk_42 (dk_at dksX1_isFree_0 0 rfl rfl)
theorem dX1_isFree_1 : decode cX1_isFree 1 = .ok (.getfield 9, 3) := dk_180 0 9 (dk_at dksX1_isFree_0 1 rfl rfl)
theorem dX1_isFree_4 : decode cX1_isFree 4 = .ok (.iload_n 1, 1) := dk_27 (dk_at dksX1_isFree_0 4 rfl rfl)
theorem dX1_isFree_5 : decode cX1_isFree 5 = .ok (.iaload, 1) := dk_46 (dk_at dksX1_isFree_0 5 rfl rfl)
theorem dX1_isFree_6 : decode cX1_isFree 6 = .ok (.iconst 1, 1) := dk_4 (dk_at dksX1_isFree_0 6 rfl rfl)
theorem dX1_isFree_7 : decode cX1_isFree 7 = .ok (.if_icmp .eq 16, 3) := dk_159 0 16 (dk_at dksX1_isFree_0 7 rfl rfl)
theorem dX1_isFree_10 : decode cX1_isFree 10 = .ok (.aload_n 0, 1) := dk_42 (dk_at dksX1_isFree_0 10 rfl rfl)
theorem dX1_isFree_11 : decode cX1_isFree 11 = .ok (.iload_n 1, 1) := dk_27 (dk_at dksX1_isFree_0 11 rfl rfl)
theorem dX1_isFree_12 : decode cX1_isFree 12 = .ok (.invokevirtual 193, 3) := dk_182 0 193 (dk_at dksX1_isFree_0 12 rfl rfl)
theorem dX1_isFree_15 : decode cX1_isFree 15 = .ok (.iconst (-1), 1) := dk_2 (dk_at dksX1_isFree_0 15 rfl rfl)
theorem dX1_isFree_16 : decode cX1_isFree 16 = .ok (.if_icmp .ne 7, 3) := dk_160 0 7 (dk_at dksX1_isFree_0 16 rfl rfl)
theorem dX1_isFree_19 : decode cX1_isFree 19 = .ok (.iconst 1, 1) := dk_4 (dk_at dksX1_isFree_0 19 rfl rfl)
theorem dX1_isFree_20 : decode cX1_isFree 20 = .ok (.goto 4, 3) := dk_167 0 4 (dk_at dksX1_isFree_0 20 rfl rfl)
theorem dX1_isFree_23 : decode cX1_isFree 23 = .ok (.iconst 0, 1) := dk_3 (dk_at dksX1_isFree_0 23 rfl rfl)
theorem dX1_isFree_24 : decode cX1_isFree 24 = .ok (.ireturn, 1) := dk_172 (dk_at dksX1_isFree_1 0 rfl rfl)
abbrev cX1_standing : ByteArray := prog_11_method_8_code
def yX1_standing : MethodName := ⟨RX1, "standing", "(I)I"⟩
def dkwX1_standing_1 : List UInt8 := [172, 132, 2, 1, 167, 255, 230, 2, 172]
abbrev dktX1_standing_1 : List UInt8 := dkwX1_standing_1 ++ []
def dkwX1_standing_0 : List UInt8 := [3, 61, 28, 42, 180, 0, 93, 162, 0, 24, 42, 180, 0, 17, 28, 50, 180, 0, 118, 27, 160, 0, 5, 28]
abbrev dktX1_standing_0 : List UInt8 := dkwX1_standing_0 ++ dktX1_standing_1
theorem dksX1_standing_0 : cX1_standing.data.toList.drop 0 = dktX1_standing_0 := by decide +kernel
theorem dksX1_standing_1 : cX1_standing.data.toList.drop 24 = dktX1_standing_1 := dk_seg dksX1_standing_0 24 rfl rfl
theorem dX1_standing_0 : decode cX1_standing 0 = .ok (.iconst 0, 1) := dk_3 (dk_at dksX1_standing_0 0 rfl rfl)
theorem dX1_standing_1 : decode cX1_standing 1 = .ok (.istore_n 2, 1) := dk_61 (dk_at dksX1_standing_0 1 rfl rfl)
theorem dX1_standing_2 : decode cX1_standing 2 = .ok (.iload_n 2, 1) := dk_28 (dk_at dksX1_standing_0 2 rfl rfl)
theorem dX1_standing_3 : decode cX1_standing 3 = .ok (.aload_n 0, 1) := dk_42 (dk_at dksX1_standing_0 3 rfl rfl)
theorem dX1_standing_4 : decode cX1_standing 4 = .ok (.getfield 93, 3) := dk_180 0 93 (dk_at dksX1_standing_0 4 rfl rfl)
theorem dX1_standing_7 : decode cX1_standing 7 = .ok (.if_icmp .ge 24, 3) := dk_162 0 24 (dk_at dksX1_standing_0 7 rfl rfl)
theorem dX1_standing_10 : decode cX1_standing 10 = .ok (.aload_n 0, 1) := dk_42 (dk_at dksX1_standing_0 10 rfl rfl)
theorem dX1_standing_11 : decode cX1_standing 11 = .ok (.getfield 17, 3) := dk_180 0 17 (dk_at dksX1_standing_0 11 rfl rfl)
theorem dX1_standing_14 : decode cX1_standing 14 = .ok (.iload_n 2, 1) := dk_28 (dk_at dksX1_standing_0 14 rfl rfl)
theorem dX1_standing_15 : decode cX1_standing 15 = .ok (.aaload, 1) := dk_50 (dk_at dksX1_standing_0 15 rfl rfl)
theorem dX1_standing_16 : decode cX1_standing 16 = .ok (.getfield 118, 3) := dk_180 0 118 (dk_at dksX1_standing_0 16 rfl rfl)
theorem dX1_standing_19 : decode cX1_standing 19 = .ok (.iload_n 1, 1) := dk_27 (dk_at dksX1_standing_0 19 rfl rfl)
theorem dX1_standing_20 : decode cX1_standing 20 = .ok (.if_icmp .ne 5, 3) := dk_160 0 5 (dk_at dksX1_standing_0 20 rfl rfl)
theorem dX1_standing_23 : decode cX1_standing 23 = .ok (.iload_n 2, 1) := dk_28 (dk_at dksX1_standing_0 23 rfl rfl)
theorem dX1_standing_24 : decode cX1_standing 24 = .ok (.ireturn, 1) := dk_172 (dk_at dksX1_standing_1 0 rfl rfl)
theorem dX1_standing_25 : decode cX1_standing 25 = .ok (.iinc 2 1, 3) := dk_132 2 1 (dk_at dksX1_standing_1 1 rfl rfl)
theorem dX1_standing_28 : decode cX1_standing 28 = .ok (.goto (-26), 3) := dk_167 255 230 (dk_at dksX1_standing_1 4 rfl rfl)
theorem dX1_standing_31 : decode cX1_standing 31 = .ok (.iconst (-1), 1) := dk_2 (dk_at dksX1_standing_1 7 rfl rfl)
theorem dX1_standing_32 : decode cX1_standing 32 = .ok (.ireturn, 1) := dk_172 (dk_at dksX1_standing_1 8 rfl rfl)
abbrev cX1_comes : ByteArray := prog_11_method_18_code
def yX1_comes : MethodName := ⟨RX1, "comes", "(III)V"⟩
def dkwX1_comes_0 : List UInt8 := [42, 180, 0, 17, 27, 50, 28, 29, 182, 0, 196, 42, 3, 27, 29, 182, 0, 200, 177]
abbrev dktX1_comes_0 : List UInt8 := dkwX1_comes_0 ++ []
theorem dksX1_comes_0 : cX1_comes.data.toList.drop 0 = dktX1_comes_0 := by decide +kernel
theorem dX1_comes_0 : decode cX1_comes 0 = .ok (.aload_n 0, 1) := dk_42 (dk_at dksX1_comes_0 0 rfl rfl)
theorem dX1_comes_1 : decode cX1_comes 1 = .ok (.getfield 17, 3) := dk_180 0 17 (dk_at dksX1_comes_0 1 rfl rfl)
theorem dX1_comes_4 : decode cX1_comes 4 = .ok (.iload_n 1, 1) := dk_27 (dk_at dksX1_comes_0 4 rfl rfl)
theorem dX1_comes_5 : decode cX1_comes 5 = .ok (.aaload, 1) := dk_50 (dk_at dksX1_comes_0 5 rfl rfl)
theorem dX1_comes_6 : decode cX1_comes 6 = .ok (.iload_n 2, 1) := dk_28 (dk_at dksX1_comes_0 6 rfl rfl)
theorem dX1_comes_7 : decode cX1_comes 7 = .ok (.iload_n 3, 1) := dk_29 (dk_at dksX1_comes_0 7 rfl rfl)
theorem dX1_comes_8 : decode cX1_comes 8 = .ok (.invokevirtual 196, 3) := dk_182 0 196 (dk_at dksX1_comes_0 8 rfl rfl)
theorem dX1_comes_11 : decode cX1_comes 11 = .ok (.aload_n 0, 1) := dk_42 (dk_at dksX1_comes_0 11 rfl rfl)
theorem dX1_comes_12 : decode cX1_comes 12 = .ok (.iconst 0, 1) := dk_3 (dk_at dksX1_comes_0 12 rfl rfl)
theorem dX1_comes_13 : decode cX1_comes 13 = .ok (.iload_n 1, 1) := dk_27 (dk_at dksX1_comes_0 13 rfl rfl)
theorem dX1_comes_14 : decode cX1_comes 14 = .ok (.iload_n 3, 1) := dk_29 (dk_at dksX1_comes_0 14 rfl rfl)
theorem dX1_comes_15 : decode cX1_comes 15 = .ok (.invokevirtual 200, 3) := dk_182 0 200 (dk_at dksX1_comes_0 15 rfl rfl)
theorem dX1_comes_18 : decode cX1_comes 18 = .ok (.return_, 1) := dk_177 (dk_at dksX1_comes_0 18 rfl rfl)
abbrev cX1_notes : ByteArray := prog_11_method_7_code
def yX1_notes : MethodName := ⟨RX1, "notes", "(III)V"⟩
def dkwX1_notes_2 : List UInt8 := [25, 4, 6, 29, 79, 42, 89, 180, 0, 86, 4, 96, 181, 0, 86, 177]
abbrev dktX1_notes_2 : List UInt8 := dkwX1_notes_2 ++ []
def dkwX1_notes_1 : List UInt8 := [180, 0, 86, 50, 58, 4, 25, 4, 3, 42, 180, 0, 76, 79, 25, 4, 4, 27, 79, 25, 4, 5, 28, 79]
abbrev dktX1_notes_1 : List UInt8 := dkwX1_notes_1 ++ dktX1_notes_2
def dkwX1_notes_0 : List UInt8 := [42, 180, 0, 110, 154, 0, 13, 42, 180, 0, 86, 17, 0, 150, 160, 0, 4, 177, 42, 180, 0, 32, 42]
abbrev dktX1_notes_0 : List UInt8 := dkwX1_notes_0 ++ dktX1_notes_1
theorem dksX1_notes_0 : cX1_notes.data.toList.drop 0 = dktX1_notes_0 := by decide +kernel
theorem dksX1_notes_1 : cX1_notes.data.toList.drop 23 = dktX1_notes_1 := dk_seg dksX1_notes_0 23 rfl rfl
theorem dksX1_notes_2 : cX1_notes.data.toList.drop 47 = dktX1_notes_2 := dk_seg dksX1_notes_1 24 rfl rfl
theorem dX1_notes_0 : decode cX1_notes 0 = .ok (.aload_n 0, 1) := dk_42 (dk_at dksX1_notes_0 0 rfl rfl)
theorem dX1_notes_1 : decode cX1_notes 1 = .ok (.getfield 110, 3) := dk_180 0 110 (dk_at dksX1_notes_0 1 rfl rfl)
theorem dX1_notes_4 : decode cX1_notes 4 = .ok (.ifCond .ne 13, 3) := dk_154 0 13 (dk_at dksX1_notes_0 4 rfl rfl)
theorem dX1_notes_7 : decode cX1_notes 7 = .ok (.aload_n 0, 1) := dk_42 (dk_at dksX1_notes_0 7 rfl rfl)
theorem dX1_notes_8 : decode cX1_notes 8 = .ok (.getfield 86, 3) := dk_180 0 86 (dk_at dksX1_notes_0 8 rfl rfl)
theorem dX1_notes_11 : decode cX1_notes 11 = .ok (.sipush 150, 3) := dk_17 0 150 (dk_at dksX1_notes_0 11 rfl rfl)
theorem dX1_notes_14 : decode cX1_notes 14 = .ok (.if_icmp .ne 4, 3) := dk_160 0 4 (dk_at dksX1_notes_0 14 rfl rfl)
theorem dX1_notes_17 : decode cX1_notes 17 = .ok (.return_, 1) := dk_177 (dk_at dksX1_notes_0 17 rfl rfl)
theorem dX1_notes_18 : decode cX1_notes 18 = .ok (.aload_n 0, 1) := dk_42 (dk_at dksX1_notes_0 18 rfl rfl)
theorem dX1_notes_19 : decode cX1_notes 19 = .ok (.getfield 32, 3) := dk_180 0 32 (dk_at dksX1_notes_0 19 rfl rfl)
theorem dX1_notes_22 : decode cX1_notes 22 = .ok (.aload_n 0, 1) := dk_42 (dk_at dksX1_notes_0 22 rfl rfl)
theorem dX1_notes_23 : decode cX1_notes 23 = .ok (.getfield 86, 3) := dk_180 0 86 (dk_at dksX1_notes_1 0 rfl rfl)
theorem dX1_notes_26 : decode cX1_notes 26 = .ok (.aaload, 1) := dk_50 (dk_at dksX1_notes_1 3 rfl rfl)
theorem dX1_notes_27 : decode cX1_notes 27 = .ok (.astore 4, 2) := dk_58 4 (dk_at dksX1_notes_1 4 rfl rfl)
theorem dX1_notes_29 : decode cX1_notes 29 = .ok (.aload 4, 2) := dk_25 4 (dk_at dksX1_notes_1 6 rfl rfl)
theorem dX1_notes_31 : decode cX1_notes 31 = .ok (.iconst 0, 1) := dk_3 (dk_at dksX1_notes_1 8 rfl rfl)
theorem dX1_notes_32 : decode cX1_notes 32 = .ok (.aload_n 0, 1) := dk_42 (dk_at dksX1_notes_1 9 rfl rfl)
theorem dX1_notes_33 : decode cX1_notes 33 = .ok (.getfield 76, 3) := dk_180 0 76 (dk_at dksX1_notes_1 10 rfl rfl)
theorem dX1_notes_36 : decode cX1_notes 36 = .ok (.iastore, 1) := dk_79 (dk_at dksX1_notes_1 13 rfl rfl)
theorem dX1_notes_37 : decode cX1_notes 37 = .ok (.aload 4, 2) := dk_25 4 (dk_at dksX1_notes_1 14 rfl rfl)
theorem dX1_notes_39 : decode cX1_notes 39 = .ok (.iconst 1, 1) := dk_4 (dk_at dksX1_notes_1 16 rfl rfl)
theorem dX1_notes_40 : decode cX1_notes 40 = .ok (.iload_n 1, 1) := dk_27 (dk_at dksX1_notes_1 17 rfl rfl)
theorem dX1_notes_41 : decode cX1_notes 41 = .ok (.iastore, 1) := dk_79 (dk_at dksX1_notes_1 18 rfl rfl)
theorem dX1_notes_42 : decode cX1_notes 42 = .ok (.aload 4, 2) := dk_25 4 (dk_at dksX1_notes_1 19 rfl rfl)
theorem dX1_notes_44 : decode cX1_notes 44 = .ok (.iconst 2, 1) := dk_5 (dk_at dksX1_notes_1 21 rfl rfl)
theorem dX1_notes_45 : decode cX1_notes 45 = .ok (.iload_n 2, 1) := dk_28 (dk_at dksX1_notes_1 22 rfl rfl)
theorem dX1_notes_46 : decode cX1_notes 46 = .ok (.iastore, 1) := dk_79 (dk_at dksX1_notes_1 23 rfl rfl)
theorem dX1_notes_47 : decode cX1_notes 47 = .ok (.aload 4, 2) := dk_25 4 (dk_at dksX1_notes_2 0 rfl rfl)
theorem dX1_notes_49 : decode cX1_notes 49 = .ok (.iconst 3, 1) := dk_6 (dk_at dksX1_notes_2 2 rfl rfl)
theorem dX1_notes_50 : decode cX1_notes 50 = .ok (.iload_n 3, 1) := dk_29 (dk_at dksX1_notes_2 3 rfl rfl)
theorem dX1_notes_51 : decode cX1_notes 51 = .ok (.iastore, 1) := dk_79 (dk_at dksX1_notes_2 4 rfl rfl)
theorem dX1_notes_52 : decode cX1_notes 52 = .ok (.aload_n 0, 1) := dk_42 (dk_at dksX1_notes_2 5 rfl rfl)
theorem dX1_notes_53 : decode cX1_notes 53 = .ok (.dup, 1) := dk_89 (dk_at dksX1_notes_2 6 rfl rfl)
theorem dX1_notes_54 : decode cX1_notes 54 = .ok (.getfield 86, 3) := dk_180 0 86 (dk_at dksX1_notes_2 7 rfl rfl)
theorem dX1_notes_57 : decode cX1_notes 57 = .ok (.iconst 1, 1) := dk_4 (dk_at dksX1_notes_2 10 rfl rfl)
theorem dX1_notes_58 : decode cX1_notes 58 = .ok (.iadd, 1) := dk_96 (dk_at dksX1_notes_2 11 rfl rfl)
theorem dX1_notes_59 : decode cX1_notes 59 = .ok (.putfield 86, 3) := dk_181 0 86 (dk_at dksX1_notes_2 12 rfl rfl)
theorem dX1_notes_62 : decode cX1_notes 62 = .ok (.return_, 1) := dk_177 (dk_at dksX1_notes_2 15 rfl rfl)
abbrev cX1_turns : ByteArray := prog_11_method_19_code
def yX1_turns : MethodName := ⟨RX1, "turns", "(II)V"⟩
def dkwX1_turns_2 : List UInt8 := [182, 0, 200, 177]
abbrev dktX1_turns_2 : List UInt8 := dkwX1_turns_2 ++ []
def dkwX1_turns_1 : List UInt8 := [160, 0, 7, 4, 167, 0, 4, 3, 182, 0, 204, 42, 4, 27, 42, 180, 0, 17, 27, 50, 180, 0, 118]
abbrev dktX1_turns_1 : List UInt8 := dkwX1_turns_1 ++ dktX1_turns_2
def dkwX1_turns_0 : List UInt8 := [42, 180, 0, 17, 27, 50, 28, 42, 180, 0, 9, 42, 180, 0, 17, 27, 50, 180, 0, 118, 46, 6]
abbrev dktX1_turns_0 : List UInt8 := dkwX1_turns_0 ++ dktX1_turns_1
theorem dksX1_turns_0 : cX1_turns.data.toList.drop 0 = dktX1_turns_0 := by decide +kernel
theorem dksX1_turns_1 : cX1_turns.data.toList.drop 22 = dktX1_turns_1 := dk_seg dksX1_turns_0 22 rfl rfl
theorem dksX1_turns_2 : cX1_turns.data.toList.drop 45 = dktX1_turns_2 := dk_seg dksX1_turns_1 23 rfl rfl
theorem dX1_turns_0 : decode cX1_turns 0 = .ok (.aload_n 0, 1) := dk_42 (dk_at dksX1_turns_0 0 rfl rfl)
theorem dX1_turns_1 : decode cX1_turns 1 = .ok (.getfield 17, 3) := dk_180 0 17 (dk_at dksX1_turns_0 1 rfl rfl)
theorem dX1_turns_4 : decode cX1_turns 4 = .ok (.iload_n 1, 1) := dk_27 (dk_at dksX1_turns_0 4 rfl rfl)
theorem dX1_turns_5 : decode cX1_turns 5 = .ok (.aaload, 1) := dk_50 (dk_at dksX1_turns_0 5 rfl rfl)
theorem dX1_turns_6 : decode cX1_turns 6 = .ok (.iload_n 2, 1) := dk_28 (dk_at dksX1_turns_0 6 rfl rfl)
theorem dX1_turns_7 : decode cX1_turns 7 = .ok (.aload_n 0, 1) := dk_42 (dk_at dksX1_turns_0 7 rfl rfl)
theorem dX1_turns_8 : decode cX1_turns 8 = .ok (.getfield 9, 3) := dk_180 0 9 (dk_at dksX1_turns_0 8 rfl rfl)
theorem dX1_turns_11 : decode cX1_turns 11 = .ok (.aload_n 0, 1) := dk_42 (dk_at dksX1_turns_0 11 rfl rfl)
theorem dX1_turns_12 : decode cX1_turns 12 = .ok (.getfield 17, 3) := dk_180 0 17 (dk_at dksX1_turns_0 12 rfl rfl)
theorem dX1_turns_15 : decode cX1_turns 15 = .ok (.iload_n 1, 1) := dk_27 (dk_at dksX1_turns_0 15 rfl rfl)
theorem dX1_turns_16 : decode cX1_turns 16 = .ok (.aaload, 1) := dk_50 (dk_at dksX1_turns_0 16 rfl rfl)
theorem dX1_turns_17 : decode cX1_turns 17 = .ok (.getfield 118, 3) := dk_180 0 118 (dk_at dksX1_turns_0 17 rfl rfl)
theorem dX1_turns_20 : decode cX1_turns 20 = .ok (.iaload, 1) := dk_46 (dk_at dksX1_turns_0 20 rfl rfl)
theorem dX1_turns_21 : decode cX1_turns 21 = .ok (.iconst 3, 1) := dk_6 (dk_at dksX1_turns_0 21 rfl rfl)
theorem dX1_turns_22 : decode cX1_turns 22 = .ok (.if_icmp .ne 7, 3) := dk_160 0 7 (dk_at dksX1_turns_1 0 rfl rfl)
theorem dX1_turns_25 : decode cX1_turns 25 = .ok (.iconst 1, 1) := dk_4 (dk_at dksX1_turns_1 3 rfl rfl)
theorem dX1_turns_26 : decode cX1_turns 26 = .ok (.goto 4, 3) := dk_167 0 4 (dk_at dksX1_turns_1 4 rfl rfl)
theorem dX1_turns_29 : decode cX1_turns 29 = .ok (.iconst 0, 1) := dk_3 (dk_at dksX1_turns_1 7 rfl rfl)
theorem dX1_turns_30 : decode cX1_turns 30 = .ok (.invokevirtual 204, 3) := dk_182 0 204 (dk_at dksX1_turns_1 8 rfl rfl)
theorem dX1_turns_33 : decode cX1_turns 33 = .ok (.aload_n 0, 1) := dk_42 (dk_at dksX1_turns_1 11 rfl rfl)
theorem dX1_turns_34 : decode cX1_turns 34 = .ok (.iconst 1, 1) := dk_4 (dk_at dksX1_turns_1 12 rfl rfl)
theorem dX1_turns_35 : decode cX1_turns 35 = .ok (.iload_n 1, 1) := dk_27 (dk_at dksX1_turns_1 13 rfl rfl)
theorem dX1_turns_36 : decode cX1_turns 36 = .ok (.aload_n 0, 1) := dk_42 (dk_at dksX1_turns_1 14 rfl rfl)
theorem dX1_turns_37 : decode cX1_turns 37 = .ok (.getfield 17, 3) := dk_180 0 17 (dk_at dksX1_turns_1 15 rfl rfl)
theorem dX1_turns_40 : decode cX1_turns 40 = .ok (.iload_n 1, 1) := dk_27 (dk_at dksX1_turns_1 18 rfl rfl)
theorem dX1_turns_41 : decode cX1_turns 41 = .ok (.aaload, 1) := dk_50 (dk_at dksX1_turns_1 19 rfl rfl)
theorem dX1_turns_42 : decode cX1_turns 42 = .ok (.getfield 118, 3) := dk_180 0 118 (dk_at dksX1_turns_1 20 rfl rfl)
theorem dX1_turns_45 : decode cX1_turns 45 = .ok (.invokevirtual 200, 3) := dk_182 0 200 (dk_at dksX1_turns_2 0 rfl rfl)
theorem dX1_turns_48 : decode cX1_turns 48 = .ok (.return_, 1) := dk_177 (dk_at dksX1_turns_2 3 rfl rfl)
abbrev cX1_passes : ByteArray := prog_11_method_24_code
def yX1_passes : MethodName := ⟨RX1, "passes", "()I"⟩
def dkwX1_passes_2 : List UInt8 := [42, 89, 180, 0, 76, 4, 96, 181, 0, 76, 27, 172]
abbrev dktX1_passes_2 : List UInt8 := dkwX1_passes_2 ++ []
def dkwX1_passes_1 : List UInt8 := [153, 0, 15, 42, 28, 182, 1, 11, 153, 0, 7, 4, 167, 0, 4, 3, 96, 60, 132, 2, 1, 167, 255, 217]
abbrev dktX1_passes_1 : List UInt8 := dkwX1_passes_1 ++ dktX1_passes_2
def dkwX1_passes_0 : List UInt8 := [3, 60, 3, 61, 28, 42, 180, 0, 93, 162, 0, 37, 27, 42, 180, 0, 17, 28, 50, 182, 0, 120]
abbrev dktX1_passes_0 : List UInt8 := dkwX1_passes_0 ++ dktX1_passes_1
theorem dksX1_passes_0 : cX1_passes.data.toList.drop 0 = dktX1_passes_0 := by decide +kernel
theorem dksX1_passes_1 : cX1_passes.data.toList.drop 22 = dktX1_passes_1 := dk_seg dksX1_passes_0 22 rfl rfl
theorem dksX1_passes_2 : cX1_passes.data.toList.drop 46 = dktX1_passes_2 := dk_seg dksX1_passes_1 24 rfl rfl
theorem dX1_passes_0 : decode cX1_passes 0 = .ok (.iconst 0, 1) := dk_3 (dk_at dksX1_passes_0 0 rfl rfl)
theorem dX1_passes_1 : decode cX1_passes 1 = .ok (.istore_n 1, 1) := dk_60 (dk_at dksX1_passes_0 1 rfl rfl)
theorem dX1_passes_2 : decode cX1_passes 2 = .ok (.iconst 0, 1) := dk_3 (dk_at dksX1_passes_0 2 rfl rfl)
theorem dX1_passes_3 : decode cX1_passes 3 = .ok (.istore_n 2, 1) := dk_61 (dk_at dksX1_passes_0 3 rfl rfl)
theorem dX1_passes_4 : decode cX1_passes 4 = .ok (.iload_n 2, 1) := dk_28 (dk_at dksX1_passes_0 4 rfl rfl)
theorem dX1_passes_5 : decode cX1_passes 5 = .ok (.aload_n 0, 1) := dk_42 (dk_at dksX1_passes_0 5 rfl rfl)
theorem dX1_passes_6 : decode cX1_passes 6 = .ok (.getfield 93, 3) := dk_180 0 93 (dk_at dksX1_passes_0 6 rfl rfl)
theorem dX1_passes_9 : decode cX1_passes 9 = .ok (.if_icmp .ge 37, 3) := dk_162 0 37 (dk_at dksX1_passes_0 9 rfl rfl)
theorem dX1_passes_12 : decode cX1_passes 12 = .ok (.iload_n 1, 1) := dk_27 (dk_at dksX1_passes_0 12 rfl rfl)
theorem dX1_passes_13 : decode cX1_passes 13 = .ok (.aload_n 0, 1) := dk_42 (dk_at dksX1_passes_0 13 rfl rfl)
theorem dX1_passes_14 : decode cX1_passes 14 = .ok (.getfield 17, 3) := dk_180 0 17 (dk_at dksX1_passes_0 14 rfl rfl)
theorem dX1_passes_17 : decode cX1_passes 17 = .ok (.iload_n 2, 1) := dk_28 (dk_at dksX1_passes_0 17 rfl rfl)
theorem dX1_passes_18 : decode cX1_passes 18 = .ok (.aaload, 1) := dk_50 (dk_at dksX1_passes_0 18 rfl rfl)
theorem dX1_passes_19 : decode cX1_passes 19 = .ok (.invokevirtual 120, 3) := dk_182 0 120 (dk_at dksX1_passes_0 19 rfl rfl)
theorem dX1_passes_22 : decode cX1_passes 22 = .ok (.ifCond .eq 15, 3) := dk_153 0 15 (dk_at dksX1_passes_1 0 rfl rfl)
theorem dX1_passes_25 : decode cX1_passes 25 = .ok (.aload_n 0, 1) := dk_42 (dk_at dksX1_passes_1 3 rfl rfl)
theorem dX1_passes_26 : decode cX1_passes 26 = .ok (.iload_n 2, 1) := dk_28 (dk_at dksX1_passes_1 4 rfl rfl)
theorem dX1_passes_27 : decode cX1_passes 27 = .ok (.invokevirtual 267, 3) := dk_182 1 11 (dk_at dksX1_passes_1 5 rfl rfl)
theorem dX1_passes_30 : decode cX1_passes 30 = .ok (.ifCond .eq 7, 3) := dk_153 0 7 (dk_at dksX1_passes_1 8 rfl rfl)
theorem dX1_passes_33 : decode cX1_passes 33 = .ok (.iconst 1, 1) := dk_4 (dk_at dksX1_passes_1 11 rfl rfl)
theorem dX1_passes_34 : decode cX1_passes 34 = .ok (.goto 4, 3) := dk_167 0 4 (dk_at dksX1_passes_1 12 rfl rfl)
theorem dX1_passes_37 : decode cX1_passes 37 = .ok (.iconst 0, 1) := dk_3 (dk_at dksX1_passes_1 15 rfl rfl)
theorem dX1_passes_38 : decode cX1_passes 38 = .ok (.iadd, 1) := dk_96 (dk_at dksX1_passes_1 16 rfl rfl)
theorem dX1_passes_39 : decode cX1_passes 39 = .ok (.istore_n 1, 1) := dk_60 (dk_at dksX1_passes_1 17 rfl rfl)
theorem dX1_passes_40 : decode cX1_passes 40 = .ok (.iinc 2 1, 3) := dk_132 2 1 (dk_at dksX1_passes_1 18 rfl rfl)
theorem dX1_passes_43 : decode cX1_passes 43 = .ok (.goto (-39), 3) := dk_167 255 217 (dk_at dksX1_passes_1 21 rfl rfl)
theorem dX1_passes_46 : decode cX1_passes 46 = .ok (.aload_n 0, 1) := dk_42 (dk_at dksX1_passes_2 0 rfl rfl)
theorem dX1_passes_47 : decode cX1_passes 47 = .ok (.dup, 1) := dk_89 (dk_at dksX1_passes_2 1 rfl rfl)
theorem dX1_passes_48 : decode cX1_passes 48 = .ok (.getfield 76, 3) := dk_180 0 76 (dk_at dksX1_passes_2 2 rfl rfl)
theorem dX1_passes_51 : decode cX1_passes 51 = .ok (.iconst 1, 1) := dk_4 (dk_at dksX1_passes_2 5 rfl rfl)
theorem dX1_passes_52 : decode cX1_passes 52 = .ok (.iadd, 1) := dk_96 (dk_at dksX1_passes_2 6 rfl rfl)
theorem dX1_passes_53 : decode cX1_passes 53 = .ok (.putfield 76, 3) := dk_181 0 76 (dk_at dksX1_passes_2 7 rfl rfl)
theorem dX1_passes_56 : decode cX1_passes 56 = .ok (.iload_n 1, 1) := dk_27 (dk_at dksX1_passes_2 10 rfl rfl)
theorem dX1_passes_57 : decode cX1_passes 57 = .ok (.ireturn, 1) := dk_172 (dk_at dksX1_passes_2 11 rfl rfl)
abbrev cX1_walks : ByteArray := prog_11_method_23_code
def yX1_walks : MethodName := ⟨RX1, "walks", "(I)Z"⟩
def dkwX1_walks_2 : List UInt8 := [182, 0, 243, 153, 0, 7, 4, 167, 0, 4, 3, 172]
abbrev dktX1_walks_2 : List UInt8 := dkwX1_walks_2 ++ []
def dkwX1_walks_1 : List UInt8 := [158, 0, 12, 42, 27, 44, 180, 1, 4, 182, 1, 7, 44, 180, 1, 9, 153, 0, 16, 42, 27, 3]
abbrev dktX1_walks_1 : List UInt8 := dkwX1_walks_1 ++ dktX1_walks_2
def dkwX1_walks_0 : List UInt8 := [42, 27, 182, 0, 250, 77, 42, 180, 0, 17, 27, 50, 44, 180, 0, 254, 182, 1, 1, 44, 180, 1, 4]
abbrev dktX1_walks_0 : List UInt8 := dkwX1_walks_0 ++ dktX1_walks_1
theorem dksX1_walks_0 : cX1_walks.data.toList.drop 0 = dktX1_walks_0 := by decide +kernel
theorem dksX1_walks_1 : cX1_walks.data.toList.drop 23 = dktX1_walks_1 := dk_seg dksX1_walks_0 23 rfl rfl
theorem dksX1_walks_2 : cX1_walks.data.toList.drop 45 = dktX1_walks_2 := dk_seg dksX1_walks_1 22 rfl rfl
theorem dX1_walks_0 : decode cX1_walks 0 = .ok (.aload_n 0, 1) := dk_42 (dk_at dksX1_walks_0 0 rfl rfl)
theorem dX1_walks_1 : decode cX1_walks 1 = .ok (.iload_n 1, 1) := dk_27 (dk_at dksX1_walks_0 1 rfl rfl)
theorem dX1_walks_2 : decode cX1_walks 2 = .ok (.invokevirtual 250, 3) := dk_182 0 250 (dk_at dksX1_walks_0 2 rfl rfl)
theorem dX1_walks_5 : decode cX1_walks 5 = .ok (.astore_n 2, 1) := dk_77 (dk_at dksX1_walks_0 5 rfl rfl)
theorem dX1_walks_6 : decode cX1_walks 6 = .ok (.aload_n 0, 1) := dk_42 (dk_at dksX1_walks_0 6 rfl rfl)
theorem dX1_walks_7 : decode cX1_walks 7 = .ok (.getfield 17, 3) := dk_180 0 17 (dk_at dksX1_walks_0 7 rfl rfl)
theorem dX1_walks_10 : decode cX1_walks 10 = .ok (.iload_n 1, 1) := dk_27 (dk_at dksX1_walks_0 10 rfl rfl)
theorem dX1_walks_11 : decode cX1_walks 11 = .ok (.aaload, 1) := dk_50 (dk_at dksX1_walks_0 11 rfl rfl)
theorem dX1_walks_12 : decode cX1_walks 12 = .ok (.aload_n 2, 1) := dk_44 (dk_at dksX1_walks_0 12 rfl rfl)
theorem dX1_walks_13 : decode cX1_walks 13 = .ok (.getfield 254, 3) := dk_180 0 254 (dk_at dksX1_walks_0 13 rfl rfl)
theorem dX1_walks_16 : decode cX1_walks 16 = .ok (.invokevirtual 257, 3) := dk_182 1 1 (dk_at dksX1_walks_0 16 rfl rfl)
theorem dX1_walks_19 : decode cX1_walks 19 = .ok (.aload_n 2, 1) := dk_44 (dk_at dksX1_walks_0 19 rfl rfl)
theorem dX1_walks_20 : decode cX1_walks 20 = .ok (.getfield 260, 3) := dk_180 1 4 (dk_at dksX1_walks_0 20 rfl rfl)
theorem dX1_walks_23 : decode cX1_walks 23 = .ok (.ifCond .le 12, 3) := dk_158 0 12 (dk_at dksX1_walks_1 0 rfl rfl)
theorem dX1_walks_26 : decode cX1_walks 26 = .ok (.aload_n 0, 1) := dk_42 (dk_at dksX1_walks_1 3 rfl rfl)
theorem dX1_walks_27 : decode cX1_walks 27 = .ok (.iload_n 1, 1) := dk_27 (dk_at dksX1_walks_1 4 rfl rfl)
theorem dX1_walks_28 : decode cX1_walks 28 = .ok (.aload_n 2, 1) := dk_44 (dk_at dksX1_walks_1 5 rfl rfl)
theorem dX1_walks_29 : decode cX1_walks 29 = .ok (.getfield 260, 3) := dk_180 1 4 (dk_at dksX1_walks_1 6 rfl rfl)
theorem dX1_walks_32 : decode cX1_walks 32 = .ok (.invokevirtual 263, 3) := dk_182 1 7 (dk_at dksX1_walks_1 9 rfl rfl)
theorem dX1_walks_35 : decode cX1_walks 35 = .ok (.aload_n 2, 1) := dk_44 (dk_at dksX1_walks_1 12 rfl rfl)
theorem dX1_walks_36 : decode cX1_walks 36 = .ok (.getfield 265, 3) := dk_180 1 9 (dk_at dksX1_walks_1 13 rfl rfl)
theorem dX1_walks_39 : decode cX1_walks 39 = .ok (.ifCond .eq 16, 3) := dk_153 0 16 (dk_at dksX1_walks_1 16 rfl rfl)
theorem dX1_walks_42 : decode cX1_walks 42 = .ok (.aload_n 0, 1) := dk_42 (dk_at dksX1_walks_1 19 rfl rfl)
theorem dX1_walks_43 : decode cX1_walks 43 = .ok (.iload_n 1, 1) := dk_27 (dk_at dksX1_walks_1 20 rfl rfl)
theorem dX1_walks_44 : decode cX1_walks 44 = .ok (.iconst 0, 1) := dk_3 (dk_at dksX1_walks_1 21 rfl rfl)
theorem dX1_walks_45 : decode cX1_walks 45 = .ok (.invokevirtual 243, 3) := dk_182 0 243 (dk_at dksX1_walks_2 0 rfl rfl)
theorem dX1_walks_48 : decode cX1_walks 48 = .ok (.ifCond .eq 7, 3) := dk_153 0 7 (dk_at dksX1_walks_2 3 rfl rfl)
theorem dX1_walks_51 : decode cX1_walks 51 = .ok (.iconst 1, 1) := dk_4 (dk_at dksX1_walks_2 6 rfl rfl)
theorem dX1_walks_52 : decode cX1_walks 52 = .ok (.goto 4, 3) := dk_167 0 4 (dk_at dksX1_walks_2 7 rfl rfl)
theorem dX1_walks_55 : decode cX1_walks 55 = .ok (.iconst 0, 1) := dk_3 (dk_at dksX1_walks_2 10 rfl rfl)
theorem dX1_walks_56 : decode cX1_walks 56 = .ok (.ireturn, 1) := dk_172 (dk_at dksX1_walks_2 11 rfl rfl)
abbrev cX1_next : ByteArray := prog_11_method_22_code
def yX1_next : MethodName := ⟨RX1, "next", "(I)LWindingSquare$Step;"⟩
def dkwX1_next_2 : List UInt8 := [182, 0, 128, 192, 0, 21, 167, 0, 7, 42, 180, 0, 26, 176]
abbrev dktX1_next_2 : List UInt8 := dkwX1_next_2 ++ []
def dkwX1_next_1 : List UInt8 := [162, 0, 32, 42, 180, 0, 58, 27, 182, 0, 128, 192, 0, 51, 42, 180, 0, 17, 27, 50, 180, 0, 247]
abbrev dktX1_next_1 : List UInt8 := dkwX1_next_1 ++ dktX1_next_2
def dkwX1_next_0 : List UInt8 := [42, 180, 0, 17, 27, 50, 180, 0, 247, 42, 180, 0, 58, 27, 182, 0, 128, 192, 0, 51, 182, 0, 124]
abbrev dktX1_next_0 : List UInt8 := dkwX1_next_0 ++ dktX1_next_1
theorem dksX1_next_0 : cX1_next.data.toList.drop 0 = dktX1_next_0 := by decide +kernel
theorem dksX1_next_1 : cX1_next.data.toList.drop 23 = dktX1_next_1 := dk_seg dksX1_next_0 23 rfl rfl
theorem dksX1_next_2 : cX1_next.data.toList.drop 46 = dktX1_next_2 := dk_seg dksX1_next_1 23 rfl rfl
theorem dX1_next_0 : decode cX1_next 0 = .ok (.aload_n 0, 1) := dk_42 (dk_at dksX1_next_0 0 rfl rfl)
theorem dX1_next_1 : decode cX1_next 1 = .ok (.getfield 17, 3) := dk_180 0 17 (dk_at dksX1_next_0 1 rfl rfl)
theorem dX1_next_4 : decode cX1_next 4 = .ok (.iload_n 1, 1) := dk_27 (dk_at dksX1_next_0 4 rfl rfl)
theorem dX1_next_5 : decode cX1_next 5 = .ok (.aaload, 1) := dk_50 (dk_at dksX1_next_0 5 rfl rfl)
theorem dX1_next_6 : decode cX1_next 6 = .ok (.getfield 247, 3) := dk_180 0 247 (dk_at dksX1_next_0 6 rfl rfl)
theorem dX1_next_9 : decode cX1_next 9 = .ok (.aload_n 0, 1) := dk_42 (dk_at dksX1_next_0 9 rfl rfl)
theorem dX1_next_10 : decode cX1_next 10 = .ok (.getfield 58, 3) := dk_180 0 58 (dk_at dksX1_next_0 10 rfl rfl)
theorem dX1_next_13 : decode cX1_next 13 = .ok (.iload_n 1, 1) := dk_27 (dk_at dksX1_next_0 13 rfl rfl)
theorem dX1_next_14 : decode cX1_next 14 = .ok (.invokevirtual 128, 3) := dk_182 0 128 (dk_at dksX1_next_0 14 rfl rfl)
theorem dX1_next_17 : decode cX1_next 17 = .ok (.checkcast 51, 3) := dk_192 0 51 (dk_at dksX1_next_0 17 rfl rfl)
theorem dX1_next_20 : decode cX1_next 20 = .ok (.invokevirtual 124, 3) := dk_182 0 124 (dk_at dksX1_next_0 20 rfl rfl)
theorem dX1_next_23 : decode cX1_next 23 = .ok (.if_icmp .ge 32, 3) := dk_162 0 32 (dk_at dksX1_next_1 0 rfl rfl)
theorem dX1_next_26 : decode cX1_next 26 = .ok (.aload_n 0, 1) := dk_42 (dk_at dksX1_next_1 3 rfl rfl)
theorem dX1_next_27 : decode cX1_next 27 = .ok (.getfield 58, 3) := dk_180 0 58 (dk_at dksX1_next_1 4 rfl rfl)
theorem dX1_next_30 : decode cX1_next 30 = .ok (.iload_n 1, 1) := dk_27 (dk_at dksX1_next_1 7 rfl rfl)
theorem dX1_next_31 : decode cX1_next 31 = .ok (.invokevirtual 128, 3) := dk_182 0 128 (dk_at dksX1_next_1 8 rfl rfl)
theorem dX1_next_34 : decode cX1_next 34 = .ok (.checkcast 51, 3) := dk_192 0 51 (dk_at dksX1_next_1 11 rfl rfl)
theorem dX1_next_37 : decode cX1_next 37 = .ok (.aload_n 0, 1) := dk_42 (dk_at dksX1_next_1 14 rfl rfl)
theorem dX1_next_38 : decode cX1_next 38 = .ok (.getfield 17, 3) := dk_180 0 17 (dk_at dksX1_next_1 15 rfl rfl)
theorem dX1_next_41 : decode cX1_next 41 = .ok (.iload_n 1, 1) := dk_27 (dk_at dksX1_next_1 18 rfl rfl)
theorem dX1_next_42 : decode cX1_next 42 = .ok (.aaload, 1) := dk_50 (dk_at dksX1_next_1 19 rfl rfl)
theorem dX1_next_43 : decode cX1_next 43 = .ok (.getfield 247, 3) := dk_180 0 247 (dk_at dksX1_next_1 20 rfl rfl)
theorem dX1_next_46 : decode cX1_next 46 = .ok (.invokevirtual 128, 3) := dk_182 0 128 (dk_at dksX1_next_2 0 rfl rfl)
theorem dX1_next_49 : decode cX1_next 49 = .ok (.checkcast 21, 3) := dk_192 0 21 (dk_at dksX1_next_2 3 rfl rfl)
theorem dX1_next_52 : decode cX1_next 52 = .ok (.goto 7, 3) := dk_167 0 7 (dk_at dksX1_next_2 6 rfl rfl)
theorem dX1_next_55 : decode cX1_next 55 = .ok (.aload_n 0, 1) := dk_42 (dk_at dksX1_next_2 9 rfl rfl)
theorem dX1_next_56 : decode cX1_next 56 = .ok (.getfield 26, 3) := dk_180 0 26 (dk_at dksX1_next_2 10 rfl rfl)
theorem dX1_next_59 : decode cX1_next 59 = .ok (.areturn, 1) := dk_176 (dk_at dksX1_next_2 13 rfl rfl)
abbrev cX1_goesOn : ByteArray := prog_11_method_21_code
def yX1_goesOn : MethodName := ⟨RX1, "goesOn", "(IZ)Z"⟩
def dkwX1_goesOn_4 : List UInt8 := [4, 96, 181, 0, 240, 42, 5, 27, 21, 4, 182, 0, 200, 42, 27, 4, 182, 0, 243, 172]
abbrev dktX1_goesOn_4 : List UInt8 := dkwX1_goesOn_4 ++ []
def dkwX1_goesOn_3 : List UInt8 := [46, 5, 160, 0, 15, 42, 42, 45, 182, 0, 237, 182, 0, 220, 154, 0, 5, 3, 172, 45, 89, 180, 0, 240]
abbrev dktX1_goesOn_3 : List UInt8 := dkwX1_goesOn_3 ++ dktX1_goesOn_4
def dkwX1_goesOn_2 : List UInt8 := [180, 0, 118, 182, 0, 200, 3, 172, 45, 21, 4, 181, 0, 118, 28, 154, 0, 26, 42, 180, 0, 9, 21, 4]
abbrev dktX1_goesOn_2 : List UInt8 := dkwX1_goesOn_2 ++ dktX1_goesOn_3
def dkwX1_goesOn_1 : List UInt8 := [160, 0, 9, 42, 27, 182, 0, 231, 172, 42, 21, 4, 182, 0, 234, 154, 0, 15, 42, 8, 27, 45]
abbrev dktX1_goesOn_1 : List UInt8 := dkwX1_goesOn_1 ++ dktX1_goesOn_2
def dkwX1_goesOn_0 : List UInt8 := [42, 180, 0, 17, 27, 50, 78, 45, 180, 0, 118, 45, 180, 0, 153, 184, 0, 227, 54, 4, 21, 4, 2]
abbrev dktX1_goesOn_0 : List UInt8 := dkwX1_goesOn_0 ++ dktX1_goesOn_1
theorem dksX1_goesOn_0 : cX1_goesOn.data.toList.drop 0 = dktX1_goesOn_0 := by decide +kernel
theorem dksX1_goesOn_1 : cX1_goesOn.data.toList.drop 23 = dktX1_goesOn_1 := dk_seg dksX1_goesOn_0 23 rfl rfl
theorem dksX1_goesOn_2 : cX1_goesOn.data.toList.drop 45 = dktX1_goesOn_2 := dk_seg dksX1_goesOn_1 22 rfl rfl
theorem dksX1_goesOn_3 : cX1_goesOn.data.toList.drop 69 = dktX1_goesOn_3 := dk_seg dksX1_goesOn_2 24 rfl rfl
theorem dksX1_goesOn_4 : cX1_goesOn.data.toList.drop 93 = dktX1_goesOn_4 := dk_seg dksX1_goesOn_3 24 rfl rfl
theorem dX1_goesOn_0 : decode cX1_goesOn 0 = .ok (.aload_n 0, 1) := dk_42 (dk_at dksX1_goesOn_0 0 rfl rfl)
theorem dX1_goesOn_1 : decode cX1_goesOn 1 = .ok (.getfield 17, 3) := dk_180 0 17 (dk_at dksX1_goesOn_0 1 rfl rfl)
theorem dX1_goesOn_4 : decode cX1_goesOn 4 = .ok (.iload_n 1, 1) := dk_27 (dk_at dksX1_goesOn_0 4 rfl rfl)
theorem dX1_goesOn_5 : decode cX1_goesOn 5 = .ok (.aaload, 1) := dk_50 (dk_at dksX1_goesOn_0 5 rfl rfl)
theorem dX1_goesOn_6 : decode cX1_goesOn 6 = .ok (.astore_n 3, 1) := dk_78 (dk_at dksX1_goesOn_0 6 rfl rfl)
theorem dX1_goesOn_7 : decode cX1_goesOn 7 = .ok (.aload_n 3, 1) := dk_45 (dk_at dksX1_goesOn_0 7 rfl rfl)
theorem dX1_goesOn_8 : decode cX1_goesOn 8 = .ok (.getfield 118, 3) := dk_180 0 118 (dk_at dksX1_goesOn_0 8 rfl rfl)
theorem dX1_goesOn_11 : decode cX1_goesOn 11 = .ok (.aload_n 3, 1) := dk_45 (dk_at dksX1_goesOn_0 11 rfl rfl)
theorem dX1_goesOn_12 : decode cX1_goesOn 12 = .ok (.getfield 153, 3) := dk_180 0 153 (dk_at dksX1_goesOn_0 12 rfl rfl)
theorem dX1_goesOn_15 : decode cX1_goesOn 15 = .ok (.invokestatic 227, 3) := dk_184 0 227 (dk_at dksX1_goesOn_0 15 rfl rfl)
theorem dX1_goesOn_18 : decode cX1_goesOn 18 = .ok (.istore 4, 2) := dk_54 4 (dk_at dksX1_goesOn_0 18 rfl rfl)
theorem dX1_goesOn_20 : decode cX1_goesOn 20 = .ok (.iload 4, 2) := dk_21 4 (dk_at dksX1_goesOn_0 20 rfl rfl)
theorem dX1_goesOn_22 : decode cX1_goesOn 22 = .ok (.iconst (-1), 1) := dk_2 (dk_at dksX1_goesOn_0 22 rfl rfl)
theorem dX1_goesOn_23 : decode cX1_goesOn 23 = .ok (.if_icmp .ne 9, 3) := dk_160 0 9 (dk_at dksX1_goesOn_1 0 rfl rfl)
theorem dX1_goesOn_26 : decode cX1_goesOn 26 = .ok (.aload_n 0, 1) := dk_42 (dk_at dksX1_goesOn_1 3 rfl rfl)
theorem dX1_goesOn_27 : decode cX1_goesOn 27 = .ok (.iload_n 1, 1) := dk_27 (dk_at dksX1_goesOn_1 4 rfl rfl)
theorem dX1_goesOn_28 : decode cX1_goesOn 28 = .ok (.invokevirtual 231, 3) := dk_182 0 231 (dk_at dksX1_goesOn_1 5 rfl rfl)
theorem dX1_goesOn_31 : decode cX1_goesOn 31 = .ok (.ireturn, 1) := dk_172 (dk_at dksX1_goesOn_1 8 rfl rfl)
theorem dX1_goesOn_32 : decode cX1_goesOn 32 = .ok (.aload_n 0, 1) := dk_42 (dk_at dksX1_goesOn_1 9 rfl rfl)
theorem dX1_goesOn_33 : decode cX1_goesOn 33 = .ok (.iload 4, 2) := dk_21 4 (dk_at dksX1_goesOn_1 10 rfl rfl)
theorem dX1_goesOn_35 : decode cX1_goesOn 35 = .ok (.invokevirtual 234, 3) := dk_182 0 234 (dk_at dksX1_goesOn_1 12 rfl rfl)
theorem dX1_goesOn_38 : decode cX1_goesOn 38 = .ok (.ifCond .ne 15, 3) := dk_154 0 15 (dk_at dksX1_goesOn_1 15 rfl rfl)
theorem dX1_goesOn_41 : decode cX1_goesOn 41 = .ok (.aload_n 0, 1) := dk_42 (dk_at dksX1_goesOn_1 18 rfl rfl)
theorem dX1_goesOn_42 : decode cX1_goesOn 42 = .ok (.iconst 5, 1) := dk_8 (dk_at dksX1_goesOn_1 19 rfl rfl)
theorem dX1_goesOn_43 : decode cX1_goesOn 43 = .ok (.iload_n 1, 1) := dk_27 (dk_at dksX1_goesOn_1 20 rfl rfl)
theorem dX1_goesOn_44 : decode cX1_goesOn 44 = .ok (.aload_n 3, 1) := dk_45 (dk_at dksX1_goesOn_1 21 rfl rfl)
theorem dX1_goesOn_45 : decode cX1_goesOn 45 = .ok (.getfield 118, 3) := dk_180 0 118 (dk_at dksX1_goesOn_2 0 rfl rfl)
theorem dX1_goesOn_48 : decode cX1_goesOn 48 = .ok (.invokevirtual 200, 3) := dk_182 0 200 (dk_at dksX1_goesOn_2 3 rfl rfl)
theorem dX1_goesOn_51 : decode cX1_goesOn 51 = .ok (.iconst 0, 1) := dk_3 (dk_at dksX1_goesOn_2 6 rfl rfl)
theorem dX1_goesOn_52 : decode cX1_goesOn 52 = .ok (.ireturn, 1) := dk_172 (dk_at dksX1_goesOn_2 7 rfl rfl)
theorem dX1_goesOn_53 : decode cX1_goesOn 53 = .ok (.aload_n 3, 1) := dk_45 (dk_at dksX1_goesOn_2 8 rfl rfl)
theorem dX1_goesOn_54 : decode cX1_goesOn 54 = .ok (.iload 4, 2) := dk_21 4 (dk_at dksX1_goesOn_2 9 rfl rfl)
theorem dX1_goesOn_56 : decode cX1_goesOn 56 = .ok (.putfield 118, 3) := dk_181 0 118 (dk_at dksX1_goesOn_2 11 rfl rfl)
theorem dX1_goesOn_59 : decode cX1_goesOn 59 = .ok (.iload_n 2, 1) := dk_28 (dk_at dksX1_goesOn_2 14 rfl rfl)
theorem dX1_goesOn_60 : decode cX1_goesOn 60 = .ok (.ifCond .ne 26, 3) := dk_154 0 26 (dk_at dksX1_goesOn_2 15 rfl rfl)
theorem dX1_goesOn_63 : decode cX1_goesOn 63 = .ok (.aload_n 0, 1) := dk_42 (dk_at dksX1_goesOn_2 18 rfl rfl)
theorem dX1_goesOn_64 : decode cX1_goesOn 64 = .ok (.getfield 9, 3) := dk_180 0 9 (dk_at dksX1_goesOn_2 19 rfl rfl)
theorem dX1_goesOn_67 : decode cX1_goesOn 67 = .ok (.iload 4, 2) := dk_21 4 (dk_at dksX1_goesOn_2 22 rfl rfl)
theorem dX1_goesOn_69 : decode cX1_goesOn 69 = .ok (.iaload, 1) := dk_46 (dk_at dksX1_goesOn_3 0 rfl rfl)
theorem dX1_goesOn_70 : decode cX1_goesOn 70 = .ok (.iconst 2, 1) := dk_5 (dk_at dksX1_goesOn_3 1 rfl rfl)
theorem dX1_goesOn_71 : decode cX1_goesOn 71 = .ok (.if_icmp .ne 15, 3) := dk_160 0 15 (dk_at dksX1_goesOn_3 2 rfl rfl)
theorem dX1_goesOn_74 : decode cX1_goesOn 74 = .ok (.aload_n 0, 1) := dk_42 (dk_at dksX1_goesOn_3 5 rfl rfl)
theorem dX1_goesOn_75 : decode cX1_goesOn 75 = .ok (.aload_n 0, 1) := dk_42 (dk_at dksX1_goesOn_3 6 rfl rfl)
theorem dX1_goesOn_76 : decode cX1_goesOn 76 = .ok (.aload_n 3, 1) := dk_45 (dk_at dksX1_goesOn_3 7 rfl rfl)
theorem dX1_goesOn_77 : decode cX1_goesOn 77 = .ok (.invokevirtual 237, 3) := dk_182 0 237 (dk_at dksX1_goesOn_3 8 rfl rfl)
theorem dX1_goesOn_80 : decode cX1_goesOn 80 = .ok (.invokevirtual 220, 3) := dk_182 0 220 (dk_at dksX1_goesOn_3 11 rfl rfl)
theorem dX1_goesOn_83 : decode cX1_goesOn 83 = .ok (.ifCond .ne 5, 3) := dk_154 0 5 (dk_at dksX1_goesOn_3 14 rfl rfl)
theorem dX1_goesOn_86 : decode cX1_goesOn 86 = .ok (.iconst 0, 1) := dk_3 (dk_at dksX1_goesOn_3 17 rfl rfl)
theorem dX1_goesOn_87 : decode cX1_goesOn 87 = .ok (.ireturn, 1) := dk_172 (dk_at dksX1_goesOn_3 18 rfl rfl)
theorem dX1_goesOn_88 : decode cX1_goesOn 88 = .ok (.aload_n 3, 1) := dk_45 (dk_at dksX1_goesOn_3 19 rfl rfl)
theorem dX1_goesOn_89 : decode cX1_goesOn 89 = .ok (.dup, 1) := dk_89 (dk_at dksX1_goesOn_3 20 rfl rfl)
theorem dX1_goesOn_90 : decode cX1_goesOn 90 = .ok (.getfield 240, 3) := dk_180 0 240 (dk_at dksX1_goesOn_3 21 rfl rfl)
theorem dX1_goesOn_93 : decode cX1_goesOn 93 = .ok (.iconst 1, 1) := dk_4 (dk_at dksX1_goesOn_4 0 rfl rfl)
theorem dX1_goesOn_94 : decode cX1_goesOn 94 = .ok (.iadd, 1) := dk_96 (dk_at dksX1_goesOn_4 1 rfl rfl)
theorem dX1_goesOn_95 : decode cX1_goesOn 95 = .ok (.putfield 240, 3) := dk_181 0 240 (dk_at dksX1_goesOn_4 2 rfl rfl)
theorem dX1_goesOn_98 : decode cX1_goesOn 98 = .ok (.aload_n 0, 1) := dk_42 (dk_at dksX1_goesOn_4 5 rfl rfl)
theorem dX1_goesOn_99 : decode cX1_goesOn 99 = .ok (.iconst 2, 1) := dk_5 (dk_at dksX1_goesOn_4 6 rfl rfl)
theorem dX1_goesOn_100 : decode cX1_goesOn 100 = .ok (.iload_n 1, 1) := dk_27 (dk_at dksX1_goesOn_4 7 rfl rfl)
theorem dX1_goesOn_101 : decode cX1_goesOn 101 = .ok (.iload 4, 2) := dk_21 4 (dk_at dksX1_goesOn_4 8 rfl rfl)
theorem dX1_goesOn_103 : decode cX1_goesOn 103 = .ok (.invokevirtual 200, 3) := dk_182 0 200 (dk_at dksX1_goesOn_4 10 rfl rfl)
theorem dX1_goesOn_106 : decode cX1_goesOn 106 = .ok (.aload_n 0, 1) := dk_42 (dk_at dksX1_goesOn_4 13 rfl rfl)
theorem dX1_goesOn_107 : decode cX1_goesOn 107 = .ok (.iload_n 1, 1) := dk_27 (dk_at dksX1_goesOn_4 14 rfl rfl)
theorem dX1_goesOn_108 : decode cX1_goesOn 108 = .ok (.iconst 1, 1) := dk_4 (dk_at dksX1_goesOn_4 15 rfl rfl)
theorem dX1_goesOn_109 : decode cX1_goesOn 109 = .ok (.invokevirtual 243, 3) := dk_182 0 243 (dk_at dksX1_goesOn_4 16 rfl rfl)
theorem dX1_goesOn_112 : decode cX1_goesOn 112 = .ok (.ireturn, 1) := dk_172 (dk_at dksX1_goesOn_4 19 rfl rfl)
abbrev cX1_isOver : ByteArray := prog_11_method_20_code
def yX1_isOver : MethodName := ⟨RX1, "isOver", "(I)Z"⟩
def dkwX1_isOver_5 : List UInt8 := [182, 0, 65, 29, 172]
abbrev dktX1_isOver_5 : List UInt8 := dkwX1_isOver_5 ++ []
def dkwX1_isOver_4 : List UInt8 := [181, 0, 224, 42, 89, 180, 0, 80, 16, 50, 96, 181, 0, 80, 42, 7, 27, 16, 50, 182, 0, 200, 44]
abbrev dktX1_isOver_4 : List UInt8 := dkwX1_isOver_4 ++ dktX1_isOver_5
def dkwX1_isOver_3 : List UInt8 := [154, 0, 44, 42, 42, 44, 182, 0, 217, 182, 0, 220, 153, 0, 32, 44, 89, 180, 0, 224, 4, 96]
abbrev dktX1_isOver_3 : List UInt8 := dkwX1_isOver_3 ++ dktX1_isOver_4
def dkwX1_isOver_2 : List UInt8 := [180, 0, 147, 182, 0, 200, 42, 89, 180, 0, 80, 42, 44, 182, 0, 213, 96, 181, 0, 80, 44, 180, 0, 147]
abbrev dktX1_isOver_2 : List UInt8 := dkwX1_isOver_2 ++ dktX1_isOver_3
def dkwX1_isOver_1 : List UInt8 := [167, 0, 4, 3, 62, 29, 153, 0, 85, 44, 89, 180, 0, 210, 4, 96, 181, 0, 210, 42, 6, 27, 44]
abbrev dktX1_isOver_1 : List UInt8 := dkwX1_isOver_1 ++ dktX1_isOver_2
def dkwX1_isOver_0 : List UInt8 := [42, 180, 0, 17, 27, 50, 77, 44, 180, 0, 153, 44, 180, 0, 207, 5, 96, 7, 112, 159, 0, 7, 4]
abbrev dktX1_isOver_0 : List UInt8 := dkwX1_isOver_0 ++ dktX1_isOver_1
theorem dksX1_isOver_0 : cX1_isOver.data.toList.drop 0 = dktX1_isOver_0 := by decide +kernel
theorem dksX1_isOver_1 : cX1_isOver.data.toList.drop 23 = dktX1_isOver_1 := dk_seg dksX1_isOver_0 23 rfl rfl
theorem dksX1_isOver_2 : cX1_isOver.data.toList.drop 46 = dktX1_isOver_2 := dk_seg dksX1_isOver_1 23 rfl rfl
theorem dksX1_isOver_3 : cX1_isOver.data.toList.drop 70 = dktX1_isOver_3 := dk_seg dksX1_isOver_2 24 rfl rfl
theorem dksX1_isOver_4 : cX1_isOver.data.toList.drop 92 = dktX1_isOver_4 := dk_seg dksX1_isOver_3 22 rfl rfl
theorem dksX1_isOver_5 : cX1_isOver.data.toList.drop 115 = dktX1_isOver_5 := dk_seg dksX1_isOver_4 23 rfl rfl
theorem dX1_isOver_0 : decode cX1_isOver 0 = .ok (.aload_n 0, 1) := dk_42 (dk_at dksX1_isOver_0 0 rfl rfl)
theorem dX1_isOver_1 : decode cX1_isOver 1 = .ok (.getfield 17, 3) := dk_180 0 17 (dk_at dksX1_isOver_0 1 rfl rfl)
theorem dX1_isOver_4 : decode cX1_isOver 4 = .ok (.iload_n 1, 1) := dk_27 (dk_at dksX1_isOver_0 4 rfl rfl)
theorem dX1_isOver_5 : decode cX1_isOver 5 = .ok (.aaload, 1) := dk_50 (dk_at dksX1_isOver_0 5 rfl rfl)
theorem dX1_isOver_6 : decode cX1_isOver 6 = .ok (.astore_n 2, 1) := dk_77 (dk_at dksX1_isOver_0 6 rfl rfl)
theorem dX1_isOver_7 : decode cX1_isOver 7 = .ok (.aload_n 2, 1) := dk_44 (dk_at dksX1_isOver_0 7 rfl rfl)
theorem dX1_isOver_8 : decode cX1_isOver 8 = .ok (.getfield 153, 3) := dk_180 0 153 (dk_at dksX1_isOver_0 8 rfl rfl)
theorem dX1_isOver_11 : decode cX1_isOver 11 = .ok (.aload_n 2, 1) := dk_44 (dk_at dksX1_isOver_0 11 rfl rfl)
theorem dX1_isOver_12 : decode cX1_isOver 12 = .ok (.getfield 207, 3) := dk_180 0 207 (dk_at dksX1_isOver_0 12 rfl rfl)
theorem dX1_isOver_15 : decode cX1_isOver 15 = .ok (.iconst 2, 1) := dk_5 (dk_at dksX1_isOver_0 15 rfl rfl)
theorem dX1_isOver_16 : decode cX1_isOver 16 = .ok (.iadd, 1) := dk_96 (dk_at dksX1_isOver_0 16 rfl rfl)
theorem dX1_isOver_17 : decode cX1_isOver 17 = .ok (.iconst 4, 1) := dk_7 (dk_at dksX1_isOver_0 17 rfl rfl)
theorem dX1_isOver_18 : decode cX1_isOver 18 = .ok (.irem, 1) := dk_112 (dk_at dksX1_isOver_0 18 rfl rfl)
theorem dX1_isOver_19 : decode cX1_isOver 19 = .ok (.if_icmp .eq 7, 3) := dk_159 0 7 (dk_at dksX1_isOver_0 19 rfl rfl)
theorem dX1_isOver_22 : decode cX1_isOver 22 = .ok (.iconst 1, 1) := dk_4 (dk_at dksX1_isOver_0 22 rfl rfl)
theorem dX1_isOver_23 : decode cX1_isOver 23 = .ok (.goto 4, 3) := dk_167 0 4 (dk_at dksX1_isOver_1 0 rfl rfl)
theorem dX1_isOver_26 : decode cX1_isOver 26 = .ok (.iconst 0, 1) := dk_3 (dk_at dksX1_isOver_1 3 rfl rfl)
theorem dX1_isOver_27 : decode cX1_isOver 27 = .ok (.istore_n 3, 1) := dk_62 (dk_at dksX1_isOver_1 4 rfl rfl)
theorem dX1_isOver_28 : decode cX1_isOver 28 = .ok (.iload_n 3, 1) := dk_29 (dk_at dksX1_isOver_1 5 rfl rfl)
theorem dX1_isOver_29 : decode cX1_isOver 29 = .ok (.ifCond .eq 85, 3) := dk_153 0 85 (dk_at dksX1_isOver_1 6 rfl rfl)
theorem dX1_isOver_32 : decode cX1_isOver 32 = .ok (.aload_n 2, 1) := dk_44 (dk_at dksX1_isOver_1 9 rfl rfl)
theorem dX1_isOver_33 : decode cX1_isOver 33 = .ok (.dup, 1) := dk_89 (dk_at dksX1_isOver_1 10 rfl rfl)
theorem dX1_isOver_34 : decode cX1_isOver 34 = .ok (.getfield 210, 3) := dk_180 0 210 (dk_at dksX1_isOver_1 11 rfl rfl)
theorem dX1_isOver_37 : decode cX1_isOver 37 = .ok (.iconst 1, 1) := dk_4 (dk_at dksX1_isOver_1 14 rfl rfl)
theorem dX1_isOver_38 : decode cX1_isOver 38 = .ok (.iadd, 1) := dk_96 (dk_at dksX1_isOver_1 15 rfl rfl)
theorem dX1_isOver_39 : decode cX1_isOver 39 = .ok (.putfield 210, 3) := dk_181 0 210 (dk_at dksX1_isOver_1 16 rfl rfl)
theorem dX1_isOver_42 : decode cX1_isOver 42 = .ok (.aload_n 0, 1) := dk_42 (dk_at dksX1_isOver_1 19 rfl rfl)
theorem dX1_isOver_43 : decode cX1_isOver 43 = .ok (.iconst 3, 1) := dk_6 (dk_at dksX1_isOver_1 20 rfl rfl)
theorem dX1_isOver_44 : decode cX1_isOver 44 = .ok (.iload_n 1, 1) := dk_27 (dk_at dksX1_isOver_1 21 rfl rfl)
theorem dX1_isOver_45 : decode cX1_isOver 45 = .ok (.aload_n 2, 1) := dk_44 (dk_at dksX1_isOver_1 22 rfl rfl)
theorem dX1_isOver_46 : decode cX1_isOver 46 = .ok (.getfield 147, 3) := dk_180 0 147 (dk_at dksX1_isOver_2 0 rfl rfl)
theorem dX1_isOver_49 : decode cX1_isOver 49 = .ok (.invokevirtual 200, 3) := dk_182 0 200 (dk_at dksX1_isOver_2 3 rfl rfl)
theorem dX1_isOver_52 : decode cX1_isOver 52 = .ok (.aload_n 0, 1) := dk_42 (dk_at dksX1_isOver_2 6 rfl rfl)
theorem dX1_isOver_53 : decode cX1_isOver 53 = .ok (.dup, 1) := dk_89 (dk_at dksX1_isOver_2 7 rfl rfl)
theorem dX1_isOver_54 : decode cX1_isOver 54 = .ok (.getfield 80, 3) := dk_180 0 80 (dk_at dksX1_isOver_2 8 rfl rfl)
theorem dX1_isOver_57 : decode cX1_isOver 57 = .ok (.aload_n 0, 1) := dk_42 (dk_at dksX1_isOver_2 11 rfl rfl)
theorem dX1_isOver_58 : decode cX1_isOver 58 = .ok (.aload_n 2, 1) := dk_44 (dk_at dksX1_isOver_2 12 rfl rfl)
theorem dX1_isOver_59 : decode cX1_isOver 59 = .ok (.invokevirtual 213, 3) := dk_182 0 213 (dk_at dksX1_isOver_2 13 rfl rfl)
theorem dX1_isOver_62 : decode cX1_isOver 62 = .ok (.iadd, 1) := dk_96 (dk_at dksX1_isOver_2 16 rfl rfl)
theorem dX1_isOver_63 : decode cX1_isOver 63 = .ok (.putfield 80, 3) := dk_181 0 80 (dk_at dksX1_isOver_2 17 rfl rfl)
theorem dX1_isOver_66 : decode cX1_isOver 66 = .ok (.aload_n 2, 1) := dk_44 (dk_at dksX1_isOver_2 20 rfl rfl)
theorem dX1_isOver_67 : decode cX1_isOver 67 = .ok (.getfield 147, 3) := dk_180 0 147 (dk_at dksX1_isOver_2 21 rfl rfl)
theorem dX1_isOver_70 : decode cX1_isOver 70 = .ok (.ifCond .ne 44, 3) := dk_154 0 44 (dk_at dksX1_isOver_3 0 rfl rfl)
theorem dX1_isOver_73 : decode cX1_isOver 73 = .ok (.aload_n 0, 1) := dk_42 (dk_at dksX1_isOver_3 3 rfl rfl)
theorem dX1_isOver_74 : decode cX1_isOver 74 = .ok (.aload_n 0, 1) := dk_42 (dk_at dksX1_isOver_3 4 rfl rfl)
theorem dX1_isOver_75 : decode cX1_isOver 75 = .ok (.aload_n 2, 1) := dk_44 (dk_at dksX1_isOver_3 5 rfl rfl)
theorem dX1_isOver_76 : decode cX1_isOver 76 = .ok (.invokevirtual 217, 3) := dk_182 0 217 (dk_at dksX1_isOver_3 6 rfl rfl)
theorem dX1_isOver_79 : decode cX1_isOver 79 = .ok (.invokevirtual 220, 3) := dk_182 0 220 (dk_at dksX1_isOver_3 9 rfl rfl)
theorem dX1_isOver_82 : decode cX1_isOver 82 = .ok (.ifCond .eq 32, 3) := dk_153 0 32 (dk_at dksX1_isOver_3 12 rfl rfl)
theorem dX1_isOver_85 : decode cX1_isOver 85 = .ok (.aload_n 2, 1) := dk_44 (dk_at dksX1_isOver_3 15 rfl rfl)
theorem dX1_isOver_86 : decode cX1_isOver 86 = .ok (.dup, 1) := dk_89 (dk_at dksX1_isOver_3 16 rfl rfl)
theorem dX1_isOver_87 : decode cX1_isOver 87 = .ok (.getfield 224, 3) := dk_180 0 224 (dk_at dksX1_isOver_3 17 rfl rfl)
theorem dX1_isOver_90 : decode cX1_isOver 90 = .ok (.iconst 1, 1) := dk_4 (dk_at dksX1_isOver_3 20 rfl rfl)
theorem dX1_isOver_91 : decode cX1_isOver 91 = .ok (.iadd, 1) := dk_96 (dk_at dksX1_isOver_3 21 rfl rfl)
theorem dX1_isOver_92 : decode cX1_isOver 92 = .ok (.putfield 224, 3) := dk_181 0 224 (dk_at dksX1_isOver_4 0 rfl rfl)
theorem dX1_isOver_95 : decode cX1_isOver 95 = .ok (.aload_n 0, 1) := dk_42 (dk_at dksX1_isOver_4 3 rfl rfl)
theorem dX1_isOver_96 : decode cX1_isOver 96 = .ok (.dup, 1) := dk_89 (dk_at dksX1_isOver_4 4 rfl rfl)
theorem dX1_isOver_97 : decode cX1_isOver 97 = .ok (.getfield 80, 3) := dk_180 0 80 (dk_at dksX1_isOver_4 5 rfl rfl)
theorem dX1_isOver_100 : decode cX1_isOver 100 = .ok (.bipush 50, 2) := dk_16 50 (dk_at dksX1_isOver_4 8 rfl rfl)
theorem dX1_isOver_102 : decode cX1_isOver 102 = .ok (.iadd, 1) := dk_96 (dk_at dksX1_isOver_4 10 rfl rfl)
theorem dX1_isOver_103 : decode cX1_isOver 103 = .ok (.putfield 80, 3) := dk_181 0 80 (dk_at dksX1_isOver_4 11 rfl rfl)
theorem dX1_isOver_106 : decode cX1_isOver 106 = .ok (.aload_n 0, 1) := dk_42 (dk_at dksX1_isOver_4 14 rfl rfl)
theorem dX1_isOver_107 : decode cX1_isOver 107 = .ok (.iconst 4, 1) := dk_7 (dk_at dksX1_isOver_4 15 rfl rfl)
theorem dX1_isOver_108 : decode cX1_isOver 108 = .ok (.iload_n 1, 1) := dk_27 (dk_at dksX1_isOver_4 16 rfl rfl)
theorem dX1_isOver_109 : decode cX1_isOver 109 = .ok (.bipush 50, 2) := dk_16 50 (dk_at dksX1_isOver_4 17 rfl rfl)
theorem dX1_isOver_111 : decode cX1_isOver 111 = .ok (.invokevirtual 200, 3) := dk_182 0 200 (dk_at dksX1_isOver_4 19 rfl rfl)
theorem dX1_isOver_114 : decode cX1_isOver 114 = .ok (.aload_n 2, 1) := dk_44 (dk_at dksX1_isOver_4 22 rfl rfl)
theorem dX1_isOver_115 : decode cX1_isOver 115 = .ok (.invokevirtual 65, 3) := dk_182 0 65 (dk_at dksX1_isOver_5 0 rfl rfl)
theorem dX1_isOver_118 : decode cX1_isOver 118 = .ok (.iload_n 3, 1) := dk_29 (dk_at dksX1_isOver_5 3 rfl rfl)
theorem dX1_isOver_119 : decode cX1_isOver 119 = .ok (.ireturn, 1) := dk_172 (dk_at dksX1_isOver_5 4 rfl rfl)
abbrev cX1_pays : ByteArray := prog_11_method_15_code
def yX1_pays : MethodName := ⟨RX1, "pays", "(LWindingSquare$Walker;)I"⟩
def dkwX1_pays_0 : List UInt8 := [42, 16, 9, 43, 16, 10, 43, 180, 0, 147, 100, 16, 99, 182, 0, 189, 172]
abbrev dktX1_pays_0 : List UInt8 := dkwX1_pays_0 ++ []
theorem dksX1_pays_0 : cX1_pays.data.toList.drop 0 = dktX1_pays_0 := by decide +kernel
theorem dX1_pays_0 : decode cX1_pays 0 = .ok (.aload_n 0, 1) := dk_42 (dk_at dksX1_pays_0 0 rfl rfl)
theorem dX1_pays_1 : decode cX1_pays 1 = .ok (.bipush 9, 2) := dk_16 9 (dk_at dksX1_pays_0 1 rfl rfl)
theorem dX1_pays_3 : decode cX1_pays 3 = .ok (.aload_n 1, 1) := dk_43 (dk_at dksX1_pays_0 3 rfl rfl)
theorem dX1_pays_4 : decode cX1_pays 4 = .ok (.bipush 10, 2) := dk_16 10 (dk_at dksX1_pays_0 4 rfl rfl)
theorem dX1_pays_6 : decode cX1_pays 6 = .ok (.aload_n 1, 1) := dk_43 (dk_at dksX1_pays_0 6 rfl rfl)
theorem dX1_pays_7 : decode cX1_pays 7 = .ok (.getfield 147, 3) := dk_180 0 147 (dk_at dksX1_pays_0 7 rfl rfl)
theorem dX1_pays_10 : decode cX1_pays 10 = .ok (.isub, 1) := dk_100 (dk_at dksX1_pays_0 10 rfl rfl)
theorem dX1_pays_11 : decode cX1_pays 11 = .ok (.bipush 99, 2) := dk_16 99 (dk_at dksX1_pays_0 11 rfl rfl)
theorem dX1_pays_13 : decode cX1_pays 13 = .ok (.invokevirtual 189, 3) := dk_182 0 189 (dk_at dksX1_pays_0 13 rfl rfl)
theorem dX1_pays_16 : decode cX1_pays 16 = .ok (.ireturn, 1) := dk_172 (dk_at dksX1_pays_0 16 rfl rfl)
abbrev cX1_tells : ByteArray := prog_11_method_12_code
def yX1_tells : MethodName := ⟨RX1, "tells", "(ILWindingSquare$Walker;II)I"⟩
def dkwX1_tells_3 : List UInt8 := [182, 0, 176, 3, 21, 4, 184, 0, 185, 172, 132, 5, 1, 167, 255, 181, 29, 3, 21, 4, 184, 0, 185, 172]
abbrev dktX1_tells_3 : List UInt8 := dkwX1_tells_3 ++ []
def dkwX1_tells_2 : List UInt8 := [198, 0, 16, 25, 6, 180, 0, 172, 42, 182, 0, 176, 4, 160, 0, 19, 25, 6, 180, 0, 182, 42]
abbrev dktX1_tells_2 : List UInt8 := dkwX1_tells_2 ++ dktX1_tells_3
def dkwX1_tells_1 : List UInt8 := [21, 5, 182, 0, 128, 192, 0, 167, 58, 6, 25, 6, 180, 0, 169, 27, 160, 0, 40, 25, 6, 180, 0, 172]
abbrev dktX1_tells_1 : List UInt8 := dkwX1_tells_1 ++ dktX1_tells_2
def dkwX1_tells_0 : List UInt8 := [42, 44, 181, 0, 140, 3, 54, 5, 21, 5, 42, 180, 0, 54, 182, 0, 124, 162, 0, 69, 42, 180, 0, 54]
abbrev dktX1_tells_0 : List UInt8 := dkwX1_tells_0 ++ dktX1_tells_1
theorem dksX1_tells_0 : cX1_tells.data.toList.drop 0 = dktX1_tells_0 := by decide +kernel
theorem dksX1_tells_1 : cX1_tells.data.toList.drop 24 = dktX1_tells_1 := dk_seg dksX1_tells_0 24 rfl rfl
theorem dksX1_tells_2 : cX1_tells.data.toList.drop 48 = dktX1_tells_2 := dk_seg dksX1_tells_1 24 rfl rfl
theorem dksX1_tells_3 : cX1_tells.data.toList.drop 70 = dktX1_tells_3 := dk_seg dksX1_tells_2 22 rfl rfl
theorem dX1_tells_0 : decode cX1_tells 0 = .ok (.aload_n 0, 1) := dk_42 (dk_at dksX1_tells_0 0 rfl rfl)
theorem dX1_tells_1 : decode cX1_tells 1 = .ok (.aload_n 2, 1) := dk_44 (dk_at dksX1_tells_0 1 rfl rfl)
theorem dX1_tells_2 : decode cX1_tells 2 = .ok (.putfield 140, 3) := dk_181 0 140 (dk_at dksX1_tells_0 2 rfl rfl)
theorem dX1_tells_5 : decode cX1_tells 5 = .ok (.iconst 0, 1) := dk_3 (dk_at dksX1_tells_0 5 rfl rfl)
theorem dX1_tells_6 : decode cX1_tells 6 = .ok (.istore 5, 2) := dk_54 5 (dk_at dksX1_tells_0 6 rfl rfl)
theorem dX1_tells_8 : decode cX1_tells 8 = .ok (.iload 5, 2) := dk_21 5 (dk_at dksX1_tells_0 8 rfl rfl)
theorem dX1_tells_10 : decode cX1_tells 10 = .ok (.aload_n 0, 1) := dk_42 (dk_at dksX1_tells_0 10 rfl rfl)
theorem dX1_tells_11 : decode cX1_tells 11 = .ok (.getfield 54, 3) := dk_180 0 54 (dk_at dksX1_tells_0 11 rfl rfl)
theorem dX1_tells_14 : decode cX1_tells 14 = .ok (.invokevirtual 124, 3) := dk_182 0 124 (dk_at dksX1_tells_0 14 rfl rfl)
theorem dX1_tells_17 : decode cX1_tells 17 = .ok (.if_icmp .ge 69, 3) := dk_162 0 69 (dk_at dksX1_tells_0 17 rfl rfl)
theorem dX1_tells_20 : decode cX1_tells 20 = .ok (.aload_n 0, 1) := dk_42 (dk_at dksX1_tells_0 20 rfl rfl)
theorem dX1_tells_21 : decode cX1_tells 21 = .ok (.getfield 54, 3) := dk_180 0 54 (dk_at dksX1_tells_0 21 rfl rfl)
theorem dX1_tells_24 : decode cX1_tells 24 = .ok (.iload 5, 2) := dk_21 5 (dk_at dksX1_tells_1 0 rfl rfl)
theorem dX1_tells_26 : decode cX1_tells 26 = .ok (.invokevirtual 128, 3) := dk_182 0 128 (dk_at dksX1_tells_1 2 rfl rfl)
theorem dX1_tells_29 : decode cX1_tells 29 = .ok (.checkcast 167, 3) := dk_192 0 167 (dk_at dksX1_tells_1 5 rfl rfl)
theorem dX1_tells_32 : decode cX1_tells 32 = .ok (.astore 6, 2) := dk_58 6 (dk_at dksX1_tells_1 8 rfl rfl)
theorem dX1_tells_34 : decode cX1_tells 34 = .ok (.aload 6, 2) := dk_25 6 (dk_at dksX1_tells_1 10 rfl rfl)
theorem dX1_tells_36 : decode cX1_tells 36 = .ok (.getfield 169, 3) := dk_180 0 169 (dk_at dksX1_tells_1 12 rfl rfl)
theorem dX1_tells_39 : decode cX1_tells 39 = .ok (.iload_n 1, 1) := dk_27 (dk_at dksX1_tells_1 15 rfl rfl)
theorem dX1_tells_40 : decode cX1_tells 40 = .ok (.if_icmp .ne 40, 3) := dk_160 0 40 (dk_at dksX1_tells_1 16 rfl rfl)
theorem dX1_tells_43 : decode cX1_tells 43 = .ok (.aload 6, 2) := dk_25 6 (dk_at dksX1_tells_1 19 rfl rfl)
theorem dX1_tells_45 : decode cX1_tells 45 = .ok (.getfield 172, 3) := dk_180 0 172 (dk_at dksX1_tells_1 21 rfl rfl)
theorem dX1_tells_48 : decode cX1_tells 48 = .ok (.ifnull 16, 3) := dk_198 0 16 (dk_at dksX1_tells_2 0 rfl rfl)
theorem dX1_tells_51 : decode cX1_tells 51 = .ok (.aload 6, 2) := dk_25 6 (dk_at dksX1_tells_2 3 rfl rfl)
theorem dX1_tells_53 : decode cX1_tells 53 = .ok (.getfield 172, 3) := dk_180 0 172 (dk_at dksX1_tells_2 5 rfl rfl)
theorem dX1_tells_56 : decode cX1_tells 56 = .ok (.aload_n 0, 1) := dk_42 (dk_at dksX1_tells_2 8 rfl rfl)
theorem dX1_tells_57 : decode cX1_tells 57 = .ok (.invokevirtual 176, 3) := dk_182 0 176 (dk_at dksX1_tells_2 9 rfl rfl)
theorem dX1_tells_60 : decode cX1_tells 60 = .ok (.iconst 1, 1) := dk_4 (dk_at dksX1_tells_2 12 rfl rfl)
theorem dX1_tells_61 : decode cX1_tells 61 = .ok (.if_icmp .ne 19, 3) := dk_160 0 19 (dk_at dksX1_tells_2 13 rfl rfl)
theorem dX1_tells_64 : decode cX1_tells 64 = .ok (.aload 6, 2) := dk_25 6 (dk_at dksX1_tells_2 16 rfl rfl)
theorem dX1_tells_66 : decode cX1_tells 66 = .ok (.getfield 182, 3) := dk_180 0 182 (dk_at dksX1_tells_2 18 rfl rfl)
theorem dX1_tells_69 : decode cX1_tells 69 = .ok (.aload_n 0, 1) := dk_42 (dk_at dksX1_tells_2 21 rfl rfl)
theorem dX1_tells_70 : decode cX1_tells 70 = .ok (.invokevirtual 176, 3) := dk_182 0 176 (dk_at dksX1_tells_3 0 rfl rfl)
theorem dX1_tells_73 : decode cX1_tells 73 = .ok (.iconst 0, 1) := dk_3 (dk_at dksX1_tells_3 3 rfl rfl)
theorem dX1_tells_74 : decode cX1_tells 74 = .ok (.iload 4, 2) := dk_21 4 (dk_at dksX1_tells_3 4 rfl rfl)
theorem dX1_tells_76 : decode cX1_tells 76 = .ok (.invokestatic 185, 3) := dk_184 0 185 (dk_at dksX1_tells_3 6 rfl rfl)
theorem dX1_tells_79 : decode cX1_tells 79 = .ok (.ireturn, 1) := dk_172 (dk_at dksX1_tells_3 9 rfl rfl)
theorem dX1_tells_80 : decode cX1_tells 80 = .ok (.iinc 5 1, 3) := dk_132 5 1 (dk_at dksX1_tells_3 10 rfl rfl)
theorem dX1_tells_83 : decode cX1_tells 83 = .ok (.goto (-75), 3) := dk_167 255 181 (dk_at dksX1_tells_3 13 rfl rfl)
theorem dX1_tells_86 : decode cX1_tells 86 = .ok (.iload_n 3, 1) := dk_29 (dk_at dksX1_tells_3 16 rfl rfl)
theorem dX1_tells_87 : decode cX1_tells 87 = .ok (.iconst 0, 1) := dk_3 (dk_at dksX1_tells_3 17 rfl rfl)
theorem dX1_tells_88 : decode cX1_tells 88 = .ok (.iload 4, 2) := dk_21 4 (dk_at dksX1_tells_3 18 rfl rfl)
theorem dX1_tells_90 : decode cX1_tells 90 = .ok (.invokestatic 185, 3) := dk_184 0 185 (dk_at dksX1_tells_3 20 rfl rfl)
theorem dX1_tells_93 : decode cX1_tells 93 = .ok (.ireturn, 1) := dk_172 (dk_at dksX1_tells_3 23 rfl rfl)
abbrev cX1_fact : ByteArray := prog_11_method_11_code
def yX1_fact : MethodName := ⟨RX1, "fact", "(I)I"⟩
def dkwX1_fact_6 : List UInt8 := [172, 42, 182, 0, 156, 184, 0, 159, 172, 42, 182, 0, 164, 172, 42, 180, 0, 76, 172]
abbrev dktX1_fact_6 : List UInt8 := dkwX1_fact_6 ++ []
def dkwX1_fact_5 : List UInt8 := [153, 0, 23, 42, 180, 0, 9, 42, 180, 0, 140, 180, 0, 118, 46, 5, 160, 0, 7, 4, 167, 0, 4, 3]
abbrev dktX1_fact_5 : List UInt8 := dkwX1_fact_5 ++ dktX1_fact_6
def dkwX1_fact_4 : List UInt8 := [180, 0, 140, 180, 0, 118, 16, 12, 108, 167, 0, 4, 3, 172, 42, 180, 0, 140, 180, 0, 153, 172, 28]
abbrev dktX1_fact_4 : List UInt8 := dkwX1_fact_4 ++ dktX1_fact_5
def dkwX1_fact_3 : List UInt8 := [28, 153, 0, 16, 42, 180, 0, 140, 180, 0, 118, 16, 12, 112, 167, 0, 4, 3, 172, 28, 153, 0, 16, 42]
abbrev dktX1_fact_3 : List UInt8 := dkwX1_fact_3 ++ dktX1_fact_4
def dkwX1_fact_2 : List UInt8 := [42, 180, 0, 140, 180, 0, 144, 172, 42, 180, 0, 140, 180, 0, 147, 172, 42, 180, 0, 140, 180, 0, 150, 172]
abbrev dktX1_fact_2 : List UInt8 := dkwX1_fact_2 ++ dktX1_fact_3
def dkwX1_fact_1 : List UInt8 := [170, 0, 0, 0, 0, 0, 160, 0, 0, 0, 0, 0, 0, 0, 8, 0, 0, 0, 51, 0, 0, 0, 59, 0, 0, 0, 67, 0, 0, 0, 75, 0, 0, 0, 94, 0, 0, 0, 113, 0, 0, 0, 121, 0, 0, 0, 147, 0, 0, 0, 155]
abbrev dktX1_fact_1 : List UInt8 := dkwX1_fact_1 ++ dktX1_fact_2
def dkwX1_fact_0 : List UInt8 := [42, 180, 0, 140, 182, 0, 120, 61, 27]
abbrev dktX1_fact_0 : List UInt8 := dkwX1_fact_0 ++ dktX1_fact_1
theorem dksX1_fact_0 : cX1_fact.data.toList.drop 0 = dktX1_fact_0 := by decide +kernel
theorem dksX1_fact_1 : cX1_fact.data.toList.drop 9 = dktX1_fact_1 := dk_seg dksX1_fact_0 9 rfl rfl
theorem dksX1_fact_2 : cX1_fact.data.toList.drop 60 = dktX1_fact_2 := dk_seg dksX1_fact_1 51 rfl rfl
theorem dksX1_fact_3 : cX1_fact.data.toList.drop 84 = dktX1_fact_3 := dk_seg dksX1_fact_2 24 rfl rfl
theorem dksX1_fact_4 : cX1_fact.data.toList.drop 108 = dktX1_fact_4 := dk_seg dksX1_fact_3 24 rfl rfl
theorem dksX1_fact_5 : cX1_fact.data.toList.drop 131 = dktX1_fact_5 := dk_seg dksX1_fact_4 23 rfl rfl
theorem dksX1_fact_6 : cX1_fact.data.toList.drop 155 = dktX1_fact_6 := dk_seg dksX1_fact_5 24 rfl rfl
theorem dX1_fact_0 : decode cX1_fact 0 = .ok (.aload_n 0, 1) := dk_42 (dk_at dksX1_fact_0 0 rfl rfl)
theorem dX1_fact_1 : decode cX1_fact 1 = .ok (.getfield 140, 3) := dk_180 0 140 (dk_at dksX1_fact_0 1 rfl rfl)
theorem dX1_fact_4 : decode cX1_fact 4 = .ok (.invokevirtual 120, 3) := dk_182 0 120 (dk_at dksX1_fact_0 4 rfl rfl)
theorem dX1_fact_7 : decode cX1_fact 7 = .ok (.istore_n 2, 1) := dk_61 (dk_at dksX1_fact_0 7 rfl rfl)
theorem dX1_fact_8 : decode cX1_fact 8 = .ok (.iload_n 1, 1) := dk_27 (dk_at dksX1_fact_0 8 rfl rfl)
theorem dX1_fact_9 : decode cX1_fact 9 = .ok (.tableswitch 160 0 8 #[51, 59, 67, 75, 94, 113, 121, 147, 155], 51) := by decide +kernel
theorem dX1_fact_60 : decode cX1_fact 60 = .ok (.aload_n 0, 1) := dk_42 (dk_at dksX1_fact_2 0 rfl rfl)
theorem dX1_fact_61 : decode cX1_fact 61 = .ok (.getfield 140, 3) := dk_180 0 140 (dk_at dksX1_fact_2 1 rfl rfl)
theorem dX1_fact_64 : decode cX1_fact 64 = .ok (.getfield 144, 3) := dk_180 0 144 (dk_at dksX1_fact_2 4 rfl rfl)
theorem dX1_fact_67 : decode cX1_fact 67 = .ok (.ireturn, 1) := dk_172 (dk_at dksX1_fact_2 7 rfl rfl)
theorem dX1_fact_68 : decode cX1_fact 68 = .ok (.aload_n 0, 1) := dk_42 (dk_at dksX1_fact_2 8 rfl rfl)
theorem dX1_fact_69 : decode cX1_fact 69 = .ok (.getfield 140, 3) := dk_180 0 140 (dk_at dksX1_fact_2 9 rfl rfl)
theorem dX1_fact_72 : decode cX1_fact 72 = .ok (.getfield 147, 3) := dk_180 0 147 (dk_at dksX1_fact_2 12 rfl rfl)
theorem dX1_fact_75 : decode cX1_fact 75 = .ok (.ireturn, 1) := dk_172 (dk_at dksX1_fact_2 15 rfl rfl)
theorem dX1_fact_76 : decode cX1_fact 76 = .ok (.aload_n 0, 1) := dk_42 (dk_at dksX1_fact_2 16 rfl rfl)
theorem dX1_fact_77 : decode cX1_fact 77 = .ok (.getfield 140, 3) := dk_180 0 140 (dk_at dksX1_fact_2 17 rfl rfl)
theorem dX1_fact_80 : decode cX1_fact 80 = .ok (.getfield 150, 3) := dk_180 0 150 (dk_at dksX1_fact_2 20 rfl rfl)
theorem dX1_fact_83 : decode cX1_fact 83 = .ok (.ireturn, 1) := dk_172 (dk_at dksX1_fact_2 23 rfl rfl)
theorem dX1_fact_84 : decode cX1_fact 84 = .ok (.iload_n 2, 1) := dk_28 (dk_at dksX1_fact_3 0 rfl rfl)
theorem dX1_fact_85 : decode cX1_fact 85 = .ok (.ifCond .eq 16, 3) := dk_153 0 16 (dk_at dksX1_fact_3 1 rfl rfl)
theorem dX1_fact_88 : decode cX1_fact 88 = .ok (.aload_n 0, 1) := dk_42 (dk_at dksX1_fact_3 4 rfl rfl)
theorem dX1_fact_89 : decode cX1_fact 89 = .ok (.getfield 140, 3) := dk_180 0 140 (dk_at dksX1_fact_3 5 rfl rfl)
theorem dX1_fact_92 : decode cX1_fact 92 = .ok (.getfield 118, 3) := dk_180 0 118 (dk_at dksX1_fact_3 8 rfl rfl)
theorem dX1_fact_95 : decode cX1_fact 95 = .ok (.bipush 12, 2) := dk_16 12 (dk_at dksX1_fact_3 11 rfl rfl)
theorem dX1_fact_97 : decode cX1_fact 97 = .ok (.irem, 1) := dk_112 (dk_at dksX1_fact_3 13 rfl rfl)
theorem dX1_fact_98 : decode cX1_fact 98 = .ok (.goto 4, 3) := dk_167 0 4 (dk_at dksX1_fact_3 14 rfl rfl)
theorem dX1_fact_101 : decode cX1_fact 101 = .ok (.iconst 0, 1) := dk_3 (dk_at dksX1_fact_3 17 rfl rfl)
theorem dX1_fact_102 : decode cX1_fact 102 = .ok (.ireturn, 1) := dk_172 (dk_at dksX1_fact_3 18 rfl rfl)
theorem dX1_fact_103 : decode cX1_fact 103 = .ok (.iload_n 2, 1) := dk_28 (dk_at dksX1_fact_3 19 rfl rfl)
theorem dX1_fact_104 : decode cX1_fact 104 = .ok (.ifCond .eq 16, 3) := dk_153 0 16 (dk_at dksX1_fact_3 20 rfl rfl)
theorem dX1_fact_107 : decode cX1_fact 107 = .ok (.aload_n 0, 1) := dk_42 (dk_at dksX1_fact_3 23 rfl rfl)
theorem dX1_fact_108 : decode cX1_fact 108 = .ok (.getfield 140, 3) := dk_180 0 140 (dk_at dksX1_fact_4 0 rfl rfl)
theorem dX1_fact_111 : decode cX1_fact 111 = .ok (.getfield 118, 3) := dk_180 0 118 (dk_at dksX1_fact_4 3 rfl rfl)
theorem dX1_fact_114 : decode cX1_fact 114 = .ok (.bipush 12, 2) := dk_16 12 (dk_at dksX1_fact_4 6 rfl rfl)
theorem dX1_fact_116 : decode cX1_fact 116 = .ok (.idiv, 1) := dk_108 (dk_at dksX1_fact_4 8 rfl rfl)
theorem dX1_fact_117 : decode cX1_fact 117 = .ok (.goto 4, 3) := dk_167 0 4 (dk_at dksX1_fact_4 9 rfl rfl)
theorem dX1_fact_120 : decode cX1_fact 120 = .ok (.iconst 0, 1) := dk_3 (dk_at dksX1_fact_4 12 rfl rfl)
theorem dX1_fact_121 : decode cX1_fact 121 = .ok (.ireturn, 1) := dk_172 (dk_at dksX1_fact_4 13 rfl rfl)
theorem dX1_fact_122 : decode cX1_fact 122 = .ok (.aload_n 0, 1) := dk_42 (dk_at dksX1_fact_4 14 rfl rfl)
theorem dX1_fact_123 : decode cX1_fact 123 = .ok (.getfield 140, 3) := dk_180 0 140 (dk_at dksX1_fact_4 15 rfl rfl)
theorem dX1_fact_126 : decode cX1_fact 126 = .ok (.getfield 153, 3) := dk_180 0 153 (dk_at dksX1_fact_4 18 rfl rfl)
theorem dX1_fact_129 : decode cX1_fact 129 = .ok (.ireturn, 1) := dk_172 (dk_at dksX1_fact_4 21 rfl rfl)
theorem dX1_fact_130 : decode cX1_fact 130 = .ok (.iload_n 2, 1) := dk_28 (dk_at dksX1_fact_4 22 rfl rfl)
theorem dX1_fact_131 : decode cX1_fact 131 = .ok (.ifCond .eq 23, 3) := dk_153 0 23 (dk_at dksX1_fact_5 0 rfl rfl)
theorem dX1_fact_134 : decode cX1_fact 134 = .ok (.aload_n 0, 1) := dk_42 (dk_at dksX1_fact_5 3 rfl rfl)
theorem dX1_fact_135 : decode cX1_fact 135 = .ok (.getfield 9, 3) := dk_180 0 9 (dk_at dksX1_fact_5 4 rfl rfl)
theorem dX1_fact_138 : decode cX1_fact 138 = .ok (.aload_n 0, 1) := dk_42 (dk_at dksX1_fact_5 7 rfl rfl)
theorem dX1_fact_139 : decode cX1_fact 139 = .ok (.getfield 140, 3) := dk_180 0 140 (dk_at dksX1_fact_5 8 rfl rfl)
theorem dX1_fact_142 : decode cX1_fact 142 = .ok (.getfield 118, 3) := dk_180 0 118 (dk_at dksX1_fact_5 11 rfl rfl)
theorem dX1_fact_145 : decode cX1_fact 145 = .ok (.iaload, 1) := dk_46 (dk_at dksX1_fact_5 14 rfl rfl)
theorem dX1_fact_146 : decode cX1_fact 146 = .ok (.iconst 2, 1) := dk_5 (dk_at dksX1_fact_5 15 rfl rfl)
theorem dX1_fact_147 : decode cX1_fact 147 = .ok (.if_icmp .ne 7, 3) := dk_160 0 7 (dk_at dksX1_fact_5 16 rfl rfl)
theorem dX1_fact_150 : decode cX1_fact 150 = .ok (.iconst 1, 1) := dk_4 (dk_at dksX1_fact_5 19 rfl rfl)
theorem dX1_fact_151 : decode cX1_fact 151 = .ok (.goto 4, 3) := dk_167 0 4 (dk_at dksX1_fact_5 20 rfl rfl)
theorem dX1_fact_154 : decode cX1_fact 154 = .ok (.iconst 0, 1) := dk_3 (dk_at dksX1_fact_5 23 rfl rfl)
theorem dX1_fact_155 : decode cX1_fact 155 = .ok (.ireturn, 1) := dk_172 (dk_at dksX1_fact_6 0 rfl rfl)
theorem dX1_fact_156 : decode cX1_fact 156 = .ok (.aload_n 0, 1) := dk_42 (dk_at dksX1_fact_6 1 rfl rfl)
theorem dX1_fact_157 : decode cX1_fact 157 = .ok (.invokevirtual 156, 3) := dk_182 0 156 (dk_at dksX1_fact_6 2 rfl rfl)
theorem dX1_fact_160 : decode cX1_fact 160 = .ok (.invokestatic 159, 3) := dk_184 0 159 (dk_at dksX1_fact_6 5 rfl rfl)
theorem dX1_fact_163 : decode cX1_fact 163 = .ok (.ireturn, 1) := dk_172 (dk_at dksX1_fact_6 8 rfl rfl)
theorem dX1_fact_164 : decode cX1_fact 164 = .ok (.aload_n 0, 1) := dk_42 (dk_at dksX1_fact_6 9 rfl rfl)
theorem dX1_fact_165 : decode cX1_fact 165 = .ok (.invokevirtual 164, 3) := dk_182 0 164 (dk_at dksX1_fact_6 10 rfl rfl)
theorem dX1_fact_168 : decode cX1_fact 168 = .ok (.ireturn, 1) := dk_172 (dk_at dksX1_fact_6 13 rfl rfl)
theorem dX1_fact_169 : decode cX1_fact 169 = .ok (.aload_n 0, 1) := dk_42 (dk_at dksX1_fact_6 14 rfl rfl)
theorem dX1_fact_170 : decode cX1_fact 170 = .ok (.getfield 76, 3) := dk_180 0 76 (dk_at dksX1_fact_6 15 rfl rfl)
theorem dX1_fact_173 : decode cX1_fact 173 = .ok (.ireturn, 1) := dk_172 (dk_at dksX1_fact_6 18 rfl rfl)
abbrev cX1_inside : ByteArray := prog_11_method_9_code
def yX1_inside : MethodName := ⟨RX1, "inside", "()I"⟩
def dkwX1_inside_1 : List UInt8 := [153, 0, 9, 4, 28, 120, 167, 0, 4, 3, 128, 60, 132, 2, 1, 167, 255, 223, 27, 172]
abbrev dktX1_inside_1 : List UInt8 := dkwX1_inside_1 ++ []
def dkwX1_inside_0 : List UInt8 := [3, 60, 3, 61, 28, 42, 180, 0, 93, 162, 0, 31, 27, 42, 180, 0, 17, 28, 50, 182, 0, 120]
abbrev dktX1_inside_0 : List UInt8 := dkwX1_inside_0 ++ dktX1_inside_1
theorem dksX1_inside_0 : cX1_inside.data.toList.drop 0 = dktX1_inside_0 := by decide +kernel
theorem dksX1_inside_1 : cX1_inside.data.toList.drop 22 = dktX1_inside_1 := dk_seg dksX1_inside_0 22 rfl rfl
theorem dX1_inside_0 : decode cX1_inside 0 = .ok (.iconst 0, 1) := dk_3 (dk_at dksX1_inside_0 0 rfl rfl)
theorem dX1_inside_1 : decode cX1_inside 1 = .ok (.istore_n 1, 1) := dk_60 (dk_at dksX1_inside_0 1 rfl rfl)
theorem dX1_inside_2 : decode cX1_inside 2 = .ok (.iconst 0, 1) := dk_3 (dk_at dksX1_inside_0 2 rfl rfl)
theorem dX1_inside_3 : decode cX1_inside 3 = .ok (.istore_n 2, 1) := dk_61 (dk_at dksX1_inside_0 3 rfl rfl)
theorem dX1_inside_4 : decode cX1_inside 4 = .ok (.iload_n 2, 1) := dk_28 (dk_at dksX1_inside_0 4 rfl rfl)
theorem dX1_inside_5 : decode cX1_inside 5 = .ok (.aload_n 0, 1) := dk_42 (dk_at dksX1_inside_0 5 rfl rfl)
theorem dX1_inside_6 : decode cX1_inside 6 = .ok (.getfield 93, 3) := dk_180 0 93 (dk_at dksX1_inside_0 6 rfl rfl)
theorem dX1_inside_9 : decode cX1_inside 9 = .ok (.if_icmp .ge 31, 3) := dk_162 0 31 (dk_at dksX1_inside_0 9 rfl rfl)
theorem dX1_inside_12 : decode cX1_inside 12 = .ok (.iload_n 1, 1) := dk_27 (dk_at dksX1_inside_0 12 rfl rfl)
theorem dX1_inside_13 : decode cX1_inside 13 = .ok (.aload_n 0, 1) := dk_42 (dk_at dksX1_inside_0 13 rfl rfl)
theorem dX1_inside_14 : decode cX1_inside 14 = .ok (.getfield 17, 3) := dk_180 0 17 (dk_at dksX1_inside_0 14 rfl rfl)
theorem dX1_inside_17 : decode cX1_inside 17 = .ok (.iload_n 2, 1) := dk_28 (dk_at dksX1_inside_0 17 rfl rfl)
theorem dX1_inside_18 : decode cX1_inside 18 = .ok (.aaload, 1) := dk_50 (dk_at dksX1_inside_0 18 rfl rfl)
theorem dX1_inside_19 : decode cX1_inside 19 = .ok (.invokevirtual 120, 3) := dk_182 0 120 (dk_at dksX1_inside_0 19 rfl rfl)
theorem dX1_inside_22 : decode cX1_inside 22 = .ok (.ifCond .eq 9, 3) := dk_153 0 9 (dk_at dksX1_inside_1 0 rfl rfl)
theorem dX1_inside_25 : decode cX1_inside 25 = .ok (.iconst 1, 1) := dk_4 (dk_at dksX1_inside_1 3 rfl rfl)
theorem dX1_inside_26 : decode cX1_inside 26 = .ok (.iload_n 2, 1) := dk_28 (dk_at dksX1_inside_1 4 rfl rfl)
theorem dX1_inside_27 : decode cX1_inside 27 = .ok (.ishl, 1) := dk_120 (dk_at dksX1_inside_1 5 rfl rfl)
theorem dX1_inside_28 : decode cX1_inside 28 = .ok (.goto 4, 3) := dk_167 0 4 (dk_at dksX1_inside_1 6 rfl rfl)
theorem dX1_inside_31 : decode cX1_inside 31 = .ok (.iconst 0, 1) := dk_3 (dk_at dksX1_inside_1 9 rfl rfl)
theorem dX1_inside_32 : decode cX1_inside 32 = .ok (.ior, 1) := dk_128 (dk_at dksX1_inside_1 10 rfl rfl)
theorem dX1_inside_33 : decode cX1_inside 33 = .ok (.istore_n 1, 1) := dk_60 (dk_at dksX1_inside_1 11 rfl rfl)
theorem dX1_inside_34 : decode cX1_inside 34 = .ok (.iinc 2 1, 3) := dk_132 2 1 (dk_at dksX1_inside_1 12 rfl rfl)
theorem dX1_inside_37 : decode cX1_inside 37 = .ok (.goto (-33), 3) := dk_167 255 223 (dk_at dksX1_inside_1 15 rfl rfl)
theorem dX1_inside_40 : decode cX1_inside 40 = .ok (.iload_n 1, 1) := dk_27 (dk_at dksX1_inside_1 18 rfl rfl)
theorem dX1_inside_41 : decode cX1_inside 41 = .ok (.ireturn, 1) := dk_172 (dk_at dksX1_inside_1 19 rfl rfl)
abbrev cX1_watched : ByteArray := prog_11_method_10_code
def yX1_watched : MethodName := ⟨RX1, "watched", "()I"⟩
def dkwX1_watched_2 : List UInt8 := [180, 0, 137, 167, 0, 4, 27, 60, 132, 2, 1, 167, 255, 202, 27, 172]
abbrev dktX1_watched_2 : List UInt8 := dkwX1_watched_2 ++ []
def dkwX1_watched_1 : List UInt8 := [192, 0, 132, 180, 0, 134, 42, 180, 0, 76, 163, 0, 20, 42, 180, 0, 61, 28, 182, 0, 128, 192, 0, 132]
abbrev dktX1_watched_1 : List UInt8 := dkwX1_watched_1 ++ dktX1_watched_2
def dkwX1_watched_0 : List UInt8 := [3, 60, 3, 61, 28, 42, 180, 0, 61, 182, 0, 124, 162, 0, 49, 42, 180, 0, 61, 28, 182, 0, 128]
abbrev dktX1_watched_0 : List UInt8 := dkwX1_watched_0 ++ dktX1_watched_1
theorem dksX1_watched_0 : cX1_watched.data.toList.drop 0 = dktX1_watched_0 := by decide +kernel
theorem dksX1_watched_1 : cX1_watched.data.toList.drop 23 = dktX1_watched_1 := dk_seg dksX1_watched_0 23 rfl rfl
theorem dksX1_watched_2 : cX1_watched.data.toList.drop 47 = dktX1_watched_2 := dk_seg dksX1_watched_1 24 rfl rfl
theorem dX1_watched_0 : decode cX1_watched 0 = .ok (.iconst 0, 1) := dk_3 (dk_at dksX1_watched_0 0 rfl rfl)
theorem dX1_watched_1 : decode cX1_watched 1 = .ok (.istore_n 1, 1) := dk_60 (dk_at dksX1_watched_0 1 rfl rfl)
theorem dX1_watched_2 : decode cX1_watched 2 = .ok (.iconst 0, 1) := dk_3 (dk_at dksX1_watched_0 2 rfl rfl)
theorem dX1_watched_3 : decode cX1_watched 3 = .ok (.istore_n 2, 1) := dk_61 (dk_at dksX1_watched_0 3 rfl rfl)
theorem dX1_watched_4 : decode cX1_watched 4 = .ok (.iload_n 2, 1) := dk_28 (dk_at dksX1_watched_0 4 rfl rfl)
theorem dX1_watched_5 : decode cX1_watched 5 = .ok (.aload_n 0, 1) := dk_42 (dk_at dksX1_watched_0 5 rfl rfl)
theorem dX1_watched_6 : decode cX1_watched 6 = .ok (.getfield 61, 3) := dk_180 0 61 (dk_at dksX1_watched_0 6 rfl rfl)
theorem dX1_watched_9 : decode cX1_watched 9 = .ok (.invokevirtual 124, 3) := dk_182 0 124 (dk_at dksX1_watched_0 9 rfl rfl)
theorem dX1_watched_12 : decode cX1_watched 12 = .ok (.if_icmp .ge 49, 3) := dk_162 0 49 (dk_at dksX1_watched_0 12 rfl rfl)
theorem dX1_watched_15 : decode cX1_watched 15 = .ok (.aload_n 0, 1) := dk_42 (dk_at dksX1_watched_0 15 rfl rfl)
theorem dX1_watched_16 : decode cX1_watched 16 = .ok (.getfield 61, 3) := dk_180 0 61 (dk_at dksX1_watched_0 16 rfl rfl)
theorem dX1_watched_19 : decode cX1_watched 19 = .ok (.iload_n 2, 1) := dk_28 (dk_at dksX1_watched_0 19 rfl rfl)
theorem dX1_watched_20 : decode cX1_watched 20 = .ok (.invokevirtual 128, 3) := dk_182 0 128 (dk_at dksX1_watched_0 20 rfl rfl)
theorem dX1_watched_23 : decode cX1_watched 23 = .ok (.checkcast 132, 3) := dk_192 0 132 (dk_at dksX1_watched_1 0 rfl rfl)
theorem dX1_watched_26 : decode cX1_watched 26 = .ok (.getfield 134, 3) := dk_180 0 134 (dk_at dksX1_watched_1 3 rfl rfl)
theorem dX1_watched_29 : decode cX1_watched 29 = .ok (.aload_n 0, 1) := dk_42 (dk_at dksX1_watched_1 6 rfl rfl)
theorem dX1_watched_30 : decode cX1_watched 30 = .ok (.getfield 76, 3) := dk_180 0 76 (dk_at dksX1_watched_1 7 rfl rfl)
theorem dX1_watched_33 : decode cX1_watched 33 = .ok (.if_icmp .gt 20, 3) := dk_163 0 20 (dk_at dksX1_watched_1 10 rfl rfl)
theorem dX1_watched_36 : decode cX1_watched 36 = .ok (.aload_n 0, 1) := dk_42 (dk_at dksX1_watched_1 13 rfl rfl)
theorem dX1_watched_37 : decode cX1_watched 37 = .ok (.getfield 61, 3) := dk_180 0 61 (dk_at dksX1_watched_1 14 rfl rfl)
theorem dX1_watched_40 : decode cX1_watched 40 = .ok (.iload_n 2, 1) := dk_28 (dk_at dksX1_watched_1 17 rfl rfl)
theorem dX1_watched_41 : decode cX1_watched 41 = .ok (.invokevirtual 128, 3) := dk_182 0 128 (dk_at dksX1_watched_1 18 rfl rfl)
theorem dX1_watched_44 : decode cX1_watched 44 = .ok (.checkcast 132, 3) := dk_192 0 132 (dk_at dksX1_watched_1 21 rfl rfl)
theorem dX1_watched_47 : decode cX1_watched 47 = .ok (.getfield 137, 3) := dk_180 0 137 (dk_at dksX1_watched_2 0 rfl rfl)
theorem dX1_watched_50 : decode cX1_watched 50 = .ok (.goto 4, 3) := dk_167 0 4 (dk_at dksX1_watched_2 3 rfl rfl)
theorem dX1_watched_53 : decode cX1_watched 53 = .ok (.iload_n 1, 1) := dk_27 (dk_at dksX1_watched_2 6 rfl rfl)
theorem dX1_watched_54 : decode cX1_watched 54 = .ok (.istore_n 1, 1) := dk_60 (dk_at dksX1_watched_2 7 rfl rfl)
theorem dX1_watched_55 : decode cX1_watched 55 = .ok (.iinc 2 1, 3) := dk_132 2 1 (dk_at dksX1_watched_2 8 rfl rfl)
theorem dX1_watched_58 : decode cX1_watched 58 = .ok (.goto (-54), 3) := dk_167 255 202 (dk_at dksX1_watched_2 11 rfl rfl)
theorem dX1_watched_61 : decode cX1_watched 61 = .ok (.iload_n 1, 1) := dk_27 (dk_at dksX1_watched_2 14 rfl rfl)
theorem dX1_watched_62 : decode cX1_watched 62 = .ok (.ireturn, 1) := dk_172 (dk_at dksX1_watched_2 15 rfl rfl)
abbrev cX1_sees : ByteArray := prog_11_method_14_code
def yX1_sees : MethodName := ⟨RX1, "sees", "(LWindingSquare$Walker;)I"⟩
def dkwX1_sees_0 : List UInt8 := [42, 16, 8, 43, 17, 0, 200, 42, 182, 0, 164, 104, 17, 3, 232, 182, 0, 189, 172]
abbrev dktX1_sees_0 : List UInt8 := dkwX1_sees_0 ++ []
theorem dksX1_sees_0 : cX1_sees.data.toList.drop 0 = dktX1_sees_0 := by decide +kernel
theorem dX1_sees_0 : decode cX1_sees 0 = .ok (.aload_n 0, 1) := dk_42 (dk_at dksX1_sees_0 0 rfl rfl)
theorem dX1_sees_1 : decode cX1_sees 1 = .ok (.bipush 8, 2) := dk_16 8 (dk_at dksX1_sees_0 1 rfl rfl)
theorem dX1_sees_3 : decode cX1_sees 3 = .ok (.aload_n 1, 1) := dk_43 (dk_at dksX1_sees_0 3 rfl rfl)
theorem dX1_sees_4 : decode cX1_sees 4 = .ok (.sipush 200, 3) := dk_17 0 200 (dk_at dksX1_sees_0 4 rfl rfl)
theorem dX1_sees_7 : decode cX1_sees 7 = .ok (.aload_n 0, 1) := dk_42 (dk_at dksX1_sees_0 7 rfl rfl)
theorem dX1_sees_8 : decode cX1_sees 8 = .ok (.invokevirtual 164, 3) := dk_182 0 164 (dk_at dksX1_sees_0 8 rfl rfl)
theorem dX1_sees_11 : decode cX1_sees 11 = .ok (.imul, 1) := dk_104 (dk_at dksX1_sees_0 11 rfl rfl)
theorem dX1_sees_12 : decode cX1_sees 12 = .ok (.sipush 1000, 3) := dk_17 3 232 (dk_at dksX1_sees_0 12 rfl rfl)
theorem dX1_sees_15 : decode cX1_sees 15 = .ok (.invokevirtual 189, 3) := dk_182 0 189 (dk_at dksX1_sees_0 15 rfl rfl)
theorem dX1_sees_18 : decode cX1_sees 18 = .ok (.ireturn, 1) := dk_172 (dk_at dksX1_sees_0 18 rfl rfl)
abbrev cX1_falls : ByteArray := prog_11_method_6_code
def yX1_falls : MethodName := ⟨RX1, "falls", "(I)Z"⟩
def dkwX1_falls_1 : List UInt8 := [17, 3, 232, 182, 0, 114, 27, 162, 0, 7, 4, 167, 0, 4, 3, 172]
abbrev dktX1_falls_1 : List UInt8 := dkwX1_falls_1 ++ []
def dkwX1_falls_0 : List UInt8 := [27, 158, 0, 35, 42, 180, 0, 110, 153, 0, 13, 27, 17, 1, 244, 161, 0, 21, 167, 0, 14, 42]
abbrev dktX1_falls_0 : List UInt8 := dkwX1_falls_0 ++ dktX1_falls_1
theorem dksX1_falls_0 : cX1_falls.data.toList.drop 0 = dktX1_falls_0 := by decide +kernel
theorem dksX1_falls_1 : cX1_falls.data.toList.drop 22 = dktX1_falls_1 := dk_seg dksX1_falls_0 22 rfl rfl
theorem dX1_falls_0 : decode cX1_falls 0 = .ok (.iload_n 1, 1) := dk_27 (dk_at dksX1_falls_0 0 rfl rfl)
theorem dX1_falls_1 : decode cX1_falls 1 = .ok (.ifCond .le 35, 3) := dk_158 0 35 (dk_at dksX1_falls_0 1 rfl rfl)
theorem dX1_falls_4 : decode cX1_falls 4 = .ok (.aload_n 0, 1) := dk_42 (dk_at dksX1_falls_0 4 rfl rfl)
theorem dX1_falls_5 : decode cX1_falls 5 = .ok (.getfield 110, 3) := dk_180 0 110 (dk_at dksX1_falls_0 5 rfl rfl)
theorem dX1_falls_8 : decode cX1_falls 8 = .ok (.ifCond .eq 13, 3) := dk_153 0 13 (dk_at dksX1_falls_0 8 rfl rfl)
theorem dX1_falls_11 : decode cX1_falls 11 = .ok (.iload_n 1, 1) := dk_27 (dk_at dksX1_falls_0 11 rfl rfl)
theorem dX1_falls_12 : decode cX1_falls 12 = .ok (.sipush 500, 3) := dk_17 1 244 (dk_at dksX1_falls_0 12 rfl rfl)
theorem dX1_falls_15 : decode cX1_falls 15 = .ok (.if_icmp .lt 21, 3) := dk_161 0 21 (dk_at dksX1_falls_0 15 rfl rfl)
theorem dX1_falls_18 : decode cX1_falls 18 = .ok (.goto 14, 3) := dk_167 0 14 (dk_at dksX1_falls_0 18 rfl rfl)
theorem dX1_falls_21 : decode cX1_falls 21 = .ok (.aload_n 0, 1) := dk_42 (dk_at dksX1_falls_0 21 rfl rfl)
theorem dX1_falls_22 : decode cX1_falls 22 = .ok (.sipush 1000, 3) := dk_17 3 232 (dk_at dksX1_falls_1 0 rfl rfl)
theorem dX1_falls_25 : decode cX1_falls 25 = .ok (.invokevirtual 114, 3) := dk_182 0 114 (dk_at dksX1_falls_1 3 rfl rfl)
theorem dX1_falls_28 : decode cX1_falls 28 = .ok (.iload_n 1, 1) := dk_27 (dk_at dksX1_falls_1 6 rfl rfl)
theorem dX1_falls_29 : decode cX1_falls 29 = .ok (.if_icmp .ge 7, 3) := dk_162 0 7 (dk_at dksX1_falls_1 7 rfl rfl)
theorem dX1_falls_32 : decode cX1_falls 32 = .ok (.iconst 1, 1) := dk_4 (dk_at dksX1_falls_1 10 rfl rfl)
theorem dX1_falls_33 : decode cX1_falls 33 = .ok (.goto 4, 3) := dk_167 0 4 (dk_at dksX1_falls_1 11 rfl rfl)
theorem dX1_falls_36 : decode cX1_falls 36 = .ok (.iconst 0, 1) := dk_3 (dk_at dksX1_falls_1 14 rfl rfl)
theorem dX1_falls_37 : decode cX1_falls 37 = .ok (.ireturn, 1) := dk_172 (dk_at dksX1_falls_1 15 rfl rfl)
abbrev cX1_draw : ByteArray := prog_11_method_5_code
def yX1_draw : MethodName := ⟨RX1, "draw", "(I)I"⟩
def dkwX1_draw_0 : List UInt8 := [42, 18, 108, 42, 180, 0, 83, 104, 18, 109, 96, 181, 0, 83, 42, 180, 0, 83, 16, 8, 124, 27, 112, 172]
abbrev dktX1_draw_0 : List UInt8 := dkwX1_draw_0 ++ []
theorem dksX1_draw_0 : cX1_draw.data.toList.drop 0 = dktX1_draw_0 := by decide +kernel
theorem dX1_draw_0 : decode cX1_draw 0 = .ok (.aload_n 0, 1) := dk_42 (dk_at dksX1_draw_0 0 rfl rfl)
theorem dX1_draw_1 : decode cX1_draw 1 = .ok (.ldc 108, 2) := dk_18 108 (dk_at dksX1_draw_0 1 rfl rfl)
theorem dX1_draw_3 : decode cX1_draw 3 = .ok (.aload_n 0, 1) := dk_42 (dk_at dksX1_draw_0 3 rfl rfl)
theorem dX1_draw_4 : decode cX1_draw 4 = .ok (.getfield 83, 3) := dk_180 0 83 (dk_at dksX1_draw_0 4 rfl rfl)
theorem dX1_draw_7 : decode cX1_draw 7 = .ok (.imul, 1) := dk_104 (dk_at dksX1_draw_0 7 rfl rfl)
theorem dX1_draw_8 : decode cX1_draw 8 = .ok (.ldc 109, 2) := dk_18 109 (dk_at dksX1_draw_0 8 rfl rfl)
theorem dX1_draw_10 : decode cX1_draw 10 = .ok (.iadd, 1) := dk_96 (dk_at dksX1_draw_0 10 rfl rfl)
theorem dX1_draw_11 : decode cX1_draw 11 = .ok (.putfield 83, 3) := dk_181 0 83 (dk_at dksX1_draw_0 11 rfl rfl)
theorem dX1_draw_14 : decode cX1_draw 14 = .ok (.aload_n 0, 1) := dk_42 (dk_at dksX1_draw_0 14 rfl rfl)
theorem dX1_draw_15 : decode cX1_draw 15 = .ok (.getfield 83, 3) := dk_180 0 83 (dk_at dksX1_draw_0 15 rfl rfl)
theorem dX1_draw_18 : decode cX1_draw 18 = .ok (.bipush 8, 2) := dk_16 8 (dk_at dksX1_draw_0 18 rfl rfl)
theorem dX1_draw_20 : decode cX1_draw 20 = .ok (.iushr, 1) := dk_124 (dk_at dksX1_draw_0 20 rfl rfl)
theorem dX1_draw_21 : decode cX1_draw 21 = .ok (.iload_n 1, 1) := dk_27 (dk_at dksX1_draw_0 21 rfl rfl)
theorem dX1_draw_22 : decode cX1_draw 22 = .ok (.irem, 1) := dk_112 (dk_at dksX1_draw_0 22 rfl rfl)
theorem dX1_draw_23 : decode cX1_draw 23 = .ok (.ireturn, 1) := dk_172 (dk_at dksX1_draw_0 23 rfl rfl)
abbrev cX1_slips : ByteArray := prog_11_method_13_code
def yX1_slips : MethodName := ⟨RX1, "slips", "(LWindingSquare$Walker;)I"⟩
def dkwX1_slips_1 : List UInt8 := [17, 1, 44, 167, 0, 4, 3, 16, 20, 43, 180, 0, 144, 104, 96, 17, 3, 232, 182, 0, 189, 172]
abbrev dktX1_slips_1 : List UInt8 := dkwX1_slips_1 ++ []
def dkwX1_slips_0 : List UInt8 := [42, 16, 7, 43, 43, 182, 0, 120, 153, 0, 22, 42, 180, 0, 9, 43, 180, 0, 118, 46, 5, 160, 0, 9]
abbrev dktX1_slips_0 : List UInt8 := dkwX1_slips_0 ++ dktX1_slips_1
theorem dksX1_slips_0 : cX1_slips.data.toList.drop 0 = dktX1_slips_0 := by decide +kernel
theorem dksX1_slips_1 : cX1_slips.data.toList.drop 24 = dktX1_slips_1 := dk_seg dksX1_slips_0 24 rfl rfl
theorem dX1_slips_0 : decode cX1_slips 0 = .ok (.aload_n 0, 1) := dk_42 (dk_at dksX1_slips_0 0 rfl rfl)
theorem dX1_slips_1 : decode cX1_slips 1 = .ok (.bipush 7, 2) := dk_16 7 (dk_at dksX1_slips_0 1 rfl rfl)
theorem dX1_slips_3 : decode cX1_slips 3 = .ok (.aload_n 1, 1) := dk_43 (dk_at dksX1_slips_0 3 rfl rfl)
theorem dX1_slips_4 : decode cX1_slips 4 = .ok (.aload_n 1, 1) := dk_43 (dk_at dksX1_slips_0 4 rfl rfl)
theorem dX1_slips_5 : decode cX1_slips 5 = .ok (.invokevirtual 120, 3) := dk_182 0 120 (dk_at dksX1_slips_0 5 rfl rfl)
theorem dX1_slips_8 : decode cX1_slips 8 = .ok (.ifCond .eq 22, 3) := dk_153 0 22 (dk_at dksX1_slips_0 8 rfl rfl)
theorem dX1_slips_11 : decode cX1_slips 11 = .ok (.aload_n 0, 1) := dk_42 (dk_at dksX1_slips_0 11 rfl rfl)
theorem dX1_slips_12 : decode cX1_slips 12 = .ok (.getfield 9, 3) := dk_180 0 9 (dk_at dksX1_slips_0 12 rfl rfl)
theorem dX1_slips_15 : decode cX1_slips 15 = .ok (.aload_n 1, 1) := dk_43 (dk_at dksX1_slips_0 15 rfl rfl)
theorem dX1_slips_16 : decode cX1_slips 16 = .ok (.getfield 118, 3) := dk_180 0 118 (dk_at dksX1_slips_0 16 rfl rfl)
theorem dX1_slips_19 : decode cX1_slips 19 = .ok (.iaload, 1) := dk_46 (dk_at dksX1_slips_0 19 rfl rfl)
theorem dX1_slips_20 : decode cX1_slips 20 = .ok (.iconst 2, 1) := dk_5 (dk_at dksX1_slips_0 20 rfl rfl)
theorem dX1_slips_21 : decode cX1_slips 21 = .ok (.if_icmp .ne 9, 3) := dk_160 0 9 (dk_at dksX1_slips_0 21 rfl rfl)
theorem dX1_slips_24 : decode cX1_slips 24 = .ok (.sipush 300, 3) := dk_17 1 44 (dk_at dksX1_slips_1 0 rfl rfl)
theorem dX1_slips_27 : decode cX1_slips 27 = .ok (.goto 4, 3) := dk_167 0 4 (dk_at dksX1_slips_1 3 rfl rfl)
theorem dX1_slips_30 : decode cX1_slips 30 = .ok (.iconst 0, 1) := dk_3 (dk_at dksX1_slips_1 6 rfl rfl)
theorem dX1_slips_31 : decode cX1_slips 31 = .ok (.bipush 20, 2) := dk_16 20 (dk_at dksX1_slips_1 7 rfl rfl)
theorem dX1_slips_33 : decode cX1_slips 33 = .ok (.aload_n 1, 1) := dk_43 (dk_at dksX1_slips_1 9 rfl rfl)
theorem dX1_slips_34 : decode cX1_slips 34 = .ok (.getfield 144, 3) := dk_180 0 144 (dk_at dksX1_slips_1 10 rfl rfl)
theorem dX1_slips_37 : decode cX1_slips 37 = .ok (.imul, 1) := dk_104 (dk_at dksX1_slips_1 13 rfl rfl)
theorem dX1_slips_38 : decode cX1_slips 38 = .ok (.iadd, 1) := dk_96 (dk_at dksX1_slips_1 14 rfl rfl)
theorem dX1_slips_39 : decode cX1_slips 39 = .ok (.sipush 1000, 3) := dk_17 3 232 (dk_at dksX1_slips_1 15 rfl rfl)
theorem dX1_slips_42 : decode cX1_slips 42 = .ok (.invokevirtual 189, 3) := dk_182 0 189 (dk_at dksX1_slips_1 18 rfl rfl)
theorem dX1_slips_45 : decode cX1_slips 45 = .ok (.ireturn, 1) := dk_172 (dk_at dksX1_slips_1 21 rfl rfl)
abbrev cX1_thinks : ByteArray := prog_11_method_3_code
def yX1_thinks : MethodName := ⟨RX1, "thinks", "(LWindingSquare$Square;)V"⟩
def dkwX1_thinks_2 : List UInt8 := [180, 0, 99, 181, 0, 99, 177]
abbrev dktX1_thinks_2 : List UInt8 := dkwX1_thinks_2 ++ []
def dkwX1_thinks_1 : List UInt8 := [180, 0, 58, 181, 0, 58, 42, 43, 180, 0, 61, 181, 0, 61, 42, 43, 180, 0, 96, 181, 0, 96, 42, 43]
abbrev dktX1_thinks_1 : List UInt8 := dkwX1_thinks_1 ++ dktX1_thinks_2
def dkwX1_thinks_0 : List UInt8 := [42, 43, 182, 0, 89, 42, 43, 180, 0, 93, 181, 0, 93, 42, 43, 180, 0, 54, 181, 0, 54, 42, 43]
abbrev dktX1_thinks_0 : List UInt8 := dkwX1_thinks_0 ++ dktX1_thinks_1
theorem dksX1_thinks_0 : cX1_thinks.data.toList.drop 0 = dktX1_thinks_0 := by decide +kernel
theorem dksX1_thinks_1 : cX1_thinks.data.toList.drop 23 = dktX1_thinks_1 := dk_seg dksX1_thinks_0 23 rfl rfl
theorem dksX1_thinks_2 : cX1_thinks.data.toList.drop 47 = dktX1_thinks_2 := dk_seg dksX1_thinks_1 24 rfl rfl
theorem dX1_thinks_0 : decode cX1_thinks 0 = .ok (.aload_n 0, 1) := dk_42 (dk_at dksX1_thinks_0 0 rfl rfl)
theorem dX1_thinks_1 : decode cX1_thinks 1 = .ok (.aload_n 1, 1) := dk_43 (dk_at dksX1_thinks_0 1 rfl rfl)
theorem dX1_thinks_2 : decode cX1_thinks 2 = .ok (.invokevirtual 89, 3) := dk_182 0 89 (dk_at dksX1_thinks_0 2 rfl rfl)
theorem dX1_thinks_5 : decode cX1_thinks 5 = .ok (.aload_n 0, 1) := dk_42 (dk_at dksX1_thinks_0 5 rfl rfl)
theorem dX1_thinks_6 : decode cX1_thinks 6 = .ok (.aload_n 1, 1) := dk_43 (dk_at dksX1_thinks_0 6 rfl rfl)
theorem dX1_thinks_7 : decode cX1_thinks 7 = .ok (.getfield 93, 3) := dk_180 0 93 (dk_at dksX1_thinks_0 7 rfl rfl)
theorem dX1_thinks_10 : decode cX1_thinks 10 = .ok (.putfield 93, 3) := dk_181 0 93 (dk_at dksX1_thinks_0 10 rfl rfl)
theorem dX1_thinks_13 : decode cX1_thinks 13 = .ok (.aload_n 0, 1) := dk_42 (dk_at dksX1_thinks_0 13 rfl rfl)
theorem dX1_thinks_14 : decode cX1_thinks 14 = .ok (.aload_n 1, 1) := dk_43 (dk_at dksX1_thinks_0 14 rfl rfl)
theorem dX1_thinks_15 : decode cX1_thinks 15 = .ok (.getfield 54, 3) := dk_180 0 54 (dk_at dksX1_thinks_0 15 rfl rfl)
theorem dX1_thinks_18 : decode cX1_thinks 18 = .ok (.putfield 54, 3) := dk_181 0 54 (dk_at dksX1_thinks_0 18 rfl rfl)
theorem dX1_thinks_21 : decode cX1_thinks 21 = .ok (.aload_n 0, 1) := dk_42 (dk_at dksX1_thinks_0 21 rfl rfl)
theorem dX1_thinks_22 : decode cX1_thinks 22 = .ok (.aload_n 1, 1) := dk_43 (dk_at dksX1_thinks_0 22 rfl rfl)
theorem dX1_thinks_23 : decode cX1_thinks 23 = .ok (.getfield 58, 3) := dk_180 0 58 (dk_at dksX1_thinks_1 0 rfl rfl)
theorem dX1_thinks_26 : decode cX1_thinks 26 = .ok (.putfield 58, 3) := dk_181 0 58 (dk_at dksX1_thinks_1 3 rfl rfl)
theorem dX1_thinks_29 : decode cX1_thinks 29 = .ok (.aload_n 0, 1) := dk_42 (dk_at dksX1_thinks_1 6 rfl rfl)
theorem dX1_thinks_30 : decode cX1_thinks 30 = .ok (.aload_n 1, 1) := dk_43 (dk_at dksX1_thinks_1 7 rfl rfl)
theorem dX1_thinks_31 : decode cX1_thinks 31 = .ok (.getfield 61, 3) := dk_180 0 61 (dk_at dksX1_thinks_1 8 rfl rfl)
theorem dX1_thinks_34 : decode cX1_thinks 34 = .ok (.putfield 61, 3) := dk_181 0 61 (dk_at dksX1_thinks_1 11 rfl rfl)
theorem dX1_thinks_37 : decode cX1_thinks 37 = .ok (.aload_n 0, 1) := dk_42 (dk_at dksX1_thinks_1 14 rfl rfl)
theorem dX1_thinks_38 : decode cX1_thinks 38 = .ok (.aload_n 1, 1) := dk_43 (dk_at dksX1_thinks_1 15 rfl rfl)
theorem dX1_thinks_39 : decode cX1_thinks 39 = .ok (.getfield 96, 3) := dk_180 0 96 (dk_at dksX1_thinks_1 16 rfl rfl)
theorem dX1_thinks_42 : decode cX1_thinks 42 = .ok (.putfield 96, 3) := dk_181 0 96 (dk_at dksX1_thinks_1 19 rfl rfl)
theorem dX1_thinks_45 : decode cX1_thinks 45 = .ok (.aload_n 0, 1) := dk_42 (dk_at dksX1_thinks_1 22 rfl rfl)
theorem dX1_thinks_46 : decode cX1_thinks 46 = .ok (.aload_n 1, 1) := dk_43 (dk_at dksX1_thinks_1 23 rfl rfl)
theorem dX1_thinks_47 : decode cX1_thinks 47 = .ok (.getfield 99, 3) := dk_180 0 99 (dk_at dksX1_thinks_2 0 rfl rfl)
theorem dX1_thinks_50 : decode cX1_thinks 50 = .ok (.putfield 99, 3) := dk_181 0 99 (dk_at dksX1_thinks_2 3 rfl rfl)
theorem dX1_thinks_53 : decode cX1_thinks 53 = .ok (.return_, 1) := dk_177 (dk_at dksX1_thinks_2 6 rfl rfl)
abbrev cX1_takes : ByteArray := prog_11_method_4_code
def yX1_takes : MethodName := ⟨RX1, "takes", "(LWindingSquare$Square;)V"⟩
def dkwX1_takes_4 : List UInt8 := [43, 180, 0, 48, 182, 0, 105, 177]
abbrev dktX1_takes_4 : List UInt8 := dkwX1_takes_4 ++ []
def dkwX1_takes_3 : List UInt8 := [43, 180, 0, 40, 4, 50, 182, 0, 105, 42, 180, 0, 44, 43, 180, 0, 44, 182, 0, 105, 42, 180, 0, 48]
abbrev dktX1_takes_3 : List UInt8 := dkwX1_takes_3 ++ dktX1_takes_4
def dkwX1_takes_2 : List UInt8 := [167, 255, 216, 42, 180, 0, 40, 3, 50, 43, 180, 0, 40, 3, 50, 182, 0, 105, 42, 180, 0, 40, 4, 50]
abbrev dktX1_takes_2 : List UInt8 := dkwX1_takes_2 ++ dktX1_takes_3
def dkwX1_takes_1 : List UInt8 := [180, 0, 32, 28, 50, 29, 43, 180, 0, 32, 28, 50, 29, 46, 79, 132, 3, 1, 167, 255, 232, 132, 2, 1]
abbrev dktX1_takes_1 : List UInt8 := dkwX1_takes_1 ++ dktX1_takes_2
def dkwX1_takes_0 : List UInt8 := [42, 43, 182, 0, 102, 3, 61, 28, 42, 180, 0, 86, 162, 0, 38, 3, 62, 29, 7, 162, 0, 25, 42]
abbrev dktX1_takes_0 : List UInt8 := dkwX1_takes_0 ++ dktX1_takes_1
theorem dksX1_takes_0 : cX1_takes.data.toList.drop 0 = dktX1_takes_0 := by decide +kernel
theorem dksX1_takes_1 : cX1_takes.data.toList.drop 23 = dktX1_takes_1 := dk_seg dksX1_takes_0 23 rfl rfl
theorem dksX1_takes_2 : cX1_takes.data.toList.drop 47 = dktX1_takes_2 := dk_seg dksX1_takes_1 24 rfl rfl
theorem dksX1_takes_3 : cX1_takes.data.toList.drop 71 = dktX1_takes_3 := dk_seg dksX1_takes_2 24 rfl rfl
theorem dksX1_takes_4 : cX1_takes.data.toList.drop 95 = dktX1_takes_4 := dk_seg dksX1_takes_3 24 rfl rfl
theorem dX1_takes_0 : decode cX1_takes 0 = .ok (.aload_n 0, 1) := dk_42 (dk_at dksX1_takes_0 0 rfl rfl)
theorem dX1_takes_1 : decode cX1_takes 1 = .ok (.aload_n 1, 1) := dk_43 (dk_at dksX1_takes_0 1 rfl rfl)
theorem dX1_takes_2 : decode cX1_takes 2 = .ok (.invokevirtual 102, 3) := dk_182 0 102 (dk_at dksX1_takes_0 2 rfl rfl)
theorem dX1_takes_5 : decode cX1_takes 5 = .ok (.iconst 0, 1) := dk_3 (dk_at dksX1_takes_0 5 rfl rfl)
theorem dX1_takes_6 : decode cX1_takes 6 = .ok (.istore_n 2, 1) := dk_61 (dk_at dksX1_takes_0 6 rfl rfl)
theorem dX1_takes_7 : decode cX1_takes 7 = .ok (.iload_n 2, 1) := dk_28 (dk_at dksX1_takes_0 7 rfl rfl)
theorem dX1_takes_8 : decode cX1_takes 8 = .ok (.aload_n 0, 1) := dk_42 (dk_at dksX1_takes_0 8 rfl rfl)
theorem dX1_takes_9 : decode cX1_takes 9 = .ok (.getfield 86, 3) := dk_180 0 86 (dk_at dksX1_takes_0 9 rfl rfl)
theorem dX1_takes_12 : decode cX1_takes 12 = .ok (.if_icmp .ge 38, 3) := dk_162 0 38 (dk_at dksX1_takes_0 12 rfl rfl)
theorem dX1_takes_15 : decode cX1_takes 15 = .ok (.iconst 0, 1) := dk_3 (dk_at dksX1_takes_0 15 rfl rfl)
theorem dX1_takes_16 : decode cX1_takes 16 = .ok (.istore_n 3, 1) := dk_62 (dk_at dksX1_takes_0 16 rfl rfl)
theorem dX1_takes_17 : decode cX1_takes 17 = .ok (.iload_n 3, 1) := dk_29 (dk_at dksX1_takes_0 17 rfl rfl)
theorem dX1_takes_18 : decode cX1_takes 18 = .ok (.iconst 4, 1) := dk_7 (dk_at dksX1_takes_0 18 rfl rfl)
theorem dX1_takes_19 : decode cX1_takes 19 = .ok (.if_icmp .ge 25, 3) := dk_162 0 25 (dk_at dksX1_takes_0 19 rfl rfl)
theorem dX1_takes_22 : decode cX1_takes 22 = .ok (.aload_n 0, 1) := dk_42 (dk_at dksX1_takes_0 22 rfl rfl)
theorem dX1_takes_23 : decode cX1_takes 23 = .ok (.getfield 32, 3) := dk_180 0 32 (dk_at dksX1_takes_1 0 rfl rfl)
theorem dX1_takes_26 : decode cX1_takes 26 = .ok (.iload_n 2, 1) := dk_28 (dk_at dksX1_takes_1 3 rfl rfl)
theorem dX1_takes_27 : decode cX1_takes 27 = .ok (.aaload, 1) := dk_50 (dk_at dksX1_takes_1 4 rfl rfl)
theorem dX1_takes_28 : decode cX1_takes 28 = .ok (.iload_n 3, 1) := dk_29 (dk_at dksX1_takes_1 5 rfl rfl)
theorem dX1_takes_29 : decode cX1_takes 29 = .ok (.aload_n 1, 1) := dk_43 (dk_at dksX1_takes_1 6 rfl rfl)
theorem dX1_takes_30 : decode cX1_takes 30 = .ok (.getfield 32, 3) := dk_180 0 32 (dk_at dksX1_takes_1 7 rfl rfl)
theorem dX1_takes_33 : decode cX1_takes 33 = .ok (.iload_n 2, 1) := dk_28 (dk_at dksX1_takes_1 10 rfl rfl)
theorem dX1_takes_34 : decode cX1_takes 34 = .ok (.aaload, 1) := dk_50 (dk_at dksX1_takes_1 11 rfl rfl)
theorem dX1_takes_35 : decode cX1_takes 35 = .ok (.iload_n 3, 1) := dk_29 (dk_at dksX1_takes_1 12 rfl rfl)
theorem dX1_takes_36 : decode cX1_takes 36 = .ok (.iaload, 1) := dk_46 (dk_at dksX1_takes_1 13 rfl rfl)
theorem dX1_takes_37 : decode cX1_takes 37 = .ok (.iastore, 1) := dk_79 (dk_at dksX1_takes_1 14 rfl rfl)
theorem dX1_takes_38 : decode cX1_takes 38 = .ok (.iinc 3 1, 3) := dk_132 3 1 (dk_at dksX1_takes_1 15 rfl rfl)
theorem dX1_takes_41 : decode cX1_takes 41 = .ok (.goto (-24), 3) := dk_167 255 232 (dk_at dksX1_takes_1 18 rfl rfl)
theorem dX1_takes_44 : decode cX1_takes 44 = .ok (.iinc 2 1, 3) := dk_132 2 1 (dk_at dksX1_takes_1 21 rfl rfl)
theorem dX1_takes_47 : decode cX1_takes 47 = .ok (.goto (-40), 3) := dk_167 255 216 (dk_at dksX1_takes_2 0 rfl rfl)
theorem dX1_takes_50 : decode cX1_takes 50 = .ok (.aload_n 0, 1) := dk_42 (dk_at dksX1_takes_2 3 rfl rfl)
theorem dX1_takes_51 : decode cX1_takes 51 = .ok (.getfield 40, 3) := dk_180 0 40 (dk_at dksX1_takes_2 4 rfl rfl)
theorem dX1_takes_54 : decode cX1_takes 54 = .ok (.iconst 0, 1) := dk_3 (dk_at dksX1_takes_2 7 rfl rfl)
theorem dX1_takes_55 : decode cX1_takes 55 = .ok (.aaload, 1) := dk_50 (dk_at dksX1_takes_2 8 rfl rfl)
theorem dX1_takes_56 : decode cX1_takes 56 = .ok (.aload_n 1, 1) := dk_43 (dk_at dksX1_takes_2 9 rfl rfl)
theorem dX1_takes_57 : decode cX1_takes 57 = .ok (.getfield 40, 3) := dk_180 0 40 (dk_at dksX1_takes_2 10 rfl rfl)
theorem dX1_takes_60 : decode cX1_takes 60 = .ok (.iconst 0, 1) := dk_3 (dk_at dksX1_takes_2 13 rfl rfl)
theorem dX1_takes_61 : decode cX1_takes 61 = .ok (.aaload, 1) := dk_50 (dk_at dksX1_takes_2 14 rfl rfl)
theorem dX1_takes_62 : decode cX1_takes 62 = .ok (.invokevirtual 105, 3) := dk_182 0 105 (dk_at dksX1_takes_2 15 rfl rfl)
theorem dX1_takes_65 : decode cX1_takes 65 = .ok (.aload_n 0, 1) := dk_42 (dk_at dksX1_takes_2 18 rfl rfl)
theorem dX1_takes_66 : decode cX1_takes 66 = .ok (.getfield 40, 3) := dk_180 0 40 (dk_at dksX1_takes_2 19 rfl rfl)
theorem dX1_takes_69 : decode cX1_takes 69 = .ok (.iconst 1, 1) := dk_4 (dk_at dksX1_takes_2 22 rfl rfl)
theorem dX1_takes_70 : decode cX1_takes 70 = .ok (.aaload, 1) := dk_50 (dk_at dksX1_takes_2 23 rfl rfl)
theorem dX1_takes_71 : decode cX1_takes 71 = .ok (.aload_n 1, 1) := dk_43 (dk_at dksX1_takes_3 0 rfl rfl)
theorem dX1_takes_72 : decode cX1_takes 72 = .ok (.getfield 40, 3) := dk_180 0 40 (dk_at dksX1_takes_3 1 rfl rfl)
theorem dX1_takes_75 : decode cX1_takes 75 = .ok (.iconst 1, 1) := dk_4 (dk_at dksX1_takes_3 4 rfl rfl)
theorem dX1_takes_76 : decode cX1_takes 76 = .ok (.aaload, 1) := dk_50 (dk_at dksX1_takes_3 5 rfl rfl)
theorem dX1_takes_77 : decode cX1_takes 77 = .ok (.invokevirtual 105, 3) := dk_182 0 105 (dk_at dksX1_takes_3 6 rfl rfl)
theorem dX1_takes_80 : decode cX1_takes 80 = .ok (.aload_n 0, 1) := dk_42 (dk_at dksX1_takes_3 9 rfl rfl)
theorem dX1_takes_81 : decode cX1_takes 81 = .ok (.getfield 44, 3) := dk_180 0 44 (dk_at dksX1_takes_3 10 rfl rfl)
theorem dX1_takes_84 : decode cX1_takes 84 = .ok (.aload_n 1, 1) := dk_43 (dk_at dksX1_takes_3 13 rfl rfl)
theorem dX1_takes_85 : decode cX1_takes 85 = .ok (.getfield 44, 3) := dk_180 0 44 (dk_at dksX1_takes_3 14 rfl rfl)
theorem dX1_takes_88 : decode cX1_takes 88 = .ok (.invokevirtual 105, 3) := dk_182 0 105 (dk_at dksX1_takes_3 17 rfl rfl)
theorem dX1_takes_91 : decode cX1_takes 91 = .ok (.aload_n 0, 1) := dk_42 (dk_at dksX1_takes_3 20 rfl rfl)
theorem dX1_takes_92 : decode cX1_takes 92 = .ok (.getfield 48, 3) := dk_180 0 48 (dk_at dksX1_takes_3 21 rfl rfl)
theorem dX1_takes_95 : decode cX1_takes 95 = .ok (.aload_n 1, 1) := dk_43 (dk_at dksX1_takes_4 0 rfl rfl)
theorem dX1_takes_96 : decode cX1_takes 96 = .ok (.getfield 48, 3) := dk_180 0 48 (dk_at dksX1_takes_4 1 rfl rfl)
theorem dX1_takes_99 : decode cX1_takes 99 = .ok (.invokevirtual 105, 3) := dk_182 0 105 (dk_at dksX1_takes_4 4 rfl rfl)
theorem dX1_takes_102 : decode cX1_takes 102 = .ok (.return_, 1) := dk_177 (dk_at dksX1_takes_4 7 rfl rfl)
theorem q133 : (Jvm.Cond.initialized "WindingSquare$Square") ∈ lw_all := lw_g (lw_at lw_m1 2 rfl) rfl
theorem q171 : (Jvm.Cond.instantiable "WindingSquare$Square" (19 : Nat)) ∈ lw_all := lw_g (lw_at lw_m1 40 rfl) rfl
theorem q173 : (Jvm.Cond.instanceMethod ({ cls := "WindingSquare$Square", name := "<init>", desc := "()V" } : Jvm.MethodName)) ∈ lw_all := lw_g (lw_at lw_m1 42 rfl) rfl
theorem q174 : (Jvm.Cond.code ({ cls := "WindingSquare$Square", name := "<init>", desc := "()V" } : Jvm.MethodName) prog_11_method_1_code (2 : Nat) (Option.none : Option Jvm.ClassFile.FieldType)) ∈ lw_all := lw_g (lw_at lw_m1 43 rfl) rfl
theorem q175 : (Jvm.Cond.methodLink "WindingSquare$Square" (3 : Nat) ({ cls := "java/lang/Object", name := "<init>", desc := "()V" } : Jvm.MethodName)) ∈ lw_all := lw_g (lw_at lw_m1 44 rfl) rfl
theorem q176 : (Jvm.Cond.classLink "WindingSquare$Square" (15 : Nat) "WindingSquare$Walker") ∈ lw_all := lw_g (lw_at lw_m1 45 rfl) rfl
theorem q178 : (Jvm.Cond.classLink "WindingSquare$Square" (21 : Nat) "WindingSquare$Step") ∈ lw_all := lw_g (lw_at lw_m1 47 rfl) rfl
theorem q180 : (Jvm.Cond.methodLink "WindingSquare$Square" (23 : Nat) ({ cls := "WindingSquare$Step", name := "<init>", desc := "(ZII)V" } : Jvm.MethodName)) ∈ lw_all := lw_g (lw_at lw_m1 49 rfl) rfl
theorem q185 : (Jvm.Cond.fieldLinkNest "WindingSquare$Square" (265 : Nat) "WindingSquare$Step" "goes" "Z" "WindingSquare") ∈ lw_tbl := lw_at lw_m1 54 rfl
theorem q188 : (Jvm.Cond.fieldLinkNest "WindingSquare$Square" (254 : Nat) "WindingSquare$Step" "minutes" "I" "WindingSquare") ∈ lw_tbl := lw_at lw_m1 57 rfl
theorem q191 : (Jvm.Cond.fieldLinkNest "WindingSquare$Square" (260 : Nat) "WindingSquare$Step" "quarters" "I" "WindingSquare") ∈ lw_tbl := lw_at lw_m1 60 rfl
theorem q202 : (Jvm.Cond.classLink "WindingSquare$Square" (30 : Nat) "[[I") ∈ lw_all := lw_g (lw_at lw_m1 71 rfl) rfl
theorem q204 : (Jvm.Cond.classLink "WindingSquare$Square" (35 : Nat) "WindingSquare$Rows") ∈ lw_all := lw_g (lw_at lw_m1 73 rfl) rfl
theorem q207 : (Jvm.Cond.methodLink "WindingSquare$Square" (37 : Nat) ({ cls := "WindingSquare$Rows", name := "<init>", desc := "(I)V" } : Jvm.MethodName)) ∈ lw_all := lw_g (lw_at lw_m1 76 rfl) rfl
theorem q220 : (Jvm.Cond.classLink "WindingSquare$Square" (51 : Nat) "java/util/ArrayList") ∈ lw_all := lw_g (lw_at lw_m1 89 rfl) rfl
theorem q222 : (Jvm.Cond.methodLink "WindingSquare$Square" (53 : Nat) ({ cls := "java/util/ArrayList", name := "<init>", desc := "()V" } : Jvm.MethodName)) ∈ lw_all := lw_g (lw_at lw_m1 91 rfl) rfl
theorem q247 : (Jvm.Cond.methodLinkNest "WindingSquare$Square" (64 : Nat) ({ cls := "WindingSquare$Walker", name := "<init>", desc := "()V" } : Jvm.MethodName) "WindingSquare") ∈ lw_tbl := lw_at lw_m1 116 rfl
theorem q252 : (Jvm.Cond.fieldLinkNest "WindingSquare$Square" (144 : Nat) "WindingSquare$Walker" "haste" "I" "WindingSquare") ∈ lw_tbl := lw_at lw_m1 121 rfl
theorem q255 : (Jvm.Cond.fieldLinkNest "WindingSquare$Square" (118 : Nat) "WindingSquare$Walker" "cell" "I" "WindingSquare") ∈ lw_tbl := lw_at lw_m1 124 rfl
theorem q258 : (Jvm.Cond.fieldLinkNest "WindingSquare$Square" (153 : Nat) "WindingSquare$Walker" "facing" "I" "WindingSquare") ∈ lw_tbl := lw_at lw_m1 127 rfl
theorem q261 : (Jvm.Cond.fieldLinkNest "WindingSquare$Square" (147 : Nat) "WindingSquare$Walker" "turns" "I" "WindingSquare") ∈ lw_tbl := lw_at lw_m1 130 rfl
theorem q264 : (Jvm.Cond.fieldLinkNest "WindingSquare$Square" (150 : Nat) "WindingSquare$Walker" "signs" "I" "WindingSquare") ∈ lw_tbl := lw_at lw_m1 133 rfl
theorem q267 : (Jvm.Cond.fieldLinkNest "WindingSquare$Square" (207 : Nat) "WindingSquare$Walker" "side" "I" "WindingSquare") ∈ lw_tbl := lw_at lw_m1 136 rfl
theorem q270 : (Jvm.Cond.fieldLinkNest "WindingSquare$Square" (247 : Nat) "WindingSquare$Walker" "step" "I" "WindingSquare") ∈ lw_tbl := lw_at lw_m1 139 rfl
theorem q274 : (Jvm.Cond.fieldLinkNest "WindingSquare$Square" (210 : Nat) "WindingSquare$Walker" "crossed" "I" "WindingSquare") ∈ lw_tbl := lw_at lw_m1 143 rfl
theorem q277 : (Jvm.Cond.fieldLinkNest "WindingSquare$Square" (224 : Nat) "WindingSquare$Walker" "caught" "I" "WindingSquare") ∈ lw_tbl := lw_at lw_m1 146 rfl
theorem q280 : (Jvm.Cond.fieldLinkNest "WindingSquare$Square" (240 : Nat) "WindingSquare$Walker" "slipped" "I" "WindingSquare") ∈ lw_tbl := lw_at lw_m1 149 rfl
theorem q305 : (Jvm.Cond.methodLink "WindingSquare$Square" (65 : Nat) ({ cls := "WindingSquare$Walker", name := "goes", desc := "()V" } : Jvm.MethodName)) ∈ lw_all := lw_g (lw_at lw_m1 174 rfl) rfl
theorem q313 : (Jvm.Cond.methodLink "WindingSquare$Square" (68 : Nat) ({ cls := "java/util/ArrayList", name := "add", desc := "(Ljava/lang/Object;)Z" } : Jvm.MethodName)) ∈ lw_all := lw_g (lw_at lw_m1 182 rfl) rfl
theorem q354 : (Jvm.Cond.selects "WindingSquare$Square" ({ cls := "java/lang/Object", name := "getClass", desc := "()Ljava/lang/Class;" } : Jvm.MethodName) ({ cls := "java/lang/Object", name := "getClass", desc := "()Ljava/lang/Class;" } : Jvm.MethodName)) ∈ lw_all := lw_g (lw_at lw_m1 223 rfl) rfl
theorem q375 : (Jvm.Cond.fieldLink "WindingSquare$Square" (9 : Nat) "WindingSquare$Square" "cell" "[I") ∈ lw_all := lw_g (lw_at lw_m2 4 rfl) rfl
theorem q377 : (Jvm.Cond.fieldLink "WindingSquare$Square" (17 : Nat) "WindingSquare$Square" "walker" "[LWindingSquare$Walker;") ∈ lw_all := lw_g (lw_at lw_m2 6 rfl) rfl
theorem q379 : (Jvm.Cond.fieldLink "WindingSquare$Square" (26 : Nat) "WindingSquare$Square" "ahead" "LWindingSquare$Step;") ∈ lw_all := lw_g (lw_at lw_m2 8 rfl) rfl
theorem q381 : (Jvm.Cond.fieldLink "WindingSquare$Square" (32 : Nat) "WindingSquare$Square" "book" "[[I") ∈ lw_all := lw_g (lw_at lw_m2 10 rfl) rfl
theorem q383 : (Jvm.Cond.fieldLink "WindingSquare$Square" (40 : Nat) "WindingSquare$Square" "known" "[LWindingSquare$Rows;") ∈ lw_all := lw_g (lw_at lw_m2 12 rfl) rfl
theorem q385 : (Jvm.Cond.fieldLink "WindingSquare$Square" (44 : Nat) "WindingSquare$Square" "moved" "LWindingSquare$Rows;") ∈ lw_all := lw_g (lw_at lw_m2 14 rfl) rfl
theorem q387 : (Jvm.Cond.fieldLink "WindingSquare$Square" (48 : Nat) "WindingSquare$Square" "gaps" "LWindingSquare$Rows;") ∈ lw_all := lw_g (lw_at lw_m2 16 rfl) rfl
theorem q389 : (Jvm.Cond.fieldLink "WindingSquare$Square" (54 : Nat) "WindingSquare$Square" "law" "Ljava/util/ArrayList;") ∈ lw_all := lw_g (lw_at lw_m2 18 rfl) rfl
theorem q391 : (Jvm.Cond.fieldLink "WindingSquare$Square" (58 : Nat) "WindingSquare$Square" "way" "Ljava/util/ArrayList;") ∈ lw_all := lw_g (lw_at lw_m2 20 rfl) rfl
theorem q393 : (Jvm.Cond.fieldLink "WindingSquare$Square" (61 : Nat) "WindingSquare$Square" "watches" "Ljava/util/ArrayList;") ∈ lw_all := lw_g (lw_at lw_m2 22 rfl) rfl
theorem q395 : (Jvm.Cond.fieldLink "WindingSquare$Square" (93 : Nat) "WindingSquare$Square" "walkers" "I") ∈ lw_all := lw_g (lw_at lw_m2 24 rfl) rfl
theorem q398 : (Jvm.Cond.fieldLink "WindingSquare$Square" (76 : Nat) "WindingSquare$Square" "minute" "I") ∈ lw_all := lw_g (lw_at lw_m2 27 rfl) rfl
theorem q400 : (Jvm.Cond.fieldLink "WindingSquare$Square" (80 : Nat) "WindingSquare$Square" "paid" "I") ∈ lw_all := lw_g (lw_at lw_m2 29 rfl) rfl
theorem q402 : (Jvm.Cond.fieldLink "WindingSquare$Square" (83 : Nat) "WindingSquare$Square" "state" "I") ∈ lw_all := lw_g (lw_at lw_m2 31 rfl) rfl
theorem q404 : (Jvm.Cond.fieldLink "WindingSquare$Square" (86 : Nat) "WindingSquare$Square" "lines" "I") ∈ lw_all := lw_g (lw_at lw_m2 33 rfl) rfl
theorem q406 : (Jvm.Cond.fieldLink "WindingSquare$Square" (96 : Nat) "WindingSquare$Square" "stoneLines" "I") ∈ lw_all := lw_g (lw_at lw_m2 35 rfl) rfl
theorem q408 : (Jvm.Cond.fieldLink "WindingSquare$Square" (99 : Nat) "WindingSquare$Square" "wayLines" "I") ∈ lw_all := lw_g (lw_at lw_m2 37 rfl) rfl
theorem q411 : (Jvm.Cond.fieldLink "WindingSquare$Square" (110 : Nat) "WindingSquare$Square" "isThought" "Z") ∈ lw_all := lw_g (lw_at lw_m2 40 rfl) rfl
theorem q412 : (Jvm.Cond.fieldLink "WindingSquare$Square" (140 : Nat) "WindingSquare$Square" "asked" "LWindingSquare$Walker;") ∈ lw_all := lw_g (lw_at lw_m2 41 rfl) rfl
theorem q413 : (Jvm.Cond.laysFinal "WindingSquare$Square" "WindingSquare$Square" "cell" "[I") ∈ lw_all := lw_g (lw_at lw_m2 42 rfl) rfl
theorem q414 : (Jvm.Cond.soleField "WindingSquare$Square" "cell") ∈ lw_all := lw_g (lw_at lw_m2 43 rfl) rfl
theorem q415 : (Jvm.Cond.laysFinal "WindingSquare$Square" "WindingSquare$Square" "walker" "[LWindingSquare$Walker;") ∈ lw_all := lw_g (lw_at lw_m2 44 rfl) rfl
theorem q416 : (Jvm.Cond.soleField "WindingSquare$Square" "walker") ∈ lw_all := lw_g (lw_at lw_m2 45 rfl) rfl
theorem q417 : (Jvm.Cond.laysFinal "WindingSquare$Square" "WindingSquare$Square" "ahead" "LWindingSquare$Step;") ∈ lw_all := lw_g (lw_at lw_m2 46 rfl) rfl
theorem q418 : (Jvm.Cond.soleField "WindingSquare$Square" "ahead") ∈ lw_all := lw_g (lw_at lw_m2 47 rfl) rfl
theorem q419 : (Jvm.Cond.laysFinal "WindingSquare$Square" "WindingSquare$Square" "book" "[[I") ∈ lw_all := lw_g (lw_at lw_m2 48 rfl) rfl
theorem q420 : (Jvm.Cond.soleField "WindingSquare$Square" "book") ∈ lw_all := lw_g (lw_at lw_m2 49 rfl) rfl
theorem q421 : (Jvm.Cond.laysFinal "WindingSquare$Square" "WindingSquare$Square" "known" "[LWindingSquare$Rows;") ∈ lw_all := lw_g (lw_at lw_m2 50 rfl) rfl
theorem q422 : (Jvm.Cond.soleField "WindingSquare$Square" "known") ∈ lw_all := lw_g (lw_at lw_m2 51 rfl) rfl
theorem q423 : (Jvm.Cond.laysFinal "WindingSquare$Square" "WindingSquare$Square" "moved" "LWindingSquare$Rows;") ∈ lw_all := lw_g (lw_at lw_m2 52 rfl) rfl
theorem q424 : (Jvm.Cond.soleField "WindingSquare$Square" "moved") ∈ lw_all := lw_g (lw_at lw_m2 53 rfl) rfl
theorem q425 : (Jvm.Cond.laysFinal "WindingSquare$Square" "WindingSquare$Square" "gaps" "LWindingSquare$Rows;") ∈ lw_all := lw_g (lw_at lw_m2 54 rfl) rfl
theorem q426 : (Jvm.Cond.soleField "WindingSquare$Square" "gaps") ∈ lw_all := lw_g (lw_at lw_m2 55 rfl) rfl
theorem q427 : (Jvm.Cond.lays "WindingSquare$Square" "WindingSquare$Square" "law" "Ljava/util/ArrayList;") ∈ lw_all := lw_g (lw_at lw_m2 56 rfl) rfl
theorem q428 : (Jvm.Cond.soleField "WindingSquare$Square" "law") ∈ lw_all := lw_g (lw_at lw_m2 57 rfl) rfl
theorem q429 : (Jvm.Cond.lays "WindingSquare$Square" "WindingSquare$Square" "way" "Ljava/util/ArrayList;") ∈ lw_all := lw_g (lw_at lw_m2 58 rfl) rfl
theorem q430 : (Jvm.Cond.soleField "WindingSquare$Square" "way") ∈ lw_all := lw_g (lw_at lw_m2 59 rfl) rfl
theorem q431 : (Jvm.Cond.lays "WindingSquare$Square" "WindingSquare$Square" "watches" "Ljava/util/ArrayList;") ∈ lw_all := lw_g (lw_at lw_m2 60 rfl) rfl
theorem q432 : (Jvm.Cond.soleField "WindingSquare$Square" "watches") ∈ lw_all := lw_g (lw_at lw_m2 61 rfl) rfl
theorem q433 : (Jvm.Cond.lays "WindingSquare$Square" "WindingSquare$Square" "walkers" "I") ∈ lw_all := lw_g (lw_at lw_m2 62 rfl) rfl
theorem q434 : (Jvm.Cond.soleField "WindingSquare$Square" "walkers") ∈ lw_all := lw_g (lw_at lw_m2 63 rfl) rfl
theorem q435 : (Jvm.Cond.lays "WindingSquare$Square" "WindingSquare$Square" "minute" "I") ∈ lw_all := lw_g (lw_at lw_m2 64 rfl) rfl
theorem q436 : (Jvm.Cond.soleField "WindingSquare$Square" "minute") ∈ lw_all := lw_g (lw_at lw_m2 65 rfl) rfl
theorem q437 : (Jvm.Cond.lays "WindingSquare$Square" "WindingSquare$Square" "paid" "I") ∈ lw_all := lw_g (lw_at lw_m2 66 rfl) rfl
theorem q438 : (Jvm.Cond.soleField "WindingSquare$Square" "paid") ∈ lw_all := lw_g (lw_at lw_m2 67 rfl) rfl
theorem q439 : (Jvm.Cond.lays "WindingSquare$Square" "WindingSquare$Square" "state" "I") ∈ lw_all := lw_g (lw_at lw_m2 68 rfl) rfl
theorem q440 : (Jvm.Cond.soleField "WindingSquare$Square" "state") ∈ lw_all := lw_g (lw_at lw_m2 69 rfl) rfl
theorem q441 : (Jvm.Cond.lays "WindingSquare$Square" "WindingSquare$Square" "lines" "I") ∈ lw_all := lw_g (lw_at lw_m2 70 rfl) rfl
theorem q442 : (Jvm.Cond.soleField "WindingSquare$Square" "lines") ∈ lw_all := lw_g (lw_at lw_m2 71 rfl) rfl
theorem q443 : (Jvm.Cond.lays "WindingSquare$Square" "WindingSquare$Square" "stoneLines" "I") ∈ lw_all := lw_g (lw_at lw_m2 72 rfl) rfl
theorem q444 : (Jvm.Cond.soleField "WindingSquare$Square" "stoneLines") ∈ lw_all := lw_g (lw_at lw_m2 73 rfl) rfl
theorem q445 : (Jvm.Cond.lays "WindingSquare$Square" "WindingSquare$Square" "wayLines" "I") ∈ lw_all := lw_g (lw_at lw_m2 74 rfl) rfl
theorem q446 : (Jvm.Cond.soleField "WindingSquare$Square" "wayLines") ∈ lw_all := lw_g (lw_at lw_m2 75 rfl) rfl
theorem q447 : (Jvm.Cond.lays "WindingSquare$Square" "WindingSquare$Square" "isThought" "Z") ∈ lw_all := lw_g (lw_at lw_m2 76 rfl) rfl
theorem q448 : (Jvm.Cond.soleField "WindingSquare$Square" "isThought") ∈ lw_all := lw_g (lw_at lw_m2 77 rfl) rfl
theorem q449 : (Jvm.Cond.lays "WindingSquare$Square" "WindingSquare$Square" "asked" "LWindingSquare$Walker;") ∈ lw_all := lw_g (lw_at lw_m2 78 rfl) rfl
theorem q450 : (Jvm.Cond.soleField "WindingSquare$Square" "asked") ∈ lw_all := lw_g (lw_at lw_m2 79 rfl) rfl
theorem q451 : (Jvm.Cond.superclass "WindingSquare$Square" "java/lang/Object") ∈ lw_all := lw_g (lw_at lw_m2 80 rfl) rfl
theorem q903 : (Jvm.Cond.fieldLinkNest "WindingSquare$Square" (169 : Nat) "WindingSquare$Line" "word" "I" "WindingSquare") ∈ lw_tbl := lw_at lw_m4 52 rfl
theorem q905 : (Jvm.Cond.fieldLinkNest "WindingSquare$Square" (182 : Nat) "WindingSquare$Line" "comesTo" "LWindingSquare$Term;" "WindingSquare") ∈ lw_tbl := lw_at lw_m4 54 rfl
theorem q907 : (Jvm.Cond.fieldLinkNest "WindingSquare$Square" (172 : Nat) "WindingSquare$Line" "when" "LWindingSquare$Term;" "WindingSquare") ∈ lw_tbl := lw_at lw_m4 56 rfl
theorem q928 : (Jvm.Cond.instanceMethod ({ cls := "WindingSquare$Square", name := "isLaid", desc := "([I)V" } : Jvm.MethodName)) ∈ lw_all := lw_g (lw_at lw_m4 77 rfl) rfl
theorem q929 : (Jvm.Cond.selects "WindingSquare$Square" ({ cls := "WindingSquare$Square", name := "isLaid", desc := "([I)V" } : Jvm.MethodName) ({ cls := "WindingSquare$Square", name := "isLaid", desc := "([I)V" } : Jvm.MethodName)) ∈ lw_all := lw_g (lw_at lw_m4 78 rfl) rfl
theorem q930 : (Jvm.Cond.code ({ cls := "WindingSquare$Square", name := "isLaid", desc := "([I)V" } : Jvm.MethodName) prog_11_method_16_code (3 : Nat) (Option.none : Option Jvm.ClassFile.FieldType)) ∈ lw_all := lw_g (lw_at lw_m4 79 rfl) rfl
theorem q931 : (Jvm.Cond.methodLink "WindingSquare$Square" (120 : Nat) ({ cls := "WindingSquare$Walker", name := "isIn", desc := "()Z" } : Jvm.MethodName)) ∈ lw_all := lw_g (lw_at lw_m4 80 rfl) rfl
theorem q973 : (Jvm.Cond.fieldLinkNest "WindingSquare$Square" (134 : Nat) "WindingSquare$Watch" "from" "I" "WindingSquare") ∈ lw_tbl := lw_at lw_m4 122 rfl
theorem q975 : (Jvm.Cond.fieldLinkNest "WindingSquare$Square" (137 : Nat) "WindingSquare$Watch" "much" "I" "WindingSquare") ∈ lw_tbl := lw_at lw_m4 124 rfl
theorem q994 : (Jvm.Cond.instanceMethod ({ cls := "WindingSquare$Square", name := "moves", desc := "(LWindingSquare$Square;)V" } : Jvm.MethodName)) ∈ lw_all := lw_g (lw_at lw_m4 143 rfl) rfl
theorem q995 : (Jvm.Cond.selects "WindingSquare$Square" ({ cls := "WindingSquare$Square", name := "moves", desc := "(LWindingSquare$Square;)V" } : Jvm.MethodName) ({ cls := "WindingSquare$Square", name := "moves", desc := "(LWindingSquare$Square;)V" } : Jvm.MethodName)) ∈ lw_all := lw_g (lw_at lw_m4 144 rfl) rfl
theorem q996 : (Jvm.Cond.code ({ cls := "WindingSquare$Square", name := "moves", desc := "(LWindingSquare$Square;)V" } : Jvm.MethodName) prog_11_method_2_code (3 : Nat) (Option.none : Option Jvm.ClassFile.FieldType)) ∈ lw_all := lw_g (lw_at lw_m4 145 rfl) rfl
theorem q997 : (Jvm.Cond.methodLink "WindingSquare$Square" (72 : Nat) ({ cls := "WindingSquare$Walker", name := "takes", desc := "(LWindingSquare$Walker;)V" } : Jvm.MethodName)) ∈ lw_all := lw_g (lw_at lw_m4 146 rfl) rfl
theorem q1025 : (Jvm.Cond.instanceMethod ({ cls := "WindingSquare$Square", name := "isFree", desc := "(I)Z" } : Jvm.MethodName)) ∈ lw_all := lw_g (lw_at lw_m4 174 rfl) rfl
theorem q1026 : (Jvm.Cond.selects "WindingSquare$Square" ({ cls := "WindingSquare$Square", name := "isFree", desc := "(I)Z" } : Jvm.MethodName) ({ cls := "WindingSquare$Square", name := "isFree", desc := "(I)Z" } : Jvm.MethodName)) ∈ lw_all := lw_g (lw_at lw_m4 175 rfl) rfl
theorem q1027 : (Jvm.Cond.code ({ cls := "WindingSquare$Square", name := "isFree", desc := "(I)Z" } : Jvm.MethodName) prog_11_method_17_code (2 : Nat) (Option.some Jvm.ClassFile.FieldType.boolean)) ∈ lw_all := lw_g (lw_at lw_m4 176 rfl) rfl
theorem q1028 : (Jvm.Cond.methodLink "WindingSquare$Square" (193 : Nat) ({ cls := "WindingSquare$Square", name := "standing", desc := "(I)I" } : Jvm.MethodName)) ∈ lw_all := lw_g (lw_at lw_m4 177 rfl) rfl
theorem q1029 : (Jvm.Cond.instanceMethod ({ cls := "WindingSquare$Square", name := "standing", desc := "(I)I" } : Jvm.MethodName)) ∈ lw_all := lw_g (lw_at lw_m4 178 rfl) rfl
theorem q1030 : (Jvm.Cond.selects "WindingSquare$Square" ({ cls := "WindingSquare$Square", name := "standing", desc := "(I)I" } : Jvm.MethodName) ({ cls := "WindingSquare$Square", name := "standing", desc := "(I)I" } : Jvm.MethodName)) ∈ lw_all := lw_g (lw_at lw_m4 179 rfl) rfl
theorem q1031 : (Jvm.Cond.code ({ cls := "WindingSquare$Square", name := "standing", desc := "(I)I" } : Jvm.MethodName) prog_11_method_8_code (3 : Nat) (Option.some Jvm.ClassFile.FieldType.int)) ∈ lw_all := lw_g (lw_at lw_m4 180 rfl) rfl
theorem q1037 : (Jvm.Cond.instanceMethod ({ cls := "WindingSquare$Square", name := "comes", desc := "(III)V" } : Jvm.MethodName)) ∈ lw_all := lw_g (lw_at lw_m4 186 rfl) rfl
theorem q1038 : (Jvm.Cond.selects "WindingSquare$Square" ({ cls := "WindingSquare$Square", name := "comes", desc := "(III)V" } : Jvm.MethodName) ({ cls := "WindingSquare$Square", name := "comes", desc := "(III)V" } : Jvm.MethodName)) ∈ lw_all := lw_g (lw_at lw_m4 187 rfl) rfl
theorem q1039 : (Jvm.Cond.code ({ cls := "WindingSquare$Square", name := "comes", desc := "(III)V" } : Jvm.MethodName) prog_11_method_18_code (4 : Nat) (Option.none : Option Jvm.ClassFile.FieldType)) ∈ lw_all := lw_g (lw_at lw_m4 188 rfl) rfl
theorem q1040 : (Jvm.Cond.methodLink "WindingSquare$Square" (196 : Nat) ({ cls := "WindingSquare$Walker", name := "comes", desc := "(II)V" } : Jvm.MethodName)) ∈ lw_all := lw_g (lw_at lw_m4 189 rfl) rfl
theorem q1044 : (Jvm.Cond.methodLink "WindingSquare$Square" (200 : Nat) ({ cls := "WindingSquare$Square", name := "notes", desc := "(III)V" } : Jvm.MethodName)) ∈ lw_all := lw_g (lw_at lw_m4 193 rfl) rfl
theorem q1045 : (Jvm.Cond.privateMethod ({ cls := "WindingSquare$Square", name := "notes", desc := "(III)V" } : Jvm.MethodName)) ∈ lw_tbl := lw_at lw_m4 194 rfl
theorem q1046 : (Jvm.Cond.instanceMethod ({ cls := "WindingSquare$Square", name := "notes", desc := "(III)V" } : Jvm.MethodName)) ∈ lw_all := lw_g (lw_at lw_m4 195 rfl) rfl
theorem q1047 : (Jvm.Cond.code ({ cls := "WindingSquare$Square", name := "notes", desc := "(III)V" } : Jvm.MethodName) prog_11_method_7_code (5 : Nat) (Option.none : Option Jvm.ClassFile.FieldType)) ∈ lw_all := lw_g (lw_at lw_m4 196 rfl) rfl
theorem q1057 : (Jvm.Cond.instanceMethod ({ cls := "WindingSquare$Square", name := "turns", desc := "(II)V" } : Jvm.MethodName)) ∈ lw_all := lw_g (lw_at lw_m4 206 rfl) rfl
theorem q1058 : (Jvm.Cond.selects "WindingSquare$Square" ({ cls := "WindingSquare$Square", name := "turns", desc := "(II)V" } : Jvm.MethodName) ({ cls := "WindingSquare$Square", name := "turns", desc := "(II)V" } : Jvm.MethodName)) ∈ lw_all := lw_g (lw_at lw_m4 207 rfl) rfl
theorem q1059 : (Jvm.Cond.code ({ cls := "WindingSquare$Square", name := "turns", desc := "(II)V" } : Jvm.MethodName) prog_11_method_19_code (3 : Nat) (Option.none : Option Jvm.ClassFile.FieldType)) ∈ lw_all := lw_g (lw_at lw_m4 208 rfl) rfl
theorem q1060 : (Jvm.Cond.methodLink "WindingSquare$Square" (204 : Nat) ({ cls := "WindingSquare$Walker", name := "turns", desc := "(IZ)V" } : Jvm.MethodName)) ∈ lw_all := lw_g (lw_at lw_m4 209 rfl) rfl
theorem q1077 : (Jvm.Cond.instanceMethod ({ cls := "WindingSquare$Square", name := "passes", desc := "()I" } : Jvm.MethodName)) ∈ lw_all := lw_g (lw_at lw_m4 226 rfl) rfl
theorem q1078 : (Jvm.Cond.selects "WindingSquare$Square" ({ cls := "WindingSquare$Square", name := "passes", desc := "()I" } : Jvm.MethodName) ({ cls := "WindingSquare$Square", name := "passes", desc := "()I" } : Jvm.MethodName)) ∈ lw_all := lw_g (lw_at lw_m4 227 rfl) rfl
theorem q1079 : (Jvm.Cond.code ({ cls := "WindingSquare$Square", name := "passes", desc := "()I" } : Jvm.MethodName) prog_11_method_24_code (3 : Nat) (Option.some Jvm.ClassFile.FieldType.int)) ∈ lw_all := lw_g (lw_at lw_m4 228 rfl) rfl
theorem q1080 : (Jvm.Cond.methodLink "WindingSquare$Square" (267 : Nat) ({ cls := "WindingSquare$Square", name := "walks", desc := "(I)Z" } : Jvm.MethodName)) ∈ lw_all := lw_g (lw_at lw_m4 229 rfl) rfl
theorem q1081 : (Jvm.Cond.privateMethod ({ cls := "WindingSquare$Square", name := "walks", desc := "(I)Z" } : Jvm.MethodName)) ∈ lw_tbl := lw_at lw_m4 230 rfl
theorem q1082 : (Jvm.Cond.instanceMethod ({ cls := "WindingSquare$Square", name := "walks", desc := "(I)Z" } : Jvm.MethodName)) ∈ lw_all := lw_g (lw_at lw_m4 231 rfl) rfl
theorem q1083 : (Jvm.Cond.code ({ cls := "WindingSquare$Square", name := "walks", desc := "(I)Z" } : Jvm.MethodName) prog_11_method_23_code (3 : Nat) (Option.some Jvm.ClassFile.FieldType.boolean)) ∈ lw_all := lw_g (lw_at lw_m4 232 rfl) rfl
theorem q1084 : (Jvm.Cond.methodLink "WindingSquare$Square" (250 : Nat) ({ cls := "WindingSquare$Square", name := "next", desc := "(I)LWindingSquare$Step;" } : Jvm.MethodName)) ∈ lw_all := lw_g (lw_at lw_m4 233 rfl) rfl
theorem q1085 : (Jvm.Cond.instanceMethod ({ cls := "WindingSquare$Square", name := "next", desc := "(I)LWindingSquare$Step;" } : Jvm.MethodName)) ∈ lw_all := lw_g (lw_at lw_m4 234 rfl) rfl
theorem q1086 : (Jvm.Cond.selects "WindingSquare$Square" ({ cls := "WindingSquare$Square", name := "next", desc := "(I)LWindingSquare$Step;" } : Jvm.MethodName) ({ cls := "WindingSquare$Square", name := "next", desc := "(I)LWindingSquare$Step;" } : Jvm.MethodName)) ∈ lw_all := lw_g (lw_at lw_m4 235 rfl) rfl
theorem q1087 : (Jvm.Cond.code ({ cls := "WindingSquare$Square", name := "next", desc := "(I)LWindingSquare$Step;" } : Jvm.MethodName) prog_11_method_22_code (2 : Nat) (Option.some (Jvm.ClassFile.FieldType.object "WindingSquare$Step"))) ∈ lw_all := lw_g (lw_at lw_m4 236 rfl) rfl
theorem q1088 : (Jvm.Cond.methodLink "WindingSquare$Square" (128 : Nat) ({ cls := "java/util/ArrayList", name := "get", desc := "(I)Ljava/lang/Object;" } : Jvm.MethodName)) ∈ lw_all := lw_g (lw_at lw_m4 237 rfl) rfl
theorem q1092 : (Jvm.Cond.methodLink "WindingSquare$Square" (124 : Nat) ({ cls := "java/util/ArrayList", name := "size", desc := "()I" } : Jvm.MethodName)) ∈ lw_all := lw_g (lw_at lw_m5 1 rfl) rfl
theorem q1093 : (Jvm.Cond.methodLink "WindingSquare$Square" (257 : Nat) ({ cls := "WindingSquare$Walker", name := "does", desc := "(I)V" } : Jvm.MethodName)) ∈ lw_all := lw_g (lw_at lw_m5 2 rfl) rfl
theorem q1097 : (Jvm.Cond.methodLink "WindingSquare$Square" (263 : Nat) ({ cls := "WindingSquare$Square", name := "turns", desc := "(II)V" } : Jvm.MethodName)) ∈ lw_all := lw_g (lw_at lw_m5 6 rfl) rfl
theorem q1098 : (Jvm.Cond.methodLink "WindingSquare$Square" (243 : Nat) ({ cls := "WindingSquare$Square", name := "goesOn", desc := "(IZ)Z" } : Jvm.MethodName)) ∈ lw_all := lw_g (lw_at lw_m5 7 rfl) rfl
theorem q1099 : (Jvm.Cond.privateMethod ({ cls := "WindingSquare$Square", name := "goesOn", desc := "(IZ)Z" } : Jvm.MethodName)) ∈ lw_tbl := lw_at lw_m5 8 rfl
theorem q1100 : (Jvm.Cond.instanceMethod ({ cls := "WindingSquare$Square", name := "goesOn", desc := "(IZ)Z" } : Jvm.MethodName)) ∈ lw_all := lw_g (lw_at lw_m5 9 rfl) rfl
theorem q1101 : (Jvm.Cond.code ({ cls := "WindingSquare$Square", name := "goesOn", desc := "(IZ)Z" } : Jvm.MethodName) prog_11_method_21_code (5 : Nat) (Option.some Jvm.ClassFile.FieldType.boolean)) ∈ lw_all := lw_g (lw_at lw_m5 10 rfl) rfl
theorem q1102 : (Jvm.Cond.methodLinkNest "WindingSquare$Square" (227 : Nat) ({ cls := "WindingSquare", name := "on", desc := "(II)I" } : Jvm.MethodName) "WindingSquare") ∈ lw_tbl := lw_at lw_m5 11 rfl
theorem q1111 : (Jvm.Cond.methodLink "WindingSquare$Square" (231 : Nat) ({ cls := "WindingSquare$Square", name := "isOver", desc := "(I)Z" } : Jvm.MethodName)) ∈ lw_all := lw_g (lw_at lw_m5 20 rfl) rfl
theorem q1112 : (Jvm.Cond.privateMethod ({ cls := "WindingSquare$Square", name := "isOver", desc := "(I)Z" } : Jvm.MethodName)) ∈ lw_tbl := lw_at lw_m5 21 rfl
theorem q1113 : (Jvm.Cond.instanceMethod ({ cls := "WindingSquare$Square", name := "isOver", desc := "(I)Z" } : Jvm.MethodName)) ∈ lw_all := lw_g (lw_at lw_m5 22 rfl) rfl
theorem q1114 : (Jvm.Cond.code ({ cls := "WindingSquare$Square", name := "isOver", desc := "(I)Z" } : Jvm.MethodName) prog_11_method_20_code (4 : Nat) (Option.some Jvm.ClassFile.FieldType.boolean)) ∈ lw_all := lw_g (lw_at lw_m5 23 rfl) rfl
theorem q1115 : (Jvm.Cond.methodLink "WindingSquare$Square" (213 : Nat) ({ cls := "WindingSquare$Square", name := "pays", desc := "(LWindingSquare$Walker;)I" } : Jvm.MethodName)) ∈ lw_all := lw_g (lw_at lw_m5 24 rfl) rfl
theorem q1116 : (Jvm.Cond.instanceMethod ({ cls := "WindingSquare$Square", name := "pays", desc := "(LWindingSquare$Walker;)I" } : Jvm.MethodName)) ∈ lw_all := lw_g (lw_at lw_m5 25 rfl) rfl
theorem q1117 : (Jvm.Cond.selects "WindingSquare$Square" ({ cls := "WindingSquare$Square", name := "pays", desc := "(LWindingSquare$Walker;)I" } : Jvm.MethodName) ({ cls := "WindingSquare$Square", name := "pays", desc := "(LWindingSquare$Walker;)I" } : Jvm.MethodName)) ∈ lw_all := lw_g (lw_at lw_m5 26 rfl) rfl
theorem q1118 : (Jvm.Cond.code ({ cls := "WindingSquare$Square", name := "pays", desc := "(LWindingSquare$Walker;)I" } : Jvm.MethodName) prog_11_method_15_code (2 : Nat) (Option.some Jvm.ClassFile.FieldType.int)) ∈ lw_all := lw_g (lw_at lw_m5 27 rfl) rfl
theorem q1119 : (Jvm.Cond.methodLink "WindingSquare$Square" (189 : Nat) ({ cls := "WindingSquare$Square", name := "tells", desc := "(ILWindingSquare$Walker;II)I" } : Jvm.MethodName)) ∈ lw_all := lw_g (lw_at lw_m5 28 rfl) rfl
theorem q1120 : (Jvm.Cond.privateMethod ({ cls := "WindingSquare$Square", name := "tells", desc := "(ILWindingSquare$Walker;II)I" } : Jvm.MethodName)) ∈ lw_tbl := lw_at lw_m5 29 rfl
theorem q1121 : (Jvm.Cond.instanceMethod ({ cls := "WindingSquare$Square", name := "tells", desc := "(ILWindingSquare$Walker;II)I" } : Jvm.MethodName)) ∈ lw_all := lw_g (lw_at lw_m5 30 rfl) rfl
theorem q1122 : (Jvm.Cond.code ({ cls := "WindingSquare$Square", name := "tells", desc := "(ILWindingSquare$Walker;II)I" } : Jvm.MethodName) prog_11_method_12_code (7 : Nat) (Option.some Jvm.ClassFile.FieldType.int)) ∈ lw_all := lw_g (lw_at lw_m5 31 rfl) rfl
theorem q1123 : (Jvm.Cond.classLink "WindingSquare$Square" (167 : Nat) "WindingSquare$Line") ∈ lw_all := lw_g (lw_at lw_m5 32 rfl) rfl
theorem q1124 : (Jvm.Cond.methodLink "WindingSquare$Square" (176 : Nat) ({ cls := "WindingSquare$Term", name := "of", desc := "(LWindingSquare$Asker;)I" } : Jvm.MethodName)) ∈ lw_all := lw_g (lw_at lw_m5 33 rfl) rfl
theorem q1140 : (Jvm.Cond.castable "WindingSquare$Square" "WindingSquare$Asker") ∈ lw_tbl := lw_at lw_m5 49 rfl
theorem q1141 : (Jvm.Cond.selects "WindingSquare$Square" ({ cls := "WindingSquare$Asker", name := "fact", desc := "(I)I" } : Jvm.MethodName) ({ cls := "WindingSquare$Square", name := "fact", desc := "(I)I" } : Jvm.MethodName)) ∈ lw_all := lw_g (lw_at lw_m5 50 rfl) rfl
theorem q1142 : (Jvm.Cond.unhidden "WindingSquare$Square" "fact" "(I)I") ∈ lw_tbl := lw_at lw_m5 51 rfl
theorem q1143 : (Jvm.Cond.instanceMethod ({ cls := "WindingSquare$Square", name := "fact", desc := "(I)I" } : Jvm.MethodName)) ∈ lw_all := lw_g (lw_at lw_m5 52 rfl) rfl
theorem q1144 : (Jvm.Cond.publicMethod ({ cls := "WindingSquare$Square", name := "fact", desc := "(I)I" } : Jvm.MethodName)) ∈ lw_tbl := lw_at lw_m5 53 rfl
theorem q1145 : (Jvm.Cond.code ({ cls := "WindingSquare$Square", name := "fact", desc := "(I)I" } : Jvm.MethodName) prog_11_method_11_code (3 : Nat) (Option.some Jvm.ClassFile.FieldType.int)) ∈ lw_all := lw_g (lw_at lw_m5 54 rfl) rfl
theorem q1146 : (Jvm.Cond.methodLink "WindingSquare$Square" (156 : Nat) ({ cls := "WindingSquare$Square", name := "inside", desc := "()I" } : Jvm.MethodName)) ∈ lw_all := lw_g (lw_at lw_m5 55 rfl) rfl
theorem q1147 : (Jvm.Cond.instanceMethod ({ cls := "WindingSquare$Square", name := "inside", desc := "()I" } : Jvm.MethodName)) ∈ lw_all := lw_g (lw_at lw_m5 56 rfl) rfl
theorem q1148 : (Jvm.Cond.selects "WindingSquare$Square" ({ cls := "WindingSquare$Square", name := "inside", desc := "()I" } : Jvm.MethodName) ({ cls := "WindingSquare$Square", name := "inside", desc := "()I" } : Jvm.MethodName)) ∈ lw_all := lw_g (lw_at lw_m5 57 rfl) rfl
theorem q1149 : (Jvm.Cond.code ({ cls := "WindingSquare$Square", name := "inside", desc := "()I" } : Jvm.MethodName) prog_11_method_9_code (3 : Nat) (Option.some Jvm.ClassFile.FieldType.int)) ∈ lw_all := lw_g (lw_at lw_m5 58 rfl) rfl
theorem q1150 : (Jvm.Cond.methodLink "WindingSquare$Square" (159 : Nat) ({ cls := "java/lang/Integer", name := "bitCount", desc := "(I)I" } : Jvm.MethodName)) ∈ lw_all := lw_g (lw_at lw_m5 59 rfl) rfl
theorem q1156 : (Jvm.Cond.methodLink "WindingSquare$Square" (164 : Nat) ({ cls := "WindingSquare$Square", name := "watched", desc := "()I" } : Jvm.MethodName)) ∈ lw_all := lw_g (lw_at lw_m5 65 rfl) rfl
theorem q1157 : (Jvm.Cond.privateMethod ({ cls := "WindingSquare$Square", name := "watched", desc := "()I" } : Jvm.MethodName)) ∈ lw_tbl := lw_at lw_m5 66 rfl
theorem q1158 : (Jvm.Cond.instanceMethod ({ cls := "WindingSquare$Square", name := "watched", desc := "()I" } : Jvm.MethodName)) ∈ lw_all := lw_g (lw_at lw_m5 67 rfl) rfl
theorem q1159 : (Jvm.Cond.code ({ cls := "WindingSquare$Square", name := "watched", desc := "()I" } : Jvm.MethodName) prog_11_method_10_code (3 : Nat) (Option.some Jvm.ClassFile.FieldType.int)) ∈ lw_all := lw_g (lw_at lw_m5 68 rfl) rfl
theorem q1160 : (Jvm.Cond.classLink "WindingSquare$Square" (132 : Nat) "WindingSquare$Watch") ∈ lw_all := lw_g (lw_at lw_m5 69 rfl) rfl
theorem q1166 : (Jvm.Cond.methodLinkNest "WindingSquare$Square" (185 : Nat) ({ cls := "WindingSquare", name := "bound", desc := "(III)I" } : Jvm.MethodName) "WindingSquare") ∈ lw_tbl := lw_at lw_m5 75 rfl
theorem q1171 : (Jvm.Cond.methodLink "WindingSquare$Square" (217 : Nat) ({ cls := "WindingSquare$Square", name := "sees", desc := "(LWindingSquare$Walker;)I" } : Jvm.MethodName)) ∈ lw_all := lw_g (lw_at lw_m5 80 rfl) rfl
theorem q1172 : (Jvm.Cond.instanceMethod ({ cls := "WindingSquare$Square", name := "sees", desc := "(LWindingSquare$Walker;)I" } : Jvm.MethodName)) ∈ lw_all := lw_g (lw_at lw_m5 81 rfl) rfl
theorem q1173 : (Jvm.Cond.selects "WindingSquare$Square" ({ cls := "WindingSquare$Square", name := "sees", desc := "(LWindingSquare$Walker;)I" } : Jvm.MethodName) ({ cls := "WindingSquare$Square", name := "sees", desc := "(LWindingSquare$Walker;)I" } : Jvm.MethodName)) ∈ lw_all := lw_g (lw_at lw_m5 82 rfl) rfl
theorem q1174 : (Jvm.Cond.code ({ cls := "WindingSquare$Square", name := "sees", desc := "(LWindingSquare$Walker;)I" } : Jvm.MethodName) prog_11_method_14_code (2 : Nat) (Option.some Jvm.ClassFile.FieldType.int)) ∈ lw_all := lw_g (lw_at lw_m5 83 rfl) rfl
theorem q1175 : (Jvm.Cond.methodLink "WindingSquare$Square" (220 : Nat) ({ cls := "WindingSquare$Square", name := "falls", desc := "(I)Z" } : Jvm.MethodName)) ∈ lw_all := lw_g (lw_at lw_m5 84 rfl) rfl
theorem q1176 : (Jvm.Cond.privateMethod ({ cls := "WindingSquare$Square", name := "falls", desc := "(I)Z" } : Jvm.MethodName)) ∈ lw_tbl := lw_at lw_m5 85 rfl
theorem q1177 : (Jvm.Cond.instanceMethod ({ cls := "WindingSquare$Square", name := "falls", desc := "(I)Z" } : Jvm.MethodName)) ∈ lw_all := lw_g (lw_at lw_m5 86 rfl) rfl
theorem q1178 : (Jvm.Cond.code ({ cls := "WindingSquare$Square", name := "falls", desc := "(I)Z" } : Jvm.MethodName) prog_11_method_6_code (2 : Nat) (Option.some Jvm.ClassFile.FieldType.boolean)) ∈ lw_all := lw_g (lw_at lw_m5 87 rfl) rfl
theorem q1179 : (Jvm.Cond.methodLink "WindingSquare$Square" (114 : Nat) ({ cls := "WindingSquare$Square", name := "draw", desc := "(I)I" } : Jvm.MethodName)) ∈ lw_all := lw_g (lw_at lw_m5 88 rfl) rfl
theorem q1180 : (Jvm.Cond.instanceMethod ({ cls := "WindingSquare$Square", name := "draw", desc := "(I)I" } : Jvm.MethodName)) ∈ lw_all := lw_g (lw_at lw_m5 89 rfl) rfl
theorem q1181 : (Jvm.Cond.selects "WindingSquare$Square" ({ cls := "WindingSquare$Square", name := "draw", desc := "(I)I" } : Jvm.MethodName) ({ cls := "WindingSquare$Square", name := "draw", desc := "(I)I" } : Jvm.MethodName)) ∈ lw_all := lw_g (lw_at lw_m5 90 rfl) rfl
theorem q1182 : (Jvm.Cond.code ({ cls := "WindingSquare$Square", name := "draw", desc := "(I)I" } : Jvm.MethodName) prog_11_method_5_code (2 : Nat) (Option.some Jvm.ClassFile.FieldType.int)) ∈ lw_all := lw_g (lw_at lw_m5 91 rfl) rfl
theorem q1183 : (Jvm.Cond.constant "WindingSquare$Square" (108 : Nat) (1664525 : Int32)) ∈ lw_all := lw_g (lw_at lw_m5 92 rfl) rfl
theorem q1184 : (Jvm.Cond.constant "WindingSquare$Square" (109 : Nat) (1013904223 : Int32)) ∈ lw_all := lw_g (lw_at lw_m5 93 rfl) rfl
theorem q1185 : (Jvm.Cond.methodLink "WindingSquare$Square" (234 : Nat) ({ cls := "WindingSquare$Square", name := "isFree", desc := "(I)Z" } : Jvm.MethodName)) ∈ lw_all := lw_g (lw_at lw_m5 94 rfl) rfl
theorem q1186 : (Jvm.Cond.methodLink "WindingSquare$Square" (237 : Nat) ({ cls := "WindingSquare$Square", name := "slips", desc := "(LWindingSquare$Walker;)I" } : Jvm.MethodName)) ∈ lw_all := lw_g (lw_at lw_m5 95 rfl) rfl
theorem q1187 : (Jvm.Cond.instanceMethod ({ cls := "WindingSquare$Square", name := "slips", desc := "(LWindingSquare$Walker;)I" } : Jvm.MethodName)) ∈ lw_all := lw_g (lw_at lw_m5 96 rfl) rfl
theorem q1188 : (Jvm.Cond.selects "WindingSquare$Square" ({ cls := "WindingSquare$Square", name := "slips", desc := "(LWindingSquare$Walker;)I" } : Jvm.MethodName) ({ cls := "WindingSquare$Square", name := "slips", desc := "(LWindingSquare$Walker;)I" } : Jvm.MethodName)) ∈ lw_all := lw_g (lw_at lw_m5 97 rfl) rfl
theorem q1189 : (Jvm.Cond.code ({ cls := "WindingSquare$Square", name := "slips", desc := "(LWindingSquare$Walker;)I" } : Jvm.MethodName) prog_11_method_13_code (2 : Nat) (Option.some Jvm.ClassFile.FieldType.int)) ∈ lw_all := lw_g (lw_at lw_m5 98 rfl) rfl
theorem q1210 : (Jvm.Cond.instanceMethod ({ cls := "WindingSquare$Square", name := "thinks", desc := "(LWindingSquare$Square;)V" } : Jvm.MethodName)) ∈ lw_all := lw_g (lw_at lw_m5 119 rfl) rfl
theorem q1211 : (Jvm.Cond.selects "WindingSquare$Square" ({ cls := "WindingSquare$Square", name := "thinks", desc := "(LWindingSquare$Square;)V" } : Jvm.MethodName) ({ cls := "WindingSquare$Square", name := "thinks", desc := "(LWindingSquare$Square;)V" } : Jvm.MethodName)) ∈ lw_all := lw_g (lw_at lw_m5 120 rfl) rfl
theorem q1212 : (Jvm.Cond.code ({ cls := "WindingSquare$Square", name := "thinks", desc := "(LWindingSquare$Square;)V" } : Jvm.MethodName) prog_11_method_3_code (2 : Nat) (Option.none : Option Jvm.ClassFile.FieldType)) ∈ lw_all := lw_g (lw_at lw_m5 121 rfl) rfl
theorem q1213 : (Jvm.Cond.methodLink "WindingSquare$Square" (89 : Nat) ({ cls := "WindingSquare$Square", name := "moves", desc := "(LWindingSquare$Square;)V" } : Jvm.MethodName)) ∈ lw_all := lw_g (lw_at lw_m5 122 rfl) rfl
theorem q1441 : (Jvm.Cond.instanceMethod ({ cls := "WindingSquare$Square", name := "takes", desc := "(LWindingSquare$Square;)V" } : Jvm.MethodName)) ∈ lw_all := lw_g (lw_at lw_m6 110 rfl) rfl
theorem q1442 : (Jvm.Cond.selects "WindingSquare$Square" ({ cls := "WindingSquare$Square", name := "takes", desc := "(LWindingSquare$Square;)V" } : Jvm.MethodName) ({ cls := "WindingSquare$Square", name := "takes", desc := "(LWindingSquare$Square;)V" } : Jvm.MethodName)) ∈ lw_all := lw_g (lw_at lw_m6 111 rfl) rfl
theorem q1443 : (Jvm.Cond.code ({ cls := "WindingSquare$Square", name := "takes", desc := "(LWindingSquare$Square;)V" } : Jvm.MethodName) prog_11_method_4_code (4 : Nat) (Option.none : Option Jvm.ClassFile.FieldType)) ∈ lw_all := lw_g (lw_at lw_m6 112 rfl) rfl
theorem q1444 : (Jvm.Cond.methodLink "WindingSquare$Square" (102 : Nat) ({ cls := "WindingSquare$Square", name := "thinks", desc := "(LWindingSquare$Square;)V" } : Jvm.MethodName)) ∈ lw_all := lw_g (lw_at lw_m6 113 rfl) rfl
theorem q1445 : (Jvm.Cond.methodLink "WindingSquare$Square" (105 : Nat) ({ cls := "WindingSquare$Rows", name := "takes", desc := "(LWindingSquare$Rows;)V" } : Jvm.MethodName)) ∈ lw_all := lw_g (lw_at lw_m6 114 rfl) rfl
theorem q2055 : (Jvm.Cond.castable "WindingSquare$Square" "java/lang/Object") ∈ lw_tbl := lw_at lw_m9 4 rfl
theorem in_X1 : ∀ w ∈ wsX10, w ∈ lw_all := lw_in wsX10 [413, 415, 417, 419, 421, 423, 425, 427, 429, 431, 433, 435, 437, 439, 441, 443, 445, 447, 449] (by decide +kernel) (by decide +kernel)

