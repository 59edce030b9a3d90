set_option maxRecDepth 100000
/-! WindingSquare$Reader -/
def RX6 : String := "WindingSquare$Reader"
def TX6 : u_T := fun k => match k with
  | 0 => ("WindingSquare$Reader", "which", "I", true)
  | 1 => ("WindingSquare$Reader", "cell", "[I", true)
  | 2 => ("WindingSquare$Reader", "way", "Ljava/util/ArrayList;", true)
  | 3 => ("WindingSquare$Reader", "at", "I", false)
  | 4 => ("WindingSquare$Reader", "start", "I", false)
  | 5 => ("WindingSquare$Reader", "token", "I", false)
  | 6 => ("WindingSquare$Reader", "value", "I", false)
  | 7 => ("WindingSquare$Reader", "open", "I", false)
  | 8 => ("WindingSquare$Reader", "told", "I", false)
  | _ => ("WindingSquare$Reader", "this$0", "LWindingSquare;", true)
def tyX6 : Nat → FieldType := fun k => match k with
  | 0 => .int
  | 1 => .array .int
  | 2 => .object "java/util/ArrayList"
  | 3 => .int
  | 4 => .int
  | 5 => .int
  | 6 => .int
  | 7 => .int
  | 8 => .int
  | _ => .object "WindingSquare"
abbrev wsX60 : List Cond := u_ws RX6 TX6 10
theorem nmX6 : ∀ a, a < 10 → ∀ b, b < 10 → a ≠ b → (TX6 a).2.1 ≠ (TX6 b).2.1 := by decide +kernel
theorem tyX6_ok : ∀ k, k < 10 → parseFieldDescriptor (TX6 k).2.2.1 = some (tyX6 k) := by decide +kernel
abbrev cX6_init : ByteArray := prog_9_method_1_code
def yX6_init : MethodName := ⟨RX6, "<init>", "(LWindingSquare;I)V"⟩
def dkwX6_init_1 : List UInt8 := [183, 0, 21, 181, 0, 22, 42, 28, 181, 0, 26, 177]
abbrev dktX6_init_1 : List UInt8 := dkwX6_init_1 ++ []
def dkwX6_init_0 : List UInt8 := [42, 43, 181, 0, 3, 42, 183, 0, 9, 42, 17, 0, 144, 188, 10, 181, 0, 15, 42, 187, 0, 19, 89]
abbrev dktX6_init_0 : List UInt8 := dkwX6_init_0 ++ dktX6_init_1
theorem dksX6_init_0 : cX6_init.data.toList.drop 0 = dktX6_init_0 := by decide +kernel
theorem dksX6_init_1 : cX6_init.data.toList.drop 23 = dktX6_init_1 := dk_seg dksX6_init_0 23 rfl rfl
theorem dX6_init_0 : decode cX6_init 0 = .ok (.aload_n 0, 1) := dk_42 (dk_at dksX6_init_0 0 rfl rfl)
theorem dX6_init_1 : decode cX6_init 1 = .ok (.aload_n 1, 1) := dk_43 (dk_at dksX6_init_0 1 rfl rfl)
theorem dX6_init_2 : decode cX6_init 2 = .ok (.putfield 3, 3) := dk_181 0 3 (dk_at dksX6_init_0 2 rfl rfl)
theorem dX6_init_5 : decode cX6_init 5 = .ok (.aload_n 0, 1) := dk_42 (dk_at dksX6_init_0 5 rfl rfl)
theorem dX6_init_6 : decode cX6_init 6 = .ok (.invokespecial 9, 3) := dk_183 0 9 (dk_at dksX6_init_0 6 rfl rfl)
theorem dX6_init_9 : decode cX6_init 9 = .ok (.aload_n 0, 1) := dk_42 (dk_at dksX6_init_0 9 rfl rfl)
theorem dX6_init_10 : decode cX6_init 10 = .ok (.sipush 144, 3) := dk_17 0 144 (dk_at dksX6_init_0 10 rfl rfl)
theorem dX6_init_13 : decode cX6_init 13 = .ok (.newarray .int, 2) := dk_188_10 (dk_at dksX6_init_0 13 rfl rfl)
theorem dX6_init_15 : decode cX6_init 15 = .ok (.putfield 15, 3) := dk_181 0 15 (dk_at dksX6_init_0 15 rfl rfl)
theorem dX6_init_18 : decode cX6_init 18 = .ok (.aload_n 0, 1) := dk_42 (dk_at dksX6_init_0 18 rfl rfl)
theorem dX6_init_19 : decode cX6_init 19 = .ok (.new 19, 3) := dk_187 0 19 (dk_at dksX6_init_0 19 rfl rfl)
theorem dX6_init_22 : decode cX6_init 22 = .ok (.dup, 1) := dk_89 (dk_at dksX6_init_0 22 rfl rfl)
theorem dX6_init_23 : decode cX6_init 23 = .ok (.invokespecial 21, 3) := dk_183 0 21 (dk_at dksX6_init_1 0 rfl rfl)
theorem dX6_init_26 : decode cX6_init 26 = .ok (.putfield 22, 3) := dk_181 0 22 (dk_at dksX6_init_1 3 rfl rfl)
theorem dX6_init_29 : decode cX6_init 29 = .ok (.aload_n 0, 1) := dk_42 (dk_at dksX6_init_1 6 rfl rfl)
theorem dX6_init_30 : decode cX6_init 30 = .ok (.iload_n 2, 1) := dk_28 (dk_at dksX6_init_1 7 rfl rfl)
theorem dX6_init_31 : decode cX6_init 31 = .ok (.putfield 26, 3) := dk_181 0 26 (dk_at dksX6_init_1 8 rfl rfl)
theorem dX6_init_34 : decode cX6_init 34 = .ok (.return_, 1) := dk_177 (dk_at dksX6_init_1 11 rfl rfl)
abbrev cX6_law : ByteArray := prog_9_method_22_code
def yX6_law : MethodName := ⟨RX6, "law", "()Ljava/util/ArrayList;"⟩
def dkwX6_law_5 : List UInt8 := [187, 0, 215, 89, 28, 45, 25, 4, 183, 0, 217, 182, 0, 220, 87, 167, 255, 138, 43, 176]
abbrev dktX6_law_5 : List UInt8 := dkwX6_law_5 ++ []
def dkwX6_law_4 : List UInt8 := [180, 0, 134, 6, 160, 0, 13, 42, 182, 0, 145, 42, 182, 0, 203, 58, 4, 42, 16, 59, 182, 0, 206, 43]
abbrev dktX6_law_4 : List UInt8 := dkwX6_law_4 ++ dktX6_law_5
def dkwX6_law_3 : List UInt8 := [180, 0, 134, 61, 42, 3, 181, 0, 162, 42, 182, 0, 145, 42, 182, 0, 209, 78, 1, 58, 4, 42]
abbrev dktX6_law_3 : List UInt8 := dkwX6_law_3 ++ dktX6_law_4
def dkwX6_law_2 : List UInt8 := [182, 0, 212, 16, 16, 160, 0, 16, 187, 0, 137, 89, 6, 42, 180, 0, 48, 183, 0, 139, 191, 42]
abbrev dktX6_law_2 : List UInt8 := dkwX6_law_2 ++ dktX6_law_3
def dkwX6_law_1 : List UInt8 := [16, 7, 16, 9, 184, 0, 44, 154, 0, 16, 187, 0, 137, 89, 4, 42, 180, 0, 48, 183, 0, 139, 191, 43]
abbrev dktX6_law_1 : List UInt8 := dkwX6_law_1 ++ dktX6_law_2
def dkwX6_law_0 : List UInt8 := [187, 0, 19, 89, 183, 0, 21, 76, 42, 182, 0, 145, 42, 180, 0, 134, 153, 0, 117, 42, 180, 0, 134]
abbrev dktX6_law_0 : List UInt8 := dkwX6_law_0 ++ dktX6_law_1
theorem dksX6_law_0 : cX6_law.data.toList.drop 0 = dktX6_law_0 := by decide +kernel
theorem dksX6_law_1 : cX6_law.data.toList.drop 23 = dktX6_law_1 := dk_seg dksX6_law_0 23 rfl rfl
theorem dksX6_law_2 : cX6_law.data.toList.drop 47 = dktX6_law_2 := dk_seg dksX6_law_1 24 rfl rfl
theorem dksX6_law_3 : cX6_law.data.toList.drop 69 = dktX6_law_3 := dk_seg dksX6_law_2 22 rfl rfl
theorem dksX6_law_4 : cX6_law.data.toList.drop 91 = dktX6_law_4 := dk_seg dksX6_law_3 22 rfl rfl
theorem dksX6_law_5 : cX6_law.data.toList.drop 115 = dktX6_law_5 := dk_seg dksX6_law_4 24 rfl rfl
theorem dX6_law_0 : decode cX6_law 0 = .ok (.new 19, 3) := dk_187 0 19 (dk_at dksX6_law_0 0 rfl rfl)
theorem dX6_law_3 : decode cX6_law 3 = .ok (.dup, 1) := dk_89 (dk_at dksX6_law_0 3 rfl rfl)
theorem dX6_law_4 : decode cX6_law 4 = .ok (.invokespecial 21, 3) := dk_183 0 21 (dk_at dksX6_law_0 4 rfl rfl)
theorem dX6_law_7 : decode cX6_law 7 = .ok (.astore_n 1, 1) := dk_76 (dk_at dksX6_law_0 7 rfl rfl)
theorem dX6_law_8 : decode cX6_law 8 = .ok (.aload_n 0, 1) := dk_42 (dk_at dksX6_law_0 8 rfl rfl)
theorem dX6_law_9 : decode cX6_law 9 = .ok (.invokevirtual 145, 3) := dk_182 0 145 (dk_at dksX6_law_0 9 rfl rfl)
theorem dX6_law_12 : decode cX6_law 12 = .ok (.aload_n 0, 1) := dk_42 (dk_at dksX6_law_0 12 rfl rfl)
theorem dX6_law_13 : decode cX6_law 13 = .ok (.getfield 134, 3) := dk_180 0 134 (dk_at dksX6_law_0 13 rfl rfl)
theorem dX6_law_16 : decode cX6_law 16 = .ok (.ifCond .eq 117, 3) := dk_153 0 117 (dk_at dksX6_law_0 16 rfl rfl)
theorem dX6_law_19 : decode cX6_law 19 = .ok (.aload_n 0, 1) := dk_42 (dk_at dksX6_law_0 19 rfl rfl)
theorem dX6_law_20 : decode cX6_law 20 = .ok (.getfield 134, 3) := dk_180 0 134 (dk_at dksX6_law_0 20 rfl rfl)
theorem dX6_law_23 : decode cX6_law 23 = .ok (.bipush 7, 2) := dk_16 7 (dk_at dksX6_law_1 0 rfl rfl)
theorem dX6_law_25 : decode cX6_law 25 = .ok (.bipush 9, 2) := dk_16 9 (dk_at dksX6_law_1 2 rfl rfl)
theorem dX6_law_27 : decode cX6_law 27 = .ok (.invokestatic 44, 3) := dk_184 0 44 (dk_at dksX6_law_1 4 rfl rfl)
theorem dX6_law_30 : decode cX6_law 30 = .ok (.ifCond .ne 16, 3) := dk_154 0 16 (dk_at dksX6_law_1 7 rfl rfl)
theorem dX6_law_33 : decode cX6_law 33 = .ok (.new 137, 3) := dk_187 0 137 (dk_at dksX6_law_1 10 rfl rfl)
theorem dX6_law_36 : decode cX6_law 36 = .ok (.dup, 1) := dk_89 (dk_at dksX6_law_1 13 rfl rfl)
theorem dX6_law_37 : decode cX6_law 37 = .ok (.iconst 1, 1) := dk_4 (dk_at dksX6_law_1 14 rfl rfl)
theorem dX6_law_38 : decode cX6_law 38 = .ok (.aload_n 0, 1) := dk_42 (dk_at dksX6_law_1 15 rfl rfl)
theorem dX6_law_39 : decode cX6_law 39 = .ok (.getfield 48, 3) := dk_180 0 48 (dk_at dksX6_law_1 16 rfl rfl)
theorem dX6_law_42 : decode cX6_law 42 = .ok (.invokespecial 139, 3) := dk_183 0 139 (dk_at dksX6_law_1 19 rfl rfl)
theorem dX6_law_45 : decode cX6_law 45 = .ok (.athrow, 1) := dk_191 (dk_at dksX6_law_1 22 rfl rfl)
theorem dX6_law_46 : decode cX6_law 46 = .ok (.aload_n 1, 1) := dk_43 (dk_at dksX6_law_1 23 rfl rfl)
theorem dX6_law_47 : decode cX6_law 47 = .ok (.invokevirtual 212, 3) := dk_182 0 212 (dk_at dksX6_law_2 0 rfl rfl)
theorem dX6_law_50 : decode cX6_law 50 = .ok (.bipush 16, 2) := dk_16 16 (dk_at dksX6_law_2 3 rfl rfl)
theorem dX6_law_52 : decode cX6_law 52 = .ok (.if_icmp .ne 16, 3) := dk_160 0 16 (dk_at dksX6_law_2 5 rfl rfl)
theorem dX6_law_55 : decode cX6_law 55 = .ok (.new 137, 3) := dk_187 0 137 (dk_at dksX6_law_2 8 rfl rfl)
theorem dX6_law_58 : decode cX6_law 58 = .ok (.dup, 1) := dk_89 (dk_at dksX6_law_2 11 rfl rfl)
theorem dX6_law_59 : decode cX6_law 59 = .ok (.iconst 3, 1) := dk_6 (dk_at dksX6_law_2 12 rfl rfl)
theorem dX6_law_60 : decode cX6_law 60 = .ok (.aload_n 0, 1) := dk_42 (dk_at dksX6_law_2 13 rfl rfl)
theorem dX6_law_61 : decode cX6_law 61 = .ok (.getfield 48, 3) := dk_180 0 48 (dk_at dksX6_law_2 14 rfl rfl)
theorem dX6_law_64 : decode cX6_law 64 = .ok (.invokespecial 139, 3) := dk_183 0 139 (dk_at dksX6_law_2 17 rfl rfl)
theorem dX6_law_67 : decode cX6_law 67 = .ok (.athrow, 1) := dk_191 (dk_at dksX6_law_2 20 rfl rfl)
theorem dX6_law_68 : decode cX6_law 68 = .ok (.aload_n 0, 1) := dk_42 (dk_at dksX6_law_2 21 rfl rfl)
theorem dX6_law_69 : decode cX6_law 69 = .ok (.getfield 134, 3) := dk_180 0 134 (dk_at dksX6_law_3 0 rfl rfl)
theorem dX6_law_72 : decode cX6_law 72 = .ok (.istore_n 2, 1) := dk_61 (dk_at dksX6_law_3 3 rfl rfl)
theorem dX6_law_73 : decode cX6_law 73 = .ok (.aload_n 0, 1) := dk_42 (dk_at dksX6_law_3 4 rfl rfl)
theorem dX6_law_74 : decode cX6_law 74 = .ok (.iconst 0, 1) := dk_3 (dk_at dksX6_law_3 5 rfl rfl)
theorem dX6_law_75 : decode cX6_law 75 = .ok (.putfield 162, 3) := dk_181 0 162 (dk_at dksX6_law_3 6 rfl rfl)
theorem dX6_law_78 : decode cX6_law 78 = .ok (.aload_n 0, 1) := dk_42 (dk_at dksX6_law_3 9 rfl rfl)
theorem dX6_law_79 : decode cX6_law 79 = .ok (.invokevirtual 145, 3) := dk_182 0 145 (dk_at dksX6_law_3 10 rfl rfl)
theorem dX6_law_82 : decode cX6_law 82 = .ok (.aload_n 0, 1) := dk_42 (dk_at dksX6_law_3 13 rfl rfl)
theorem dX6_law_83 : decode cX6_law 83 = .ok (.invokevirtual 209, 3) := dk_182 0 209 (dk_at dksX6_law_3 14 rfl rfl)
theorem dX6_law_86 : decode cX6_law 86 = .ok (.astore_n 3, 1) := dk_78 (dk_at dksX6_law_3 17 rfl rfl)
theorem dX6_law_87 : decode cX6_law 87 = .ok (.aconst_null, 1) := dk_1 (dk_at dksX6_law_3 18 rfl rfl)
theorem dX6_law_88 : decode cX6_law 88 = .ok (.astore 4, 2) := dk_58 4 (dk_at dksX6_law_3 19 rfl rfl)
theorem dX6_law_90 : decode cX6_law 90 = .ok (.aload_n 0, 1) := dk_42 (dk_at dksX6_law_3 21 rfl rfl)
theorem dX6_law_91 : decode cX6_law 91 = .ok (.getfield 134, 3) := dk_180 0 134 (dk_at dksX6_law_4 0 rfl rfl)
theorem dX6_law_94 : decode cX6_law 94 = .ok (.iconst 3, 1) := dk_6 (dk_at dksX6_law_4 3 rfl rfl)
theorem dX6_law_95 : decode cX6_law 95 = .ok (.if_icmp .ne 13, 3) := dk_160 0 13 (dk_at dksX6_law_4 4 rfl rfl)
theorem dX6_law_98 : decode cX6_law 98 = .ok (.aload_n 0, 1) := dk_42 (dk_at dksX6_law_4 7 rfl rfl)
theorem dX6_law_99 : decode cX6_law 99 = .ok (.invokevirtual 145, 3) := dk_182 0 145 (dk_at dksX6_law_4 8 rfl rfl)
theorem dX6_law_102 : decode cX6_law 102 = .ok (.aload_n 0, 1) := dk_42 (dk_at dksX6_law_4 11 rfl rfl)
theorem dX6_law_103 : decode cX6_law 103 = .ok (.invokevirtual 203, 3) := dk_182 0 203 (dk_at dksX6_law_4 12 rfl rfl)
theorem dX6_law_106 : decode cX6_law 106 = .ok (.astore 4, 2) := dk_58 4 (dk_at dksX6_law_4 15 rfl rfl)
theorem dX6_law_108 : decode cX6_law 108 = .ok (.aload_n 0, 1) := dk_42 (dk_at dksX6_law_4 17 rfl rfl)
theorem dX6_law_109 : decode cX6_law 109 = .ok (.bipush 59, 2) := dk_16 59 (dk_at dksX6_law_4 18 rfl rfl)
theorem dX6_law_111 : decode cX6_law 111 = .ok (.invokevirtual 206, 3) := dk_182 0 206 (dk_at dksX6_law_4 20 rfl rfl)
theorem dX6_law_114 : decode cX6_law 114 = .ok (.aload_n 1, 1) := dk_43 (dk_at dksX6_law_4 23 rfl rfl)
theorem dX6_law_115 : decode cX6_law 115 = .ok (.new 215, 3) := dk_187 0 215 (dk_at dksX6_law_5 0 rfl rfl)
theorem dX6_law_118 : decode cX6_law 118 = .ok (.dup, 1) := dk_89 (dk_at dksX6_law_5 3 rfl rfl)
theorem dX6_law_119 : decode cX6_law 119 = .ok (.iload_n 2, 1) := dk_28 (dk_at dksX6_law_5 4 rfl rfl)
theorem dX6_law_120 : decode cX6_law 120 = .ok (.aload_n 3, 1) := dk_45 (dk_at dksX6_law_5 5 rfl rfl)
theorem dX6_law_121 : decode cX6_law 121 = .ok (.aload 4, 2) := dk_25 4 (dk_at dksX6_law_5 6 rfl rfl)
theorem dX6_law_123 : decode cX6_law 123 = .ok (.invokespecial 217, 3) := dk_183 0 217 (dk_at dksX6_law_5 8 rfl rfl)
theorem dX6_law_126 : decode cX6_law 126 = .ok (.invokevirtual 220, 3) := dk_182 0 220 (dk_at dksX6_law_5 11 rfl rfl)
theorem dX6_law_129 : decode cX6_law 129 = .ok (.pop, 1) := dk_87 (dk_at dksX6_law_5 14 rfl rfl)
theorem dX6_law_130 : decode cX6_law 130 = .ok (.goto (-118), 3) := dk_167 255 138 (dk_at dksX6_law_5 15 rfl rfl)
theorem dX6_law_133 : decode cX6_law 133 = .ok (.aload_n 1, 1) := dk_43 (dk_at dksX6_law_5 18 rfl rfl)
theorem dX6_law_134 : decode cX6_law 134 = .ok (.areturn, 1) := dk_176 (dk_at dksX6_law_5 19 rfl rfl)
abbrev cX6_next : ByteArray := prog_9_method_13_code
def yX6_next : MethodName := ⟨RX6, "next", "()V"⟩
def dkwX6_next_9 : List UInt8 := [180, 0, 30, 4, 96, 181, 0, 30, 177]
abbrev dktX6_next_9 : List UInt8 := dkwX6_next_9 ++ []
def dkwX6_next_8 : List UInt8 := [182, 0, 40, 182, 0, 158, 153, 0, 10, 42, 182, 0, 40, 167, 0, 4, 4, 181, 0, 134, 42, 89]
abbrev dktX6_next_8 : List UInt8 := dkwX6_next_8 ++ dktX6_next_9
def dkwX6_next_7 : List UInt8 := [180, 0, 48, 100, 8, 162, 0, 7, 5, 167, 0, 4, 4, 181, 0, 134, 167, 0, 36, 42, 42, 42]
abbrev dktX6_next_7 : List UInt8 := dkwX6_next_7 ++ dktX6_next_8
def dkwX6_next_6 : List UInt8 := [181, 0, 142, 42, 89, 180, 0, 30, 4, 96, 181, 0, 30, 167, 255, 207, 42, 42, 180, 0, 30, 42]
abbrev dktX6_next_6 : List UInt8 := dkwX6_next_6 ++ dktX6_next_7
def dkwX6_next_5 : List UInt8 := [180, 0, 48, 7, 96, 162, 0, 22, 42, 16, 10, 42, 180, 0, 142, 104, 42, 182, 0, 40, 96, 16, 48, 100]
abbrev dktX6_next_5 : List UInt8 := dkwX6_next_5 ++ dktX6_next_6
def dkwX6_next_4 : List UInt8 := [182, 0, 155, 153, 0, 85, 42, 3, 181, 0, 142, 42, 182, 0, 155, 153, 0, 48, 42, 180, 0, 30, 42]
abbrev dktX6_next_4 : List UInt8 := dkwX6_next_4 ++ dktX6_next_5
def dkwX6_next_3 : List UInt8 := [180, 0, 30, 4, 96, 181, 0, 30, 167, 255, 239, 42, 42, 182, 0, 152, 181, 0, 134, 167, 0, 125, 42]
abbrev dktX6_next_3 : List UInt8 := dkwX6_next_3 ++ dktX6_next_4
def dkwX6_next_2 : List UInt8 := [3, 181, 0, 134, 167, 0, 163, 42, 182, 0, 148, 153, 0, 34, 42, 182, 0, 148, 153, 0, 16, 42, 89]
abbrev dktX6_next_2 : List UInt8 := dkwX6_next_2 ++ dktX6_next_3
def dkwX6_next_1 : List UInt8 := [96, 181, 0, 30, 167, 255, 228, 42, 42, 180, 0, 30, 181, 0, 48, 42, 182, 0, 40, 2, 160, 0, 11, 42]
abbrev dktX6_next_1 : List UInt8 := dkwX6_next_1 ++ dktX6_next_2
def dkwX6_next_0 : List UInt8 := [42, 182, 0, 40, 16, 32, 159, 0, 12, 42, 182, 0, 40, 16, 10, 160, 0, 16, 42, 89, 180, 0, 30, 4]
abbrev dktX6_next_0 : List UInt8 := dkwX6_next_0 ++ dktX6_next_1
theorem dksX6_next_0 : cX6_next.data.toList.drop 0 = dktX6_next_0 := by decide +kernel
theorem dksX6_next_1 : cX6_next.data.toList.drop 24 = dktX6_next_1 := dk_seg dksX6_next_0 24 rfl rfl
theorem dksX6_next_2 : cX6_next.data.toList.drop 48 = dktX6_next_2 := dk_seg dksX6_next_1 24 rfl rfl
theorem dksX6_next_3 : cX6_next.data.toList.drop 71 = dktX6_next_3 := dk_seg dksX6_next_2 23 rfl rfl
theorem dksX6_next_4 : cX6_next.data.toList.drop 94 = dktX6_next_4 := dk_seg dksX6_next_3 23 rfl rfl
theorem dksX6_next_5 : cX6_next.data.toList.drop 117 = dktX6_next_5 := dk_seg dksX6_next_4 23 rfl rfl
theorem dksX6_next_6 : cX6_next.data.toList.drop 141 = dktX6_next_6 := dk_seg dksX6_next_5 24 rfl rfl
theorem dksX6_next_7 : cX6_next.data.toList.drop 163 = dktX6_next_7 := dk_seg dksX6_next_6 22 rfl rfl
theorem dksX6_next_8 : cX6_next.data.toList.drop 185 = dktX6_next_8 := dk_seg dksX6_next_7 22 rfl rfl
theorem dksX6_next_9 : cX6_next.data.toList.drop 207 = dktX6_next_9 := dk_seg dksX6_next_8 22 rfl rfl
theorem dX6_next_0 : decode cX6_next 0 = .ok (.aload_n 0, 1) := dk_42 (dk_at dksX6_next_0 0 rfl rfl)
theorem dX6_next_1 : decode cX6_next 1 = .ok (.invokevirtual 40, 3) := dk_182 0 40 (dk_at dksX6_next_0 1 rfl rfl)
theorem dX6_next_4 : decode cX6_next 4 = .ok (.bipush 32, 2) := dk_16 32 (dk_at dksX6_next_0 4 rfl rfl)
theorem dX6_next_6 : decode cX6_next 6 = .ok (.if_icmp .eq 12, 3) := dk_159 0 12 (dk_at dksX6_next_0 6 rfl rfl)
theorem dX6_next_9 : decode cX6_next 9 = .ok (.aload_n 0, 1) := dk_42 (dk_at dksX6_next_0 9 rfl rfl)
theorem dX6_next_10 : decode cX6_next 10 = .ok (.invokevirtual 40, 3) := dk_182 0 40 (dk_at dksX6_next_0 10 rfl rfl)
theorem dX6_next_13 : decode cX6_next 13 = .ok (.bipush 10, 2) := dk_16 10 (dk_at dksX6_next_0 13 rfl rfl)
theorem dX6_next_15 : decode cX6_next 15 = .ok (.if_icmp .ne 16, 3) := dk_160 0 16 (dk_at dksX6_next_0 15 rfl rfl)
theorem dX6_next_18 : decode cX6_next 18 = .ok (.aload_n 0, 1) := dk_42 (dk_at dksX6_next_0 18 rfl rfl)
theorem dX6_next_19 : decode cX6_next 19 = .ok (.dup, 1) := dk_89 (dk_at dksX6_next_0 19 rfl rfl)
theorem dX6_next_20 : decode cX6_next 20 = .ok (.getfield 30, 3) := dk_180 0 30 (dk_at dksX6_next_0 20 rfl rfl)
theorem dX6_next_23 : decode cX6_next 23 = .ok (.iconst 1, 1) := dk_4 (dk_at dksX6_next_0 23 rfl rfl)
theorem dX6_next_24 : decode cX6_next 24 = .ok (.iadd, 1) := dk_96 (dk_at dksX6_next_1 0 rfl rfl)
theorem dX6_next_25 : decode cX6_next 25 = .ok (.putfield 30, 3) := dk_181 0 30 (dk_at dksX6_next_1 1 rfl rfl)
theorem dX6_next_28 : decode cX6_next 28 = .ok (.goto (-28), 3) := dk_167 255 228 (dk_at dksX6_next_1 4 rfl rfl)
theorem dX6_next_31 : decode cX6_next 31 = .ok (.aload_n 0, 1) := dk_42 (dk_at dksX6_next_1 7 rfl rfl)
theorem dX6_next_32 : decode cX6_next 32 = .ok (.aload_n 0, 1) := dk_42 (dk_at dksX6_next_1 8 rfl rfl)
theorem dX6_next_33 : decode cX6_next 33 = .ok (.getfield 30, 3) := dk_180 0 30 (dk_at dksX6_next_1 9 rfl rfl)
theorem dX6_next_36 : decode cX6_next 36 = .ok (.putfield 48, 3) := dk_181 0 48 (dk_at dksX6_next_1 12 rfl rfl)
theorem dX6_next_39 : decode cX6_next 39 = .ok (.aload_n 0, 1) := dk_42 (dk_at dksX6_next_1 15 rfl rfl)
theorem dX6_next_40 : decode cX6_next 40 = .ok (.invokevirtual 40, 3) := dk_182 0 40 (dk_at dksX6_next_1 16 rfl rfl)
theorem dX6_next_43 : decode cX6_next 43 = .ok (.iconst (-1), 1) := dk_2 (dk_at dksX6_next_1 19 rfl rfl)
theorem dX6_next_44 : decode cX6_next 44 = .ok (.if_icmp .ne 11, 3) := dk_160 0 11 (dk_at dksX6_next_1 20 rfl rfl)
theorem dX6_next_47 : decode cX6_next 47 = .ok (.aload_n 0, 1) := dk_42 (dk_at dksX6_next_1 23 rfl rfl)
theorem dX6_next_48 : decode cX6_next 48 = .ok (.iconst 0, 1) := dk_3 (dk_at dksX6_next_2 0 rfl rfl)
theorem dX6_next_49 : decode cX6_next 49 = .ok (.putfield 134, 3) := dk_181 0 134 (dk_at dksX6_next_2 1 rfl rfl)
theorem dX6_next_52 : decode cX6_next 52 = .ok (.goto 163, 3) := dk_167 0 163 (dk_at dksX6_next_2 4 rfl rfl)
theorem dX6_next_55 : decode cX6_next 55 = .ok (.aload_n 0, 1) := dk_42 (dk_at dksX6_next_2 7 rfl rfl)
theorem dX6_next_56 : decode cX6_next 56 = .ok (.invokevirtual 148, 3) := dk_182 0 148 (dk_at dksX6_next_2 8 rfl rfl)
theorem dX6_next_59 : decode cX6_next 59 = .ok (.ifCond .eq 34, 3) := dk_153 0 34 (dk_at dksX6_next_2 11 rfl rfl)
theorem dX6_next_62 : decode cX6_next 62 = .ok (.aload_n 0, 1) := dk_42 (dk_at dksX6_next_2 14 rfl rfl)
theorem dX6_next_63 : decode cX6_next 63 = .ok (.invokevirtual 148, 3) := dk_182 0 148 (dk_at dksX6_next_2 15 rfl rfl)
theorem dX6_next_66 : decode cX6_next 66 = .ok (.ifCond .eq 16, 3) := dk_153 0 16 (dk_at dksX6_next_2 18 rfl rfl)
theorem dX6_next_69 : decode cX6_next 69 = .ok (.aload_n 0, 1) := dk_42 (dk_at dksX6_next_2 21 rfl rfl)
theorem dX6_next_70 : decode cX6_next 70 = .ok (.dup, 1) := dk_89 (dk_at dksX6_next_2 22 rfl rfl)
theorem dX6_next_71 : decode cX6_next 71 = .ok (.getfield 30, 3) := dk_180 0 30 (dk_at dksX6_next_3 0 rfl rfl)
theorem dX6_next_74 : decode cX6_next 74 = .ok (.iconst 1, 1) := dk_4 (dk_at dksX6_next_3 3 rfl rfl)
theorem dX6_next_75 : decode cX6_next 75 = .ok (.iadd, 1) := dk_96 (dk_at dksX6_next_3 4 rfl rfl)
theorem dX6_next_76 : decode cX6_next 76 = .ok (.putfield 30, 3) := dk_181 0 30 (dk_at dksX6_next_3 5 rfl rfl)
theorem dX6_next_79 : decode cX6_next 79 = .ok (.goto (-17), 3) := dk_167 255 239 (dk_at dksX6_next_3 8 rfl rfl)
theorem dX6_next_82 : decode cX6_next 82 = .ok (.aload_n 0, 1) := dk_42 (dk_at dksX6_next_3 11 rfl rfl)
theorem dX6_next_83 : decode cX6_next 83 = .ok (.aload_n 0, 1) := dk_42 (dk_at dksX6_next_3 12 rfl rfl)
theorem dX6_next_84 : decode cX6_next 84 = .ok (.invokevirtual 152, 3) := dk_182 0 152 (dk_at dksX6_next_3 13 rfl rfl)
theorem dX6_next_87 : decode cX6_next 87 = .ok (.putfield 134, 3) := dk_181 0 134 (dk_at dksX6_next_3 16 rfl rfl)
theorem dX6_next_90 : decode cX6_next 90 = .ok (.goto 125, 3) := dk_167 0 125 (dk_at dksX6_next_3 19 rfl rfl)
theorem dX6_next_93 : decode cX6_next 93 = .ok (.aload_n 0, 1) := dk_42 (dk_at dksX6_next_3 22 rfl rfl)
theorem dX6_next_94 : decode cX6_next 94 = .ok (.invokevirtual 155, 3) := dk_182 0 155 (dk_at dksX6_next_4 0 rfl rfl)
theorem dX6_next_97 : decode cX6_next 97 = .ok (.ifCond .eq 85, 3) := dk_153 0 85 (dk_at dksX6_next_4 3 rfl rfl)
theorem dX6_next_100 : decode cX6_next 100 = .ok (.aload_n 0, 1) := dk_42 (dk_at dksX6_next_4 6 rfl rfl)
theorem dX6_next_101 : decode cX6_next 101 = .ok (.iconst 0, 1) := dk_3 (dk_at dksX6_next_4 7 rfl rfl)
theorem dX6_next_102 : decode cX6_next 102 = .ok (.putfield 142, 3) := dk_181 0 142 (dk_at dksX6_next_4 8 rfl rfl)
theorem dX6_next_105 : decode cX6_next 105 = .ok (.aload_n 0, 1) := dk_42 (dk_at dksX6_next_4 11 rfl rfl)
theorem dX6_next_106 : decode cX6_next 106 = .ok (.invokevirtual 155, 3) := dk_182 0 155 (dk_at dksX6_next_4 12 rfl rfl)
theorem dX6_next_109 : decode cX6_next 109 = .ok (.ifCond .eq 48, 3) := dk_153 0 48 (dk_at dksX6_next_4 15 rfl rfl)
theorem dX6_next_112 : decode cX6_next 112 = .ok (.aload_n 0, 1) := dk_42 (dk_at dksX6_next_4 18 rfl rfl)
theorem dX6_next_113 : decode cX6_next 113 = .ok (.getfield 30, 3) := dk_180 0 30 (dk_at dksX6_next_4 19 rfl rfl)
theorem dX6_next_116 : decode cX6_next 116 = .ok (.aload_n 0, 1) := dk_42 (dk_at dksX6_next_4 22 rfl rfl)
theorem dX6_next_117 : decode cX6_next 117 = .ok (.getfield 48, 3) := dk_180 0 48 (dk_at dksX6_next_5 0 rfl rfl)
theorem dX6_next_120 : decode cX6_next 120 = .ok (.iconst 4, 1) := dk_7 (dk_at dksX6_next_5 3 rfl rfl)
theorem dX6_next_121 : decode cX6_next 121 = .ok (.iadd, 1) := dk_96 (dk_at dksX6_next_5 4 rfl rfl)
theorem dX6_next_122 : decode cX6_next 122 = .ok (.if_icmp .ge 22, 3) := dk_162 0 22 (dk_at dksX6_next_5 5 rfl rfl)
theorem dX6_next_125 : decode cX6_next 125 = .ok (.aload_n 0, 1) := dk_42 (dk_at dksX6_next_5 8 rfl rfl)
theorem dX6_next_126 : decode cX6_next 126 = .ok (.bipush 10, 2) := dk_16 10 (dk_at dksX6_next_5 9 rfl rfl)
theorem dX6_next_128 : decode cX6_next 128 = .ok (.aload_n 0, 1) := dk_42 (dk_at dksX6_next_5 11 rfl rfl)
theorem dX6_next_129 : decode cX6_next 129 = .ok (.getfield 142, 3) := dk_180 0 142 (dk_at dksX6_next_5 12 rfl rfl)
theorem dX6_next_132 : decode cX6_next 132 = .ok (.imul, 1) := dk_104 (dk_at dksX6_next_5 15 rfl rfl)
theorem dX6_next_133 : decode cX6_next 133 = .ok (.aload_n 0, 1) := dk_42 (dk_at dksX6_next_5 16 rfl rfl)
theorem dX6_next_134 : decode cX6_next 134 = .ok (.invokevirtual 40, 3) := dk_182 0 40 (dk_at dksX6_next_5 17 rfl rfl)
theorem dX6_next_137 : decode cX6_next 137 = .ok (.iadd, 1) := dk_96 (dk_at dksX6_next_5 20 rfl rfl)
theorem dX6_next_138 : decode cX6_next 138 = .ok (.bipush 48, 2) := dk_16 48 (dk_at dksX6_next_5 21 rfl rfl)
theorem dX6_next_140 : decode cX6_next 140 = .ok (.isub, 1) := dk_100 (dk_at dksX6_next_5 23 rfl rfl)
theorem dX6_next_141 : decode cX6_next 141 = .ok (.putfield 142, 3) := dk_181 0 142 (dk_at dksX6_next_6 0 rfl rfl)
theorem dX6_next_144 : decode cX6_next 144 = .ok (.aload_n 0, 1) := dk_42 (dk_at dksX6_next_6 3 rfl rfl)
theorem dX6_next_145 : decode cX6_next 145 = .ok (.dup, 1) := dk_89 (dk_at dksX6_next_6 4 rfl rfl)
theorem dX6_next_146 : decode cX6_next 146 = .ok (.getfield 30, 3) := dk_180 0 30 (dk_at dksX6_next_6 5 rfl rfl)
theorem dX6_next_149 : decode cX6_next 149 = .ok (.iconst 1, 1) := dk_4 (dk_at dksX6_next_6 8 rfl rfl)
theorem dX6_next_150 : decode cX6_next 150 = .ok (.iadd, 1) := dk_96 (dk_at dksX6_next_6 9 rfl rfl)
theorem dX6_next_151 : decode cX6_next 151 = .ok (.putfield 30, 3) := dk_181 0 30 (dk_at dksX6_next_6 10 rfl rfl)
theorem dX6_next_154 : decode cX6_next 154 = .ok (.goto (-49), 3) := dk_167 255 207 (dk_at dksX6_next_6 13 rfl rfl)
theorem dX6_next_157 : decode cX6_next 157 = .ok (.aload_n 0, 1) := dk_42 (dk_at dksX6_next_6 16 rfl rfl)
theorem dX6_next_158 : decode cX6_next 158 = .ok (.aload_n 0, 1) := dk_42 (dk_at dksX6_next_6 17 rfl rfl)
theorem dX6_next_159 : decode cX6_next 159 = .ok (.getfield 30, 3) := dk_180 0 30 (dk_at dksX6_next_6 18 rfl rfl)
theorem dX6_next_162 : decode cX6_next 162 = .ok (.aload_n 0, 1) := dk_42 (dk_at dksX6_next_6 21 rfl rfl)
theorem dX6_next_163 : decode cX6_next 163 = .ok (.getfield 48, 3) := dk_180 0 48 (dk_at dksX6_next_7 0 rfl rfl)
theorem dX6_next_166 : decode cX6_next 166 = .ok (.isub, 1) := dk_100 (dk_at dksX6_next_7 3 rfl rfl)
theorem dX6_next_167 : decode cX6_next 167 = .ok (.iconst 5, 1) := dk_8 (dk_at dksX6_next_7 4 rfl rfl)
theorem dX6_next_168 : decode cX6_next 168 = .ok (.if_icmp .ge 7, 3) := dk_162 0 7 (dk_at dksX6_next_7 5 rfl rfl)
theorem dX6_next_171 : decode cX6_next 171 = .ok (.iconst 2, 1) := dk_5 (dk_at dksX6_next_7 8 rfl rfl)
theorem dX6_next_172 : decode cX6_next 172 = .ok (.goto 4, 3) := dk_167 0 4 (dk_at dksX6_next_7 9 rfl rfl)
theorem dX6_next_175 : decode cX6_next 175 = .ok (.iconst 1, 1) := dk_4 (dk_at dksX6_next_7 12 rfl rfl)
theorem dX6_next_176 : decode cX6_next 176 = .ok (.putfield 134, 3) := dk_181 0 134 (dk_at dksX6_next_7 13 rfl rfl)
theorem dX6_next_179 : decode cX6_next 179 = .ok (.goto 36, 3) := dk_167 0 36 (dk_at dksX6_next_7 16 rfl rfl)
theorem dX6_next_182 : decode cX6_next 182 = .ok (.aload_n 0, 1) := dk_42 (dk_at dksX6_next_7 19 rfl rfl)
theorem dX6_next_183 : decode cX6_next 183 = .ok (.aload_n 0, 1) := dk_42 (dk_at dksX6_next_7 20 rfl rfl)
theorem dX6_next_184 : decode cX6_next 184 = .ok (.aload_n 0, 1) := dk_42 (dk_at dksX6_next_7 21 rfl rfl)
theorem dX6_next_185 : decode cX6_next 185 = .ok (.invokevirtual 40, 3) := dk_182 0 40 (dk_at dksX6_next_8 0 rfl rfl)
theorem dX6_next_188 : decode cX6_next 188 = .ok (.invokevirtual 158, 3) := dk_182 0 158 (dk_at dksX6_next_8 3 rfl rfl)
theorem dX6_next_191 : decode cX6_next 191 = .ok (.ifCond .eq 10, 3) := dk_153 0 10 (dk_at dksX6_next_8 6 rfl rfl)
theorem dX6_next_194 : decode cX6_next 194 = .ok (.aload_n 0, 1) := dk_42 (dk_at dksX6_next_8 9 rfl rfl)
theorem dX6_next_195 : decode cX6_next 195 = .ok (.invokevirtual 40, 3) := dk_182 0 40 (dk_at dksX6_next_8 10 rfl rfl)
theorem dX6_next_198 : decode cX6_next 198 = .ok (.goto 4, 3) := dk_167 0 4 (dk_at dksX6_next_8 13 rfl rfl)
theorem dX6_next_201 : decode cX6_next 201 = .ok (.iconst 1, 1) := dk_4 (dk_at dksX6_next_8 16 rfl rfl)
theorem dX6_next_202 : decode cX6_next 202 = .ok (.putfield 134, 3) := dk_181 0 134 (dk_at dksX6_next_8 17 rfl rfl)
theorem dX6_next_205 : decode cX6_next 205 = .ok (.aload_n 0, 1) := dk_42 (dk_at dksX6_next_8 20 rfl rfl)
theorem dX6_next_206 : decode cX6_next 206 = .ok (.dup, 1) := dk_89 (dk_at dksX6_next_8 21 rfl rfl)
theorem dX6_next_207 : decode cX6_next 207 = .ok (.getfield 30, 3) := dk_180 0 30 (dk_at dksX6_next_9 0 rfl rfl)
theorem dX6_next_210 : decode cX6_next 210 = .ok (.iconst 1, 1) := dk_4 (dk_at dksX6_next_9 3 rfl rfl)
theorem dX6_next_211 : decode cX6_next 211 = .ok (.iadd, 1) := dk_96 (dk_at dksX6_next_9 4 rfl rfl)
theorem dX6_next_212 : decode cX6_next 212 = .ok (.putfield 30, 3) := dk_181 0 30 (dk_at dksX6_next_9 5 rfl rfl)
theorem dX6_next_215 : decode cX6_next 215 = .ok (.return_, 1) := dk_177 (dk_at dksX6_next_9 8 rfl rfl)
abbrev cX6_see : ByteArray := prog_9_method_2_code
def yX6_see : MethodName := ⟨RX6, "see", "()I"⟩
def dkwX6_see_1 : List UInt8 := [180, 0, 30, 51, 17, 0, 255, 126, 167, 0, 4, 2, 172]
abbrev dktX6_see_1 : List UInt8 := dkwX6_see_1 ++ []
def dkwX6_see_0 : List UInt8 := [42, 180, 0, 30, 42, 180, 0, 3, 180, 0, 33, 162, 0, 22, 42, 180, 0, 3, 180, 0, 36, 42]
abbrev dktX6_see_0 : List UInt8 := dkwX6_see_0 ++ dktX6_see_1
theorem dksX6_see_0 : cX6_see.data.toList.drop 0 = dktX6_see_0 := by decide +kernel
theorem dksX6_see_1 : cX6_see.data.toList.drop 22 = dktX6_see_1 := dk_seg dksX6_see_0 22 rfl rfl
theorem dX6_see_0 : decode cX6_see 0 = .ok (.aload_n 0, 1) := dk_42 (dk_at dksX6_see_0 0 rfl rfl)
theorem dX6_see_1 : decode cX6_see 1 = .ok (.getfield 30, 3) := dk_180 0 30 (dk_at dksX6_see_0 1 rfl rfl)
theorem dX6_see_4 : decode cX6_see 4 = .ok (.aload_n 0, 1) := dk_42 (dk_at dksX6_see_0 4 rfl rfl)
theorem dX6_see_5 : decode cX6_see 5 = .ok (.getfield 3, 3) := dk_180 0 3 (dk_at dksX6_see_0 5 rfl rfl)
theorem dX6_see_8 : decode cX6_see 8 = .ok (.getfield 33, 3) := dk_180 0 33 (dk_at dksX6_see_0 8 rfl rfl)
theorem dX6_see_11 : decode cX6_see 11 = .ok (.if_icmp .ge 22, 3) := dk_162 0 22 (dk_at dksX6_see_0 11 rfl rfl)
theorem dX6_see_14 : decode cX6_see 14 = .ok (.aload_n 0, 1) := dk_42 (dk_at dksX6_see_0 14 rfl rfl)
theorem dX6_see_15 : decode cX6_see 15 = .ok (.getfield 3, 3) := dk_180 0 3 (dk_at dksX6_see_0 15 rfl rfl)
theorem dX6_see_18 : decode cX6_see 18 = .ok (.getfield 36, 3) := dk_180 0 36 (dk_at dksX6_see_0 18 rfl rfl)
theorem dX6_see_21 : decode cX6_see 21 = .ok (.aload_n 0, 1) := dk_42 (dk_at dksX6_see_0 21 rfl rfl)
theorem dX6_see_22 : decode cX6_see 22 = .ok (.getfield 30, 3) := dk_180 0 30 (dk_at dksX6_see_1 0 rfl rfl)
theorem dX6_see_25 : decode cX6_see 25 = .ok (.baload, 1) := dk_51 (dk_at dksX6_see_1 3 rfl rfl)
theorem dX6_see_26 : decode cX6_see 26 = .ok (.sipush 255, 3) := dk_17 0 255 (dk_at dksX6_see_1 4 rfl rfl)
theorem dX6_see_29 : decode cX6_see 29 = .ok (.iand, 1) := dk_126 (dk_at dksX6_see_1 7 rfl rfl)
theorem dX6_see_30 : decode cX6_see 30 = .ok (.goto 4, 3) := dk_167 0 4 (dk_at dksX6_see_1 8 rfl rfl)
theorem dX6_see_33 : decode cX6_see 33 = .ok (.iconst (-1), 1) := dk_2 (dk_at dksX6_see_1 11 rfl rfl)
theorem dX6_see_34 : decode cX6_see 34 = .ok (.ireturn, 1) := dk_172 (dk_at dksX6_see_1 12 rfl rfl)
abbrev cX6_isLetter : ByteArray := prog_9_method_3_code
def yX6_isLetter : MethodName := ⟨RX6, "isLetter", "()Z"⟩
def dkwX6_isLetter_1 : List UInt8 := [184, 0, 44, 153, 0, 7, 4, 167, 0, 4, 3, 172]
abbrev dktX6_isLetter_1 : List UInt8 := dkwX6_isLetter_1 ++ []
def dkwX6_isLetter_0 : List UInt8 := [42, 182, 0, 40, 16, 97, 16, 122, 184, 0, 44, 154, 0, 17, 42, 182, 0, 40, 16, 65, 16, 90]
abbrev dktX6_isLetter_0 : List UInt8 := dkwX6_isLetter_0 ++ dktX6_isLetter_1
theorem dksX6_isLetter_0 : cX6_isLetter.data.toList.drop 0 = dktX6_isLetter_0 := by decide +kernel
theorem dksX6_isLetter_1 : cX6_isLetter.data.toList.drop 22 = dktX6_isLetter_1 := dk_seg dksX6_isLetter_0 22 rfl rfl
theorem dX6_isLetter_0 : decode cX6_isLetter 0 = .ok (.aload_n 0, 1) := dk_42 (dk_at dksX6_isLetter_0 0 rfl rfl)
theorem dX6_isLetter_1 : decode cX6_isLetter 1 = .ok (.invokevirtual 40, 3) := dk_182 0 40 (dk_at dksX6_isLetter_0 1 rfl rfl)
theorem dX6_isLetter_4 : decode cX6_isLetter 4 = .ok (.bipush 97, 2) := dk_16 97 (dk_at dksX6_isLetter_0 4 rfl rfl)
theorem dX6_isLetter_6 : decode cX6_isLetter 6 = .ok (.bipush 122, 2) := dk_16 122 (dk_at dksX6_isLetter_0 6 rfl rfl)
theorem dX6_isLetter_8 : decode cX6_isLetter 8 = .ok (.invokestatic 44, 3) := dk_184 0 44 (dk_at dksX6_isLetter_0 8 rfl rfl)
theorem dX6_isLetter_11 : decode cX6_isLetter 11 = .ok (.ifCond .ne 17, 3) := dk_154 0 17 (dk_at dksX6_isLetter_0 11 rfl rfl)
theorem dX6_isLetter_14 : decode cX6_isLetter 14 = .ok (.aload_n 0, 1) := dk_42 (dk_at dksX6_isLetter_0 14 rfl rfl)
theorem dX6_isLetter_15 : decode cX6_isLetter 15 = .ok (.invokevirtual 40, 3) := dk_182 0 40 (dk_at dksX6_isLetter_0 15 rfl rfl)
theorem dX6_isLetter_18 : decode cX6_isLetter 18 = .ok (.bipush 65, 2) := dk_16 65 (dk_at dksX6_isLetter_0 18 rfl rfl)
theorem dX6_isLetter_20 : decode cX6_isLetter 20 = .ok (.bipush 90, 2) := dk_16 90 (dk_at dksX6_isLetter_0 20 rfl rfl)
theorem dX6_isLetter_22 : decode cX6_isLetter 22 = .ok (.invokestatic 44, 3) := dk_184 0 44 (dk_at dksX6_isLetter_1 0 rfl rfl)
theorem dX6_isLetter_25 : decode cX6_isLetter 25 = .ok (.ifCond .eq 7, 3) := dk_153 0 7 (dk_at dksX6_isLetter_1 3 rfl rfl)
theorem dX6_isLetter_28 : decode cX6_isLetter 28 = .ok (.iconst 1, 1) := dk_4 (dk_at dksX6_isLetter_1 6 rfl rfl)
theorem dX6_isLetter_29 : decode cX6_isLetter 29 = .ok (.goto 4, 3) := dk_167 0 4 (dk_at dksX6_isLetter_1 7 rfl rfl)
theorem dX6_isLetter_32 : decode cX6_isLetter 32 = .ok (.iconst 0, 1) := dk_3 (dk_at dksX6_isLetter_1 10 rfl rfl)
theorem dX6_isLetter_33 : decode cX6_isLetter 33 = .ok (.ireturn, 1) := dk_172 (dk_at dksX6_isLetter_1 11 rfl rfl)
abbrev cX6_keyword : ByteArray := prog_9_method_10_code
def yX6_keyword : MethodName := ⟨RX6, "keyword", "()I"⟩
def dkwX6_keyword_4 : List UInt8 := [182, 0, 62, 153, 0, 8, 16, 23, 167, 0, 4, 4, 172]
abbrev dktX6_keyword_4 : List UInt8 := dkwX6_keyword_4 ++ []
def dkwX6_keyword_3 : List UInt8 := [16, 21, 167, 0, 32, 42, 18, 80, 182, 0, 62, 153, 0, 8, 16, 22, 167, 0, 18, 42, 18, 132]
abbrev dktX6_keyword_3 : List UInt8 := dkwX6_keyword_3 ++ dktX6_keyword_4
def dkwX6_keyword_2 : List UInt8 := [42, 182, 0, 121, 172, 42, 182, 0, 124, 172, 42, 182, 0, 127, 172, 42, 18, 130, 182, 0, 62, 153, 0, 8]
abbrev dktX6_keyword_2 : List UInt8 := dkwX6_keyword_2 ++ dktX6_keyword_3
def dkwX6_keyword_1 : List UInt8 := [170, 0, 0, 0, 0, 0, 0, 43, 0, 0, 0, 0, 0, 0, 0, 2, 0, 0, 0, 28, 0, 0, 0, 33, 0, 0, 0, 38]
abbrev dktX6_keyword_1 : List UInt8 := dkwX6_keyword_1 ++ dktX6_keyword_2
def dkwX6_keyword_0 : List UInt8 := [42, 180, 0, 26]
abbrev dktX6_keyword_0 : List UInt8 := dkwX6_keyword_0 ++ dktX6_keyword_1
theorem dksX6_keyword_0 : cX6_keyword.data.toList.drop 0 = dktX6_keyword_0 := by decide +kernel
theorem dksX6_keyword_1 : cX6_keyword.data.toList.drop 4 = dktX6_keyword_1 := dk_seg dksX6_keyword_0 4 rfl rfl
theorem dksX6_keyword_2 : cX6_keyword.data.toList.drop 32 = dktX6_keyword_2 := dk_seg dksX6_keyword_1 28 rfl rfl
theorem dksX6_keyword_3 : cX6_keyword.data.toList.drop 56 = dktX6_keyword_3 := dk_seg dksX6_keyword_2 24 rfl rfl
theorem dksX6_keyword_4 : cX6_keyword.data.toList.drop 78 = dktX6_keyword_4 := dk_seg dksX6_keyword_3 22 rfl rfl
theorem dX6_keyword_0 : decode cX6_keyword 0 = .ok (.aload_n 0, 1) := dk_42 (dk_at dksX6_keyword_0 0 rfl rfl)
theorem dX6_keyword_1 : decode cX6_keyword 1 = .ok (.getfield 26, 3) := dk_180 0 26 (dk_at dksX6_keyword_0 1 rfl rfl)
theorem dX6_keyword_4 : decode cX6_keyword 4 = .ok (.tableswitch 43 0 2 #[28, 33, 38], 28) := by decide +kernel
theorem dX6_keyword_32 : decode cX6_keyword 32 = .ok (.aload_n 0, 1) := dk_42 (dk_at dksX6_keyword_2 0 rfl rfl)
theorem dX6_keyword_33 : decode cX6_keyword 33 = .ok (.invokevirtual 121, 3) := dk_182 0 121 (dk_at dksX6_keyword_2 1 rfl rfl)
theorem dX6_keyword_36 : decode cX6_keyword 36 = .ok (.ireturn, 1) := dk_172 (dk_at dksX6_keyword_2 4 rfl rfl)
theorem dX6_keyword_37 : decode cX6_keyword 37 = .ok (.aload_n 0, 1) := dk_42 (dk_at dksX6_keyword_2 5 rfl rfl)
theorem dX6_keyword_38 : decode cX6_keyword 38 = .ok (.invokevirtual 124, 3) := dk_182 0 124 (dk_at dksX6_keyword_2 6 rfl rfl)
theorem dX6_keyword_41 : decode cX6_keyword 41 = .ok (.ireturn, 1) := dk_172 (dk_at dksX6_keyword_2 9 rfl rfl)
theorem dX6_keyword_42 : decode cX6_keyword 42 = .ok (.aload_n 0, 1) := dk_42 (dk_at dksX6_keyword_2 10 rfl rfl)
theorem dX6_keyword_43 : decode cX6_keyword 43 = .ok (.invokevirtual 127, 3) := dk_182 0 127 (dk_at dksX6_keyword_2 11 rfl rfl)
theorem dX6_keyword_46 : decode cX6_keyword 46 = .ok (.ireturn, 1) := dk_172 (dk_at dksX6_keyword_2 14 rfl rfl)
theorem dX6_keyword_47 : decode cX6_keyword 47 = .ok (.aload_n 0, 1) := dk_42 (dk_at dksX6_keyword_2 15 rfl rfl)
theorem dX6_keyword_48 : decode cX6_keyword 48 = .ok (.ldc 130, 2) := dk_18 130 (dk_at dksX6_keyword_2 16 rfl rfl)
theorem dX6_keyword_50 : decode cX6_keyword 50 = .ok (.invokevirtual 62, 3) := dk_182 0 62 (dk_at dksX6_keyword_2 18 rfl rfl)
theorem dX6_keyword_53 : decode cX6_keyword 53 = .ok (.ifCond .eq 8, 3) := dk_153 0 8 (dk_at dksX6_keyword_2 21 rfl rfl)
theorem dX6_keyword_56 : decode cX6_keyword 56 = .ok (.bipush 21, 2) := dk_16 21 (dk_at dksX6_keyword_3 0 rfl rfl)
theorem dX6_keyword_58 : decode cX6_keyword 58 = .ok (.goto 32, 3) := dk_167 0 32 (dk_at dksX6_keyword_3 2 rfl rfl)
theorem dX6_keyword_61 : decode cX6_keyword 61 = .ok (.aload_n 0, 1) := dk_42 (dk_at dksX6_keyword_3 5 rfl rfl)
theorem dX6_keyword_62 : decode cX6_keyword 62 = .ok (.ldc 80, 2) := dk_18 80 (dk_at dksX6_keyword_3 6 rfl rfl)
theorem dX6_keyword_64 : decode cX6_keyword 64 = .ok (.invokevirtual 62, 3) := dk_182 0 62 (dk_at dksX6_keyword_3 8 rfl rfl)
theorem dX6_keyword_67 : decode cX6_keyword 67 = .ok (.ifCond .eq 8, 3) := dk_153 0 8 (dk_at dksX6_keyword_3 11 rfl rfl)
theorem dX6_keyword_70 : decode cX6_keyword 70 = .ok (.bipush 22, 2) := dk_16 22 (dk_at dksX6_keyword_3 14 rfl rfl)
theorem dX6_keyword_72 : decode cX6_keyword 72 = .ok (.goto 18, 3) := dk_167 0 18 (dk_at dksX6_keyword_3 16 rfl rfl)
theorem dX6_keyword_75 : decode cX6_keyword 75 = .ok (.aload_n 0, 1) := dk_42 (dk_at dksX6_keyword_3 19 rfl rfl)
theorem dX6_keyword_76 : decode cX6_keyword 76 = .ok (.ldc 132, 2) := dk_18 132 (dk_at dksX6_keyword_3 20 rfl rfl)
theorem dX6_keyword_78 : decode cX6_keyword 78 = .ok (.invokevirtual 62, 3) := dk_182 0 62 (dk_at dksX6_keyword_4 0 rfl rfl)
theorem dX6_keyword_81 : decode cX6_keyword 81 = .ok (.ifCond .eq 8, 3) := dk_153 0 8 (dk_at dksX6_keyword_4 3 rfl rfl)
theorem dX6_keyword_84 : decode cX6_keyword 84 = .ok (.bipush 23, 2) := dk_16 23 (dk_at dksX6_keyword_4 6 rfl rfl)
theorem dX6_keyword_86 : decode cX6_keyword 86 = .ok (.goto 4, 3) := dk_167 0 4 (dk_at dksX6_keyword_4 8 rfl rfl)
theorem dX6_keyword_89 : decode cX6_keyword 89 = .ok (.iconst 1, 1) := dk_4 (dk_at dksX6_keyword_4 11 rfl rfl)
theorem dX6_keyword_90 : decode cX6_keyword 90 = .ok (.ireturn, 1) := dk_172 (dk_at dksX6_keyword_4 12 rfl rfl)
abbrev cX6_lawWord : ByteArray := prog_9_method_7_code
def yX6_lawWord : MethodName := ⟨RX6, "lawWord", "()I"⟩
def dkwX6_lawWord_3 : List UInt8 := [18, 96, 182, 0, 62, 153, 0, 8, 16, 9, 167, 0, 7, 42, 182, 0, 98, 172]
abbrev dktX6_lawWord_3 : List UInt8 := dkwX6_lawWord_3 ++ []
def dkwX6_lawWord_2 : List UInt8 := [18, 92, 182, 0, 62, 153, 0, 6, 16, 7, 172, 42, 18, 94, 182, 0, 62, 153, 0, 6, 16, 8, 172, 42]
abbrev dktX6_lawWord_2 : List UInt8 := dkwX6_lawWord_2 ++ dktX6_lawWord_3
def dkwX6_lawWord_1 : List UInt8 := [18, 88, 182, 0, 62, 153, 0, 5, 8, 172, 42, 18, 90, 182, 0, 62, 153, 0, 6, 16, 6, 172, 42]
abbrev dktX6_lawWord_1 : List UInt8 := dkwX6_lawWord_1 ++ dktX6_lawWord_2
def dkwX6_lawWord_0 : List UInt8 := [42, 18, 84, 182, 0, 62, 153, 0, 5, 6, 172, 42, 18, 86, 182, 0, 62, 153, 0, 5, 7, 172, 42]
abbrev dktX6_lawWord_0 : List UInt8 := dkwX6_lawWord_0 ++ dktX6_lawWord_1
theorem dksX6_lawWord_0 : cX6_lawWord.data.toList.drop 0 = dktX6_lawWord_0 := by decide +kernel
theorem dksX6_lawWord_1 : cX6_lawWord.data.toList.drop 23 = dktX6_lawWord_1 := dk_seg dksX6_lawWord_0 23 rfl rfl
theorem dksX6_lawWord_2 : cX6_lawWord.data.toList.drop 46 = dktX6_lawWord_2 := dk_seg dksX6_lawWord_1 23 rfl rfl
theorem dksX6_lawWord_3 : cX6_lawWord.data.toList.drop 70 = dktX6_lawWord_3 := dk_seg dksX6_lawWord_2 24 rfl rfl
theorem dX6_lawWord_0 : decode cX6_lawWord 0 = .ok (.aload_n 0, 1) := dk_42 (dk_at dksX6_lawWord_0 0 rfl rfl)
theorem dX6_lawWord_1 : decode cX6_lawWord 1 = .ok (.ldc 84, 2) := dk_18 84 (dk_at dksX6_lawWord_0 1 rfl rfl)
theorem dX6_lawWord_3 : decode cX6_lawWord 3 = .ok (.invokevirtual 62, 3) := dk_182 0 62 (dk_at dksX6_lawWord_0 3 rfl rfl)
theorem dX6_lawWord_6 : decode cX6_lawWord 6 = .ok (.ifCond .eq 5, 3) := dk_153 0 5 (dk_at dksX6_lawWord_0 6 rfl rfl)
theorem dX6_lawWord_9 : decode cX6_lawWord 9 = .ok (.iconst 3, 1) := dk_6 (dk_at dksX6_lawWord_0 9 rfl rfl)
theorem dX6_lawWord_10 : decode cX6_lawWord 10 = .ok (.ireturn, 1) := dk_172 (dk_at dksX6_lawWord_0 10 rfl rfl)
theorem dX6_lawWord_11 : decode cX6_lawWord 11 = .ok (.aload_n 0, 1) := dk_42 (dk_at dksX6_lawWord_0 11 rfl rfl)
theorem dX6_lawWord_12 : decode cX6_lawWord 12 = .ok (.ldc 86, 2) := dk_18 86 (dk_at dksX6_lawWord_0 12 rfl rfl)
theorem dX6_lawWord_14 : decode cX6_lawWord 14 = .ok (.invokevirtual 62, 3) := dk_182 0 62 (dk_at dksX6_lawWord_0 14 rfl rfl)
theorem dX6_lawWord_17 : decode cX6_lawWord 17 = .ok (.ifCond .eq 5, 3) := dk_153 0 5 (dk_at dksX6_lawWord_0 17 rfl rfl)
theorem dX6_lawWord_20 : decode cX6_lawWord 20 = .ok (.iconst 4, 1) := dk_7 (dk_at dksX6_lawWord_0 20 rfl rfl)
theorem dX6_lawWord_21 : decode cX6_lawWord 21 = .ok (.ireturn, 1) := dk_172 (dk_at dksX6_lawWord_0 21 rfl rfl)
theorem dX6_lawWord_22 : decode cX6_lawWord 22 = .ok (.aload_n 0, 1) := dk_42 (dk_at dksX6_lawWord_0 22 rfl rfl)
theorem dX6_lawWord_23 : decode cX6_lawWord 23 = .ok (.ldc 88, 2) := dk_18 88 (dk_at dksX6_lawWord_1 0 rfl rfl)
theorem dX6_lawWord_25 : decode cX6_lawWord 25 = .ok (.invokevirtual 62, 3) := dk_182 0 62 (dk_at dksX6_lawWord_1 2 rfl rfl)
theorem dX6_lawWord_28 : decode cX6_lawWord 28 = .ok (.ifCond .eq 5, 3) := dk_153 0 5 (dk_at dksX6_lawWord_1 5 rfl rfl)
theorem dX6_lawWord_31 : decode cX6_lawWord 31 = .ok (.iconst 5, 1) := dk_8 (dk_at dksX6_lawWord_1 8 rfl rfl)
theorem dX6_lawWord_32 : decode cX6_lawWord 32 = .ok (.ireturn, 1) := dk_172 (dk_at dksX6_lawWord_1 9 rfl rfl)
theorem dX6_lawWord_33 : decode cX6_lawWord 33 = .ok (.aload_n 0, 1) := dk_42 (dk_at dksX6_lawWord_1 10 rfl rfl)
theorem dX6_lawWord_34 : decode cX6_lawWord 34 = .ok (.ldc 90, 2) := dk_18 90 (dk_at dksX6_lawWord_1 11 rfl rfl)
theorem dX6_lawWord_36 : decode cX6_lawWord 36 = .ok (.invokevirtual 62, 3) := dk_182 0 62 (dk_at dksX6_lawWord_1 13 rfl rfl)
theorem dX6_lawWord_39 : decode cX6_lawWord 39 = .ok (.ifCond .eq 6, 3) := dk_153 0 6 (dk_at dksX6_lawWord_1 16 rfl rfl)
theorem dX6_lawWord_42 : decode cX6_lawWord 42 = .ok (.bipush 6, 2) := dk_16 6 (dk_at dksX6_lawWord_1 19 rfl rfl)
theorem dX6_lawWord_44 : decode cX6_lawWord 44 = .ok (.ireturn, 1) := dk_172 (dk_at dksX6_lawWord_1 21 rfl rfl)
theorem dX6_lawWord_45 : decode cX6_lawWord 45 = .ok (.aload_n 0, 1) := dk_42 (dk_at dksX6_lawWord_1 22 rfl rfl)
theorem dX6_lawWord_46 : decode cX6_lawWord 46 = .ok (.ldc 92, 2) := dk_18 92 (dk_at dksX6_lawWord_2 0 rfl rfl)
theorem dX6_lawWord_48 : decode cX6_lawWord 48 = .ok (.invokevirtual 62, 3) := dk_182 0 62 (dk_at dksX6_lawWord_2 2 rfl rfl)
theorem dX6_lawWord_51 : decode cX6_lawWord 51 = .ok (.ifCond .eq 6, 3) := dk_153 0 6 (dk_at dksX6_lawWord_2 5 rfl rfl)
theorem dX6_lawWord_54 : decode cX6_lawWord 54 = .ok (.bipush 7, 2) := dk_16 7 (dk_at dksX6_lawWord_2 8 rfl rfl)
theorem dX6_lawWord_56 : decode cX6_lawWord 56 = .ok (.ireturn, 1) := dk_172 (dk_at dksX6_lawWord_2 10 rfl rfl)
theorem dX6_lawWord_57 : decode cX6_lawWord 57 = .ok (.aload_n 0, 1) := dk_42 (dk_at dksX6_lawWord_2 11 rfl rfl)
theorem dX6_lawWord_58 : decode cX6_lawWord 58 = .ok (.ldc 94, 2) := dk_18 94 (dk_at dksX6_lawWord_2 12 rfl rfl)
theorem dX6_lawWord_60 : decode cX6_lawWord 60 = .ok (.invokevirtual 62, 3) := dk_182 0 62 (dk_at dksX6_lawWord_2 14 rfl rfl)
theorem dX6_lawWord_63 : decode cX6_lawWord 63 = .ok (.ifCond .eq 6, 3) := dk_153 0 6 (dk_at dksX6_lawWord_2 17 rfl rfl)
theorem dX6_lawWord_66 : decode cX6_lawWord 66 = .ok (.bipush 8, 2) := dk_16 8 (dk_at dksX6_lawWord_2 20 rfl rfl)
theorem dX6_lawWord_68 : decode cX6_lawWord 68 = .ok (.ireturn, 1) := dk_172 (dk_at dksX6_lawWord_2 22 rfl rfl)
theorem dX6_lawWord_69 : decode cX6_lawWord 69 = .ok (.aload_n 0, 1) := dk_42 (dk_at dksX6_lawWord_2 23 rfl rfl)
theorem dX6_lawWord_70 : decode cX6_lawWord 70 = .ok (.ldc 96, 2) := dk_18 96 (dk_at dksX6_lawWord_3 0 rfl rfl)
theorem dX6_lawWord_72 : decode cX6_lawWord 72 = .ok (.invokevirtual 62, 3) := dk_182 0 62 (dk_at dksX6_lawWord_3 2 rfl rfl)
theorem dX6_lawWord_75 : decode cX6_lawWord 75 = .ok (.ifCond .eq 8, 3) := dk_153 0 8 (dk_at dksX6_lawWord_3 5 rfl rfl)
theorem dX6_lawWord_78 : decode cX6_lawWord 78 = .ok (.bipush 9, 2) := dk_16 9 (dk_at dksX6_lawWord_3 8 rfl rfl)
theorem dX6_lawWord_80 : decode cX6_lawWord 80 = .ok (.goto 7, 3) := dk_167 0 7 (dk_at dksX6_lawWord_3 10 rfl rfl)
theorem dX6_lawWord_83 : decode cX6_lawWord 83 = .ok (.aload_n 0, 1) := dk_42 (dk_at dksX6_lawWord_3 13 rfl rfl)
theorem dX6_lawWord_84 : decode cX6_lawWord 84 = .ok (.invokevirtual 98, 3) := dk_182 0 98 (dk_at dksX6_lawWord_3 14 rfl rfl)
theorem dX6_lawWord_87 : decode cX6_lawWord 87 = .ok (.ireturn, 1) := dk_172 (dk_at dksX6_lawWord_3 17 rfl rfl)
abbrev cX6_is : ByteArray := prog_9_method_5_code
def yX6_is : MethodName := ⟨RX6, "is", "(Ljava/lang/String;)Z"⟩
def dkwX6_is_2 : List UInt8 := [96, 51, 43, 29, 182, 0, 56, 160, 0, 7, 4, 167, 0, 4, 3, 61, 132, 3, 1, 167, 255, 213, 28, 172]
abbrev dktX6_is_2 : List UInt8 := dkwX6_is_2 ++ []
def dkwX6_is_1 : List UInt8 := [29, 43, 182, 0, 51, 162, 0, 41, 28, 153, 0, 37, 42, 180, 0, 3, 180, 0, 36, 42, 180, 0, 48, 29]
abbrev dktX6_is_1 : List UInt8 := dkwX6_is_1 ++ dktX6_is_2
def dkwX6_is_0 : List UInt8 := [42, 180, 0, 30, 42, 180, 0, 48, 100, 43, 182, 0, 51, 160, 0, 7, 4, 167, 0, 4, 3, 61, 3, 62]
abbrev dktX6_is_0 : List UInt8 := dkwX6_is_0 ++ dktX6_is_1
theorem dksX6_is_0 : cX6_is.data.toList.drop 0 = dktX6_is_0 := by decide +kernel
theorem dksX6_is_1 : cX6_is.data.toList.drop 24 = dktX6_is_1 := dk_seg dksX6_is_0 24 rfl rfl
theorem dksX6_is_2 : cX6_is.data.toList.drop 48 = dktX6_is_2 := dk_seg dksX6_is_1 24 rfl rfl
theorem dX6_is_0 : decode cX6_is 0 = .ok (.aload_n 0, 1) := dk_42 (dk_at dksX6_is_0 0 rfl rfl)
theorem dX6_is_1 : decode cX6_is 1 = .ok (.getfield 30, 3) := dk_180 0 30 (dk_at dksX6_is_0 1 rfl rfl)
theorem dX6_is_4 : decode cX6_is 4 = .ok (.aload_n 0, 1) := dk_42 (dk_at dksX6_is_0 4 rfl rfl)
theorem dX6_is_5 : decode cX6_is 5 = .ok (.getfield 48, 3) := dk_180 0 48 (dk_at dksX6_is_0 5 rfl rfl)
theorem dX6_is_8 : decode cX6_is 8 = .ok (.isub, 1) := dk_100 (dk_at dksX6_is_0 8 rfl rfl)
theorem dX6_is_9 : decode cX6_is 9 = .ok (.aload_n 1, 1) := dk_43 (dk_at dksX6_is_0 9 rfl rfl)
theorem dX6_is_10 : decode cX6_is 10 = .ok (.invokevirtual 51, 3) := dk_182 0 51 (dk_at dksX6_is_0 10 rfl rfl)
theorem dX6_is_13 : decode cX6_is 13 = .ok (.if_icmp .ne 7, 3) := dk_160 0 7 (dk_at dksX6_is_0 13 rfl rfl)
theorem dX6_is_16 : decode cX6_is 16 = .ok (.iconst 1, 1) := dk_4 (dk_at dksX6_is_0 16 rfl rfl)
theorem dX6_is_17 : decode cX6_is 17 = .ok (.goto 4, 3) := dk_167 0 4 (dk_at dksX6_is_0 17 rfl rfl)
theorem dX6_is_20 : decode cX6_is 20 = .ok (.iconst 0, 1) := dk_3 (dk_at dksX6_is_0 20 rfl rfl)
theorem dX6_is_21 : decode cX6_is 21 = .ok (.istore_n 2, 1) := dk_61 (dk_at dksX6_is_0 21 rfl rfl)
theorem dX6_is_22 : decode cX6_is 22 = .ok (.iconst 0, 1) := dk_3 (dk_at dksX6_is_0 22 rfl rfl)
theorem dX6_is_23 : decode cX6_is 23 = .ok (.istore_n 3, 1) := dk_62 (dk_at dksX6_is_0 23 rfl rfl)
theorem dX6_is_24 : decode cX6_is 24 = .ok (.iload_n 3, 1) := dk_29 (dk_at dksX6_is_1 0 rfl rfl)
theorem dX6_is_25 : decode cX6_is 25 = .ok (.aload_n 1, 1) := dk_43 (dk_at dksX6_is_1 1 rfl rfl)
theorem dX6_is_26 : decode cX6_is 26 = .ok (.invokevirtual 51, 3) := dk_182 0 51 (dk_at dksX6_is_1 2 rfl rfl)
theorem dX6_is_29 : decode cX6_is 29 = .ok (.if_icmp .ge 41, 3) := dk_162 0 41 (dk_at dksX6_is_1 5 rfl rfl)
theorem dX6_is_32 : decode cX6_is 32 = .ok (.iload_n 2, 1) := dk_28 (dk_at dksX6_is_1 8 rfl rfl)
theorem dX6_is_33 : decode cX6_is 33 = .ok (.ifCond .eq 37, 3) := dk_153 0 37 (dk_at dksX6_is_1 9 rfl rfl)
theorem dX6_is_36 : decode cX6_is 36 = .ok (.aload_n 0, 1) := dk_42 (dk_at dksX6_is_1 12 rfl rfl)
theorem dX6_is_37 : decode cX6_is 37 = .ok (.getfield 3, 3) := dk_180 0 3 (dk_at dksX6_is_1 13 rfl rfl)
theorem dX6_is_40 : decode cX6_is 40 = .ok (.getfield 36, 3) := dk_180 0 36 (dk_at dksX6_is_1 16 rfl rfl)
theorem dX6_is_43 : decode cX6_is 43 = .ok (.aload_n 0, 1) := dk_42 (dk_at dksX6_is_1 19 rfl rfl)
theorem dX6_is_44 : decode cX6_is 44 = .ok (.getfield 48, 3) := dk_180 0 48 (dk_at dksX6_is_1 20 rfl rfl)
theorem dX6_is_47 : decode cX6_is 47 = .ok (.iload_n 3, 1) := dk_29 (dk_at dksX6_is_1 23 rfl rfl)
theorem dX6_is_48 : decode cX6_is 48 = .ok (.iadd, 1) := dk_96 (dk_at dksX6_is_2 0 rfl rfl)
theorem dX6_is_49 : decode cX6_is 49 = .ok (.baload, 1) := dk_51 (dk_at dksX6_is_2 1 rfl rfl)
theorem dX6_is_50 : decode cX6_is 50 = .ok (.aload_n 1, 1) := dk_43 (dk_at dksX6_is_2 2 rfl rfl)
theorem dX6_is_51 : decode cX6_is 51 = .ok (.iload_n 3, 1) := dk_29 (dk_at dksX6_is_2 3 rfl rfl)
theorem dX6_is_52 : decode cX6_is 52 = .ok (.invokevirtual 56, 3) := dk_182 0 56 (dk_at dksX6_is_2 4 rfl rfl)
theorem dX6_is_55 : decode cX6_is 55 = .ok (.if_icmp .ne 7, 3) := dk_160 0 7 (dk_at dksX6_is_2 7 rfl rfl)
theorem dX6_is_58 : decode cX6_is 58 = .ok (.iconst 1, 1) := dk_4 (dk_at dksX6_is_2 10 rfl rfl)
theorem dX6_is_59 : decode cX6_is 59 = .ok (.goto 4, 3) := dk_167 0 4 (dk_at dksX6_is_2 11 rfl rfl)
theorem dX6_is_62 : decode cX6_is 62 = .ok (.iconst 0, 1) := dk_3 (dk_at dksX6_is_2 14 rfl rfl)
theorem dX6_is_63 : decode cX6_is 63 = .ok (.istore_n 2, 1) := dk_61 (dk_at dksX6_is_2 15 rfl rfl)
theorem dX6_is_64 : decode cX6_is 64 = .ok (.iinc 3 1, 3) := dk_132 3 1 (dk_at dksX6_is_2 16 rfl rfl)
theorem dX6_is_67 : decode cX6_is 67 = .ok (.goto (-43), 3) := dk_167 255 213 (dk_at dksX6_is_2 19 rfl rfl)
theorem dX6_is_70 : decode cX6_is 70 = .ok (.iload_n 2, 1) := dk_28 (dk_at dksX6_is_2 22 rfl rfl)
theorem dX6_is_71 : decode cX6_is 71 = .ok (.ireturn, 1) := dk_172 (dk_at dksX6_is_2 23 rfl rfl)
abbrev cX6_asked : ByteArray := prog_9_method_6_code
def yX6_asked : MethodName := ⟨RX6, "asked", "()I"⟩
def dkwX6_asked_5 : List UInt8 := [172, 42, 18, 82, 182, 0, 62, 153, 0, 9, 17, 0, 189, 167, 0, 4, 4, 172]
abbrev dktX6_asked_5 : List UInt8 := dkwX6_asked_5 ++ []
def dkwX6_asked_4 : List UInt8 := [18, 78, 182, 0, 62, 153, 0, 7, 17, 0, 187, 172, 42, 18, 80, 182, 0, 62, 153, 0, 7, 17, 0, 188]
abbrev dktX6_asked_4 : List UInt8 := dkwX6_asked_4 ++ dktX6_asked_5
def dkwX6_asked_3 : List UInt8 := [182, 0, 62, 153, 0, 7, 17, 0, 185, 172, 42, 18, 76, 182, 0, 62, 153, 0, 7, 17, 0, 186, 172, 42]
abbrev dktX6_asked_3 : List UInt8 := dkwX6_asked_3 ++ dktX6_asked_4
def dkwX6_asked_2 : List UInt8 := [153, 0, 7, 17, 0, 183, 172, 42, 18, 72, 182, 0, 62, 153, 0, 7, 17, 0, 184, 172, 42, 18, 74]
abbrev dktX6_asked_2 : List UInt8 := dkwX6_asked_2 ++ dktX6_asked_3
def dkwX6_asked_1 : List UInt8 := [17, 0, 181, 172, 42, 18, 68, 182, 0, 62, 153, 0, 7, 17, 0, 182, 172, 42, 18, 70, 182, 0, 62]
abbrev dktX6_asked_1 : List UInt8 := dkwX6_asked_1 ++ dktX6_asked_2
def dkwX6_asked_0 : List UInt8 := [42, 18, 60, 182, 0, 62, 153, 0, 7, 17, 0, 180, 172, 42, 18, 66, 182, 0, 62, 153, 0, 7]
abbrev dktX6_asked_0 : List UInt8 := dkwX6_asked_0 ++ dktX6_asked_1
theorem dksX6_asked_0 : cX6_asked.data.toList.drop 0 = dktX6_asked_0 := by decide +kernel
theorem dksX6_asked_1 : cX6_asked.data.toList.drop 22 = dktX6_asked_1 := dk_seg dksX6_asked_0 22 rfl rfl
theorem dksX6_asked_2 : cX6_asked.data.toList.drop 45 = dktX6_asked_2 := dk_seg dksX6_asked_1 23 rfl rfl
theorem dksX6_asked_3 : cX6_asked.data.toList.drop 68 = dktX6_asked_3 := dk_seg dksX6_asked_2 23 rfl rfl
theorem dksX6_asked_4 : cX6_asked.data.toList.drop 92 = dktX6_asked_4 := dk_seg dksX6_asked_3 24 rfl rfl
theorem dksX6_asked_5 : cX6_asked.data.toList.drop 116 = dktX6_asked_5 := dk_seg dksX6_asked_4 24 rfl rfl
theorem dX6_asked_0 : decode cX6_asked 0 = .ok (.aload_n 0, 1) := dk_42 (dk_at dksX6_asked_0 0 rfl rfl)
theorem dX6_asked_1 : decode cX6_asked 1 = .ok (.ldc 60, 2) := dk_18 60 (dk_at dksX6_asked_0 1 rfl rfl)
theorem dX6_asked_3 : decode cX6_asked 3 = .ok (.invokevirtual 62, 3) := dk_182 0 62 (dk_at dksX6_asked_0 3 rfl rfl)
theorem dX6_asked_6 : decode cX6_asked 6 = .ok (.ifCond .eq 7, 3) := dk_153 0 7 (dk_at dksX6_asked_0 6 rfl rfl)
theorem dX6_asked_9 : decode cX6_asked 9 = .ok (.sipush 180, 3) := dk_17 0 180 (dk_at dksX6_asked_0 9 rfl rfl)
theorem dX6_asked_12 : decode cX6_asked 12 = .ok (.ireturn, 1) := dk_172 (dk_at dksX6_asked_0 12 rfl rfl)
theorem dX6_asked_13 : decode cX6_asked 13 = .ok (.aload_n 0, 1) := dk_42 (dk_at dksX6_asked_0 13 rfl rfl)
theorem dX6_asked_14 : decode cX6_asked 14 = .ok (.ldc 66, 2) := dk_18 66 (dk_at dksX6_asked_0 14 rfl rfl)
theorem dX6_asked_16 : decode cX6_asked 16 = .ok (.invokevirtual 62, 3) := dk_182 0 62 (dk_at dksX6_asked_0 16 rfl rfl)
theorem dX6_asked_19 : decode cX6_asked 19 = .ok (.ifCond .eq 7, 3) := dk_153 0 7 (dk_at dksX6_asked_0 19 rfl rfl)
theorem dX6_asked_22 : decode cX6_asked 22 = .ok (.sipush 181, 3) := dk_17 0 181 (dk_at dksX6_asked_1 0 rfl rfl)
theorem dX6_asked_25 : decode cX6_asked 25 = .ok (.ireturn, 1) := dk_172 (dk_at dksX6_asked_1 3 rfl rfl)
theorem dX6_asked_26 : decode cX6_asked 26 = .ok (.aload_n 0, 1) := dk_42 (dk_at dksX6_asked_1 4 rfl rfl)
theorem dX6_asked_27 : decode cX6_asked 27 = .ok (.ldc 68, 2) := dk_18 68 (dk_at dksX6_asked_1 5 rfl rfl)
theorem dX6_asked_29 : decode cX6_asked 29 = .ok (.invokevirtual 62, 3) := dk_182 0 62 (dk_at dksX6_asked_1 7 rfl rfl)
theorem dX6_asked_32 : decode cX6_asked 32 = .ok (.ifCond .eq 7, 3) := dk_153 0 7 (dk_at dksX6_asked_1 10 rfl rfl)
theorem dX6_asked_35 : decode cX6_asked 35 = .ok (.sipush 182, 3) := dk_17 0 182 (dk_at dksX6_asked_1 13 rfl rfl)
theorem dX6_asked_38 : decode cX6_asked 38 = .ok (.ireturn, 1) := dk_172 (dk_at dksX6_asked_1 16 rfl rfl)
theorem dX6_asked_39 : decode cX6_asked 39 = .ok (.aload_n 0, 1) := dk_42 (dk_at dksX6_asked_1 17 rfl rfl)
theorem dX6_asked_40 : decode cX6_asked 40 = .ok (.ldc 70, 2) := dk_18 70 (dk_at dksX6_asked_1 18 rfl rfl)
theorem dX6_asked_42 : decode cX6_asked 42 = .ok (.invokevirtual 62, 3) := dk_182 0 62 (dk_at dksX6_asked_1 20 rfl rfl)
theorem dX6_asked_45 : decode cX6_asked 45 = .ok (.ifCond .eq 7, 3) := dk_153 0 7 (dk_at dksX6_asked_2 0 rfl rfl)
theorem dX6_asked_48 : decode cX6_asked 48 = .ok (.sipush 183, 3) := dk_17 0 183 (dk_at dksX6_asked_2 3 rfl rfl)
theorem dX6_asked_51 : decode cX6_asked 51 = .ok (.ireturn, 1) := dk_172 (dk_at dksX6_asked_2 6 rfl rfl)
theorem dX6_asked_52 : decode cX6_asked 52 = .ok (.aload_n 0, 1) := dk_42 (dk_at dksX6_asked_2 7 rfl rfl)
theorem dX6_asked_53 : decode cX6_asked 53 = .ok (.ldc 72, 2) := dk_18 72 (dk_at dksX6_asked_2 8 rfl rfl)
theorem dX6_asked_55 : decode cX6_asked 55 = .ok (.invokevirtual 62, 3) := dk_182 0 62 (dk_at dksX6_asked_2 10 rfl rfl)
theorem dX6_asked_58 : decode cX6_asked 58 = .ok (.ifCond .eq 7, 3) := dk_153 0 7 (dk_at dksX6_asked_2 13 rfl rfl)
theorem dX6_asked_61 : decode cX6_asked 61 = .ok (.sipush 184, 3) := dk_17 0 184 (dk_at dksX6_asked_2 16 rfl rfl)
theorem dX6_asked_64 : decode cX6_asked 64 = .ok (.ireturn, 1) := dk_172 (dk_at dksX6_asked_2 19 rfl rfl)
theorem dX6_asked_65 : decode cX6_asked 65 = .ok (.aload_n 0, 1) := dk_42 (dk_at dksX6_asked_2 20 rfl rfl)
theorem dX6_asked_66 : decode cX6_asked 66 = .ok (.ldc 74, 2) := dk_18 74 (dk_at dksX6_asked_2 21 rfl rfl)
theorem dX6_asked_68 : decode cX6_asked 68 = .ok (.invokevirtual 62, 3) := dk_182 0 62 (dk_at dksX6_asked_3 0 rfl rfl)
theorem dX6_asked_71 : decode cX6_asked 71 = .ok (.ifCond .eq 7, 3) := dk_153 0 7 (dk_at dksX6_asked_3 3 rfl rfl)
theorem dX6_asked_74 : decode cX6_asked 74 = .ok (.sipush 185, 3) := dk_17 0 185 (dk_at dksX6_asked_3 6 rfl rfl)
theorem dX6_asked_77 : decode cX6_asked 77 = .ok (.ireturn, 1) := dk_172 (dk_at dksX6_asked_3 9 rfl rfl)
theorem dX6_asked_78 : decode cX6_asked 78 = .ok (.aload_n 0, 1) := dk_42 (dk_at dksX6_asked_3 10 rfl rfl)
theorem dX6_asked_79 : decode cX6_asked 79 = .ok (.ldc 76, 2) := dk_18 76 (dk_at dksX6_asked_3 11 rfl rfl)
theorem dX6_asked_81 : decode cX6_asked 81 = .ok (.invokevirtual 62, 3) := dk_182 0 62 (dk_at dksX6_asked_3 13 rfl rfl)
theorem dX6_asked_84 : decode cX6_asked 84 = .ok (.ifCond .eq 7, 3) := dk_153 0 7 (dk_at dksX6_asked_3 16 rfl rfl)
theorem dX6_asked_87 : decode cX6_asked 87 = .ok (.sipush 186, 3) := dk_17 0 186 (dk_at dksX6_asked_3 19 rfl rfl)
theorem dX6_asked_90 : decode cX6_asked 90 = .ok (.ireturn, 1) := dk_172 (dk_at dksX6_asked_3 22 rfl rfl)
theorem dX6_asked_91 : decode cX6_asked 91 = .ok (.aload_n 0, 1) := dk_42 (dk_at dksX6_asked_3 23 rfl rfl)
theorem dX6_asked_92 : decode cX6_asked 92 = .ok (.ldc 78, 2) := dk_18 78 (dk_at dksX6_asked_4 0 rfl rfl)
theorem dX6_asked_94 : decode cX6_asked 94 = .ok (.invokevirtual 62, 3) := dk_182 0 62 (dk_at dksX6_asked_4 2 rfl rfl)
theorem dX6_asked_97 : decode cX6_asked 97 = .ok (.ifCond .eq 7, 3) := dk_153 0 7 (dk_at dksX6_asked_4 5 rfl rfl)
theorem dX6_asked_100 : decode cX6_asked 100 = .ok (.sipush 187, 3) := dk_17 0 187 (dk_at dksX6_asked_4 8 rfl rfl)
theorem dX6_asked_103 : decode cX6_asked 103 = .ok (.ireturn, 1) := dk_172 (dk_at dksX6_asked_4 11 rfl rfl)
theorem dX6_asked_104 : decode cX6_asked 104 = .ok (.aload_n 0, 1) := dk_42 (dk_at dksX6_asked_4 12 rfl rfl)
theorem dX6_asked_105 : decode cX6_asked 105 = .ok (.ldc 80, 2) := dk_18 80 (dk_at dksX6_asked_4 13 rfl rfl)
theorem dX6_asked_107 : decode cX6_asked 107 = .ok (.invokevirtual 62, 3) := dk_182 0 62 (dk_at dksX6_asked_4 15 rfl rfl)
theorem dX6_asked_110 : decode cX6_asked 110 = .ok (.ifCond .eq 7, 3) := dk_153 0 7 (dk_at dksX6_asked_4 18 rfl rfl)
theorem dX6_asked_113 : decode cX6_asked 113 = .ok (.sipush 188, 3) := dk_17 0 188 (dk_at dksX6_asked_4 21 rfl rfl)
theorem dX6_asked_116 : decode cX6_asked 116 = .ok (.ireturn, 1) := dk_172 (dk_at dksX6_asked_5 0 rfl rfl)
theorem dX6_asked_117 : decode cX6_asked 117 = .ok (.aload_n 0, 1) := dk_42 (dk_at dksX6_asked_5 1 rfl rfl)
theorem dX6_asked_118 : decode cX6_asked 118 = .ok (.ldc 82, 2) := dk_18 82 (dk_at dksX6_asked_5 2 rfl rfl)
theorem dX6_asked_120 : decode cX6_asked 120 = .ok (.invokevirtual 62, 3) := dk_182 0 62 (dk_at dksX6_asked_5 4 rfl rfl)
theorem dX6_asked_123 : decode cX6_asked 123 = .ok (.ifCond .eq 9, 3) := dk_153 0 9 (dk_at dksX6_asked_5 7 rfl rfl)
theorem dX6_asked_126 : decode cX6_asked 126 = .ok (.sipush 189, 3) := dk_17 0 189 (dk_at dksX6_asked_5 10 rfl rfl)
theorem dX6_asked_129 : decode cX6_asked 129 = .ok (.goto 4, 3) := dk_167 0 4 (dk_at dksX6_asked_5 13 rfl rfl)
theorem dX6_asked_132 : decode cX6_asked 132 = .ok (.iconst 1, 1) := dk_4 (dk_at dksX6_asked_5 16 rfl rfl)
theorem dX6_asked_133 : decode cX6_asked 133 = .ok (.ireturn, 1) := dk_172 (dk_at dksX6_asked_5 17 rfl rfl)
abbrev cX6_stoneWord : ByteArray := prog_9_method_8_code
def yX6_stoneWord : MethodName := ⟨RX6, "stoneWord", "()I"⟩
def dkwX6_stoneWord_2 : List UInt8 := [42, 18, 107, 182, 0, 62, 153, 0, 8, 16, 14, 167, 0, 4, 4, 172]
abbrev dktX6_stoneWord_2 : List UInt8 := dkwX6_stoneWord_2 ++ []
def dkwX6_stoneWord_1 : List UInt8 := [42, 18, 76, 182, 0, 62, 153, 0, 6, 16, 12, 172, 42, 18, 105, 182, 0, 62, 153, 0, 6, 16, 13, 172]
abbrev dktX6_stoneWord_1 : List UInt8 := dkwX6_stoneWord_1 ++ dktX6_stoneWord_2
def dkwX6_stoneWord_0 : List UInt8 := [42, 18, 101, 182, 0, 62, 153, 0, 6, 16, 10, 172, 42, 18, 103, 182, 0, 62, 153, 0, 6, 16, 11, 172]
abbrev dktX6_stoneWord_0 : List UInt8 := dkwX6_stoneWord_0 ++ dktX6_stoneWord_1
theorem dksX6_stoneWord_0 : cX6_stoneWord.data.toList.drop 0 = dktX6_stoneWord_0 := by decide +kernel
theorem dksX6_stoneWord_1 : cX6_stoneWord.data.toList.drop 24 = dktX6_stoneWord_1 := dk_seg dksX6_stoneWord_0 24 rfl rfl
theorem dksX6_stoneWord_2 : cX6_stoneWord.data.toList.drop 48 = dktX6_stoneWord_2 := dk_seg dksX6_stoneWord_1 24 rfl rfl
theorem dX6_stoneWord_0 : decode cX6_stoneWord 0 = .ok (.aload_n 0, 1) := dk_42 (dk_at dksX6_stoneWord_0 0 rfl rfl)
theorem dX6_stoneWord_1 : decode cX6_stoneWord 1 = .ok (.ldc 101, 2) := dk_18 101 (dk_at dksX6_stoneWord_0 1 rfl rfl)
theorem dX6_stoneWord_3 : decode cX6_stoneWord 3 = .ok (.invokevirtual 62, 3) := dk_182 0 62 (dk_at dksX6_stoneWord_0 3 rfl rfl)
theorem dX6_stoneWord_6 : decode cX6_stoneWord 6 = .ok (.ifCond .eq 6, 3) := dk_153 0 6 (dk_at dksX6_stoneWord_0 6 rfl rfl)
theorem dX6_stoneWord_9 : decode cX6_stoneWord 9 = .ok (.bipush 10, 2) := dk_16 10 (dk_at dksX6_stoneWord_0 9 rfl rfl)
theorem dX6_stoneWord_11 : decode cX6_stoneWord 11 = .ok (.ireturn, 1) := dk_172 (dk_at dksX6_stoneWord_0 11 rfl rfl)
theorem dX6_stoneWord_12 : decode cX6_stoneWord 12 = .ok (.aload_n 0, 1) := dk_42 (dk_at dksX6_stoneWord_0 12 rfl rfl)
theorem dX6_stoneWord_13 : decode cX6_stoneWord 13 = .ok (.ldc 103, 2) := dk_18 103 (dk_at dksX6_stoneWord_0 13 rfl rfl)
theorem dX6_stoneWord_15 : decode cX6_stoneWord 15 = .ok (.invokevirtual 62, 3) := dk_182 0 62 (dk_at dksX6_stoneWord_0 15 rfl rfl)
theorem dX6_stoneWord_18 : decode cX6_stoneWord 18 = .ok (.ifCond .eq 6, 3) := dk_153 0 6 (dk_at dksX6_stoneWord_0 18 rfl rfl)
theorem dX6_stoneWord_21 : decode cX6_stoneWord 21 = .ok (.bipush 11, 2) := dk_16 11 (dk_at dksX6_stoneWord_0 21 rfl rfl)
theorem dX6_stoneWord_23 : decode cX6_stoneWord 23 = .ok (.ireturn, 1) := dk_172 (dk_at dksX6_stoneWord_0 23 rfl rfl)
theorem dX6_stoneWord_24 : decode cX6_stoneWord 24 = .ok (.aload_n 0, 1) := dk_42 (dk_at dksX6_stoneWord_1 0 rfl rfl)
theorem dX6_stoneWord_25 : decode cX6_stoneWord 25 = .ok (.ldc 76, 2) := dk_18 76 (dk_at dksX6_stoneWord_1 1 rfl rfl)
theorem dX6_stoneWord_27 : decode cX6_stoneWord 27 = .ok (.invokevirtual 62, 3) := dk_182 0 62 (dk_at dksX6_stoneWord_1 3 rfl rfl)
theorem dX6_stoneWord_30 : decode cX6_stoneWord 30 = .ok (.ifCond .eq 6, 3) := dk_153 0 6 (dk_at dksX6_stoneWord_1 6 rfl rfl)
theorem dX6_stoneWord_33 : decode cX6_stoneWord 33 = .ok (.bipush 12, 2) := dk_16 12 (dk_at dksX6_stoneWord_1 9 rfl rfl)
theorem dX6_stoneWord_35 : decode cX6_stoneWord 35 = .ok (.ireturn, 1) := dk_172 (dk_at dksX6_stoneWord_1 11 rfl rfl)
theorem dX6_stoneWord_36 : decode cX6_stoneWord 36 = .ok (.aload_n 0, 1) := dk_42 (dk_at dksX6_stoneWord_1 12 rfl rfl)
theorem dX6_stoneWord_37 : decode cX6_stoneWord 37 = .ok (.ldc 105, 2) := dk_18 105 (dk_at dksX6_stoneWord_1 13 rfl rfl)
theorem dX6_stoneWord_39 : decode cX6_stoneWord 39 = .ok (.invokevirtual 62, 3) := dk_182 0 62 (dk_at dksX6_stoneWord_1 15 rfl rfl)
theorem dX6_stoneWord_42 : decode cX6_stoneWord 42 = .ok (.ifCond .eq 6, 3) := dk_153 0 6 (dk_at dksX6_stoneWord_1 18 rfl rfl)
theorem dX6_stoneWord_45 : decode cX6_stoneWord 45 = .ok (.bipush 13, 2) := dk_16 13 (dk_at dksX6_stoneWord_1 21 rfl rfl)
theorem dX6_stoneWord_47 : decode cX6_stoneWord 47 = .ok (.ireturn, 1) := dk_172 (dk_at dksX6_stoneWord_1 23 rfl rfl)
theorem dX6_stoneWord_48 : decode cX6_stoneWord 48 = .ok (.aload_n 0, 1) := dk_42 (dk_at dksX6_stoneWord_2 0 rfl rfl)
theorem dX6_stoneWord_49 : decode cX6_stoneWord 49 = .ok (.ldc 107, 2) := dk_18 107 (dk_at dksX6_stoneWord_2 1 rfl rfl)
theorem dX6_stoneWord_51 : decode cX6_stoneWord 51 = .ok (.invokevirtual 62, 3) := dk_182 0 62 (dk_at dksX6_stoneWord_2 3 rfl rfl)
theorem dX6_stoneWord_54 : decode cX6_stoneWord 54 = .ok (.ifCond .eq 8, 3) := dk_153 0 8 (dk_at dksX6_stoneWord_2 6 rfl rfl)
theorem dX6_stoneWord_57 : decode cX6_stoneWord 57 = .ok (.bipush 14, 2) := dk_16 14 (dk_at dksX6_stoneWord_2 9 rfl rfl)
theorem dX6_stoneWord_59 : decode cX6_stoneWord 59 = .ok (.goto 4, 3) := dk_167 0 4 (dk_at dksX6_stoneWord_2 11 rfl rfl)
theorem dX6_stoneWord_62 : decode cX6_stoneWord 62 = .ok (.iconst 1, 1) := dk_4 (dk_at dksX6_stoneWord_2 14 rfl rfl)
theorem dX6_stoneWord_63 : decode cX6_stoneWord 63 = .ok (.ireturn, 1) := dk_172 (dk_at dksX6_stoneWord_2 15 rfl rfl)
abbrev cX6_wayWord : ByteArray := prog_9_method_9_code
def yX6_wayWord : MethodName := ⟨RX6, "wayWord", "()I"⟩
def dkwX6_wayWord_3 : List UInt8 := [167, 0, 4, 4, 172]
abbrev dktX6_wayWord_3 : List UInt8 := dkwX6_wayWord_3 ++ []
def dkwX6_wayWord_2 : List UInt8 := [42, 18, 117, 182, 0, 62, 153, 0, 6, 16, 19, 172, 42, 18, 119, 182, 0, 62, 153, 0, 8, 16, 20]
abbrev dktX6_wayWord_2 : List UInt8 := dkwX6_wayWord_2 ++ dktX6_wayWord_3
def dkwX6_wayWord_1 : List UInt8 := [42, 18, 113, 182, 0, 62, 153, 0, 6, 16, 17, 172, 42, 18, 115, 182, 0, 62, 153, 0, 6, 16, 18, 172]
abbrev dktX6_wayWord_1 : List UInt8 := dkwX6_wayWord_1 ++ dktX6_wayWord_2
def dkwX6_wayWord_0 : List UInt8 := [42, 18, 109, 182, 0, 62, 153, 0, 6, 16, 15, 172, 42, 18, 111, 182, 0, 62, 153, 0, 6, 16, 16, 172]
abbrev dktX6_wayWord_0 : List UInt8 := dkwX6_wayWord_0 ++ dktX6_wayWord_1
theorem dksX6_wayWord_0 : cX6_wayWord.data.toList.drop 0 = dktX6_wayWord_0 := by decide +kernel
theorem dksX6_wayWord_1 : cX6_wayWord.data.toList.drop 24 = dktX6_wayWord_1 := dk_seg dksX6_wayWord_0 24 rfl rfl
theorem dksX6_wayWord_2 : cX6_wayWord.data.toList.drop 48 = dktX6_wayWord_2 := dk_seg dksX6_wayWord_1 24 rfl rfl
theorem dksX6_wayWord_3 : cX6_wayWord.data.toList.drop 71 = dktX6_wayWord_3 := dk_seg dksX6_wayWord_2 23 rfl rfl
theorem dX6_wayWord_0 : decode cX6_wayWord 0 = .ok (.aload_n 0, 1) := dk_42 (dk_at dksX6_wayWord_0 0 rfl rfl)
theorem dX6_wayWord_1 : decode cX6_wayWord 1 = .ok (.ldc 109, 2) := dk_18 109 (dk_at dksX6_wayWord_0 1 rfl rfl)
theorem dX6_wayWord_3 : decode cX6_wayWord 3 = .ok (.invokevirtual 62, 3) := dk_182 0 62 (dk_at dksX6_wayWord_0 3 rfl rfl)
theorem dX6_wayWord_6 : decode cX6_wayWord 6 = .ok (.ifCond .eq 6, 3) := dk_153 0 6 (dk_at dksX6_wayWord_0 6 rfl rfl)
theorem dX6_wayWord_9 : decode cX6_wayWord 9 = .ok (.bipush 15, 2) := dk_16 15 (dk_at dksX6_wayWord_0 9 rfl rfl)
theorem dX6_wayWord_11 : decode cX6_wayWord 11 = .ok (.ireturn, 1) := dk_172 (dk_at dksX6_wayWord_0 11 rfl rfl)
theorem dX6_wayWord_12 : decode cX6_wayWord 12 = .ok (.aload_n 0, 1) := dk_42 (dk_at dksX6_wayWord_0 12 rfl rfl)
theorem dX6_wayWord_13 : decode cX6_wayWord 13 = .ok (.ldc 111, 2) := dk_18 111 (dk_at dksX6_wayWord_0 13 rfl rfl)
theorem dX6_wayWord_15 : decode cX6_wayWord 15 = .ok (.invokevirtual 62, 3) := dk_182 0 62 (dk_at dksX6_wayWord_0 15 rfl rfl)
theorem dX6_wayWord_18 : decode cX6_wayWord 18 = .ok (.ifCond .eq 6, 3) := dk_153 0 6 (dk_at dksX6_wayWord_0 18 rfl rfl)
theorem dX6_wayWord_21 : decode cX6_wayWord 21 = .ok (.bipush 16, 2) := dk_16 16 (dk_at dksX6_wayWord_0 21 rfl rfl)
theorem dX6_wayWord_23 : decode cX6_wayWord 23 = .ok (.ireturn, 1) := dk_172 (dk_at dksX6_wayWord_0 23 rfl rfl)
theorem dX6_wayWord_24 : decode cX6_wayWord 24 = .ok (.aload_n 0, 1) := dk_42 (dk_at dksX6_wayWord_1 0 rfl rfl)
theorem dX6_wayWord_25 : decode cX6_wayWord 25 = .ok (.ldc 113, 2) := dk_18 113 (dk_at dksX6_wayWord_1 1 rfl rfl)
theorem dX6_wayWord_27 : decode cX6_wayWord 27 = .ok (.invokevirtual 62, 3) := dk_182 0 62 (dk_at dksX6_wayWord_1 3 rfl rfl)
theorem dX6_wayWord_30 : decode cX6_wayWord 30 = .ok (.ifCond .eq 6, 3) := dk_153 0 6 (dk_at dksX6_wayWord_1 6 rfl rfl)
theorem dX6_wayWord_33 : decode cX6_wayWord 33 = .ok (.bipush 17, 2) := dk_16 17 (dk_at dksX6_wayWord_1 9 rfl rfl)
theorem dX6_wayWord_35 : decode cX6_wayWord 35 = .ok (.ireturn, 1) := dk_172 (dk_at dksX6_wayWord_1 11 rfl rfl)
theorem dX6_wayWord_36 : decode cX6_wayWord 36 = .ok (.aload_n 0, 1) := dk_42 (dk_at dksX6_wayWord_1 12 rfl rfl)
theorem dX6_wayWord_37 : decode cX6_wayWord 37 = .ok (.ldc 115, 2) := dk_18 115 (dk_at dksX6_wayWord_1 13 rfl rfl)
theorem dX6_wayWord_39 : decode cX6_wayWord 39 = .ok (.invokevirtual 62, 3) := dk_182 0 62 (dk_at dksX6_wayWord_1 15 rfl rfl)
theorem dX6_wayWord_42 : decode cX6_wayWord 42 = .ok (.ifCond .eq 6, 3) := dk_153 0 6 (dk_at dksX6_wayWord_1 18 rfl rfl)
theorem dX6_wayWord_45 : decode cX6_wayWord 45 = .ok (.bipush 18, 2) := dk_16 18 (dk_at dksX6_wayWord_1 21 rfl rfl)
theorem dX6_wayWord_47 : decode cX6_wayWord 47 = .ok (.ireturn, 1) := dk_172 (dk_at dksX6_wayWord_1 23 rfl rfl)
theorem dX6_wayWord_48 : decode cX6_wayWord 48 = .ok (.aload_n 0, 1) := dk_42 (dk_at dksX6_wayWord_2 0 rfl rfl)
theorem dX6_wayWord_49 : decode cX6_wayWord 49 = .ok (.ldc 117, 2) := dk_18 117 (dk_at dksX6_wayWord_2 1 rfl rfl)
theorem dX6_wayWord_51 : decode cX6_wayWord 51 = .ok (.invokevirtual 62, 3) := dk_182 0 62 (dk_at dksX6_wayWord_2 3 rfl rfl)
theorem dX6_wayWord_54 : decode cX6_wayWord 54 = .ok (.ifCond .eq 6, 3) := dk_153 0 6 (dk_at dksX6_wayWord_2 6 rfl rfl)
theorem dX6_wayWord_57 : decode cX6_wayWord 57 = .ok (.bipush 19, 2) := dk_16 19 (dk_at dksX6_wayWord_2 9 rfl rfl)
theorem dX6_wayWord_59 : decode cX6_wayWord 59 = .ok (.ireturn, 1) := dk_172 (dk_at dksX6_wayWord_2 11 rfl rfl)
theorem dX6_wayWord_60 : decode cX6_wayWord 60 = .ok (.aload_n 0, 1) := dk_42 (dk_at dksX6_wayWord_2 12 rfl rfl)
theorem dX6_wayWord_61 : decode cX6_wayWord 61 = .ok (.ldc 119, 2) := dk_18 119 (dk_at dksX6_wayWord_2 13 rfl rfl)
theorem dX6_wayWord_63 : decode cX6_wayWord 63 = .ok (.invokevirtual 62, 3) := dk_182 0 62 (dk_at dksX6_wayWord_2 15 rfl rfl)
theorem dX6_wayWord_66 : decode cX6_wayWord 66 = .ok (.ifCond .eq 8, 3) := dk_153 0 8 (dk_at dksX6_wayWord_2 18 rfl rfl)
theorem dX6_wayWord_69 : decode cX6_wayWord 69 = .ok (.bipush 20, 2) := dk_16 20 (dk_at dksX6_wayWord_2 21 rfl rfl)
theorem dX6_wayWord_71 : decode cX6_wayWord 71 = .ok (.goto 4, 3) := dk_167 0 4 (dk_at dksX6_wayWord_3 0 rfl rfl)
theorem dX6_wayWord_74 : decode cX6_wayWord 74 = .ok (.iconst 1, 1) := dk_4 (dk_at dksX6_wayWord_3 3 rfl rfl)
theorem dX6_wayWord_75 : decode cX6_wayWord 75 = .ok (.ireturn, 1) := dk_172 (dk_at dksX6_wayWord_3 4 rfl rfl)
abbrev cX6_isDigit : ByteArray := prog_9_method_4_code
def yX6_isDigit : MethodName := ⟨RX6, "isDigit", "()Z"⟩
def dkwX6_isDigit_0 : List UInt8 := [42, 182, 0, 40, 16, 48, 16, 57, 184, 0, 44, 172]
abbrev dktX6_isDigit_0 : List UInt8 := dkwX6_isDigit_0 ++ []
theorem dksX6_isDigit_0 : cX6_isDigit.data.toList.drop 0 = dktX6_isDigit_0 := by decide +kernel
theorem dX6_isDigit_0 : decode cX6_isDigit 0 = .ok (.aload_n 0, 1) := dk_42 (dk_at dksX6_isDigit_0 0 rfl rfl)
theorem dX6_isDigit_1 : decode cX6_isDigit 1 = .ok (.invokevirtual 40, 3) := dk_182 0 40 (dk_at dksX6_isDigit_0 1 rfl rfl)
theorem dX6_isDigit_4 : decode cX6_isDigit 4 = .ok (.bipush 48, 2) := dk_16 48 (dk_at dksX6_isDigit_0 4 rfl rfl)
theorem dX6_isDigit_6 : decode cX6_isDigit 6 = .ok (.bipush 57, 2) := dk_16 57 (dk_at dksX6_isDigit_0 6 rfl rfl)
theorem dX6_isDigit_8 : decode cX6_isDigit 8 = .ok (.invokestatic 44, 3) := dk_184 0 44 (dk_at dksX6_isDigit_0 8 rfl rfl)
theorem dX6_isDigit_11 : decode cX6_isDigit 11 = .ok (.ireturn, 1) := dk_172 (dk_at dksX6_isDigit_0 11 rfl rfl)
abbrev cX6_isMark : ByteArray := prog_9_method_12_code
def yX6_isMark : MethodName := ⟨RX6, "isMark", "(I)Z"⟩
def dkwX6_isMark_2 : List UInt8 := [27, 16, 61, 159, 0, 9, 27, 16, 62, 160, 0, 7, 4, 167, 0, 4, 3, 172]
abbrev dktX6_isMark_2 : List UInt8 := dkwX6_isMark_2 ++ []
def dkwX6_isMark_1 : List UInt8 := [27, 16, 47, 159, 0, 33, 27, 16, 40, 159, 0, 27, 27, 16, 41, 159, 0, 21, 27, 16, 60, 159, 0, 15]
abbrev dktX6_isMark_1 : List UInt8 := dkwX6_isMark_1 ++ dktX6_isMark_2
def dkwX6_isMark_0 : List UInt8 := [27, 16, 59, 159, 0, 57, 27, 16, 43, 159, 0, 51, 27, 16, 45, 159, 0, 45, 27, 16, 42, 159, 0, 39]
abbrev dktX6_isMark_0 : List UInt8 := dkwX6_isMark_0 ++ dktX6_isMark_1
theorem dksX6_isMark_0 : cX6_isMark.data.toList.drop 0 = dktX6_isMark_0 := by decide +kernel
theorem dksX6_isMark_1 : cX6_isMark.data.toList.drop 24 = dktX6_isMark_1 := dk_seg dksX6_isMark_0 24 rfl rfl
theorem dksX6_isMark_2 : cX6_isMark.data.toList.drop 48 = dktX6_isMark_2 := dk_seg dksX6_isMark_1 24 rfl rfl
theorem dX6_isMark_0 : decode cX6_isMark 0 = .ok (.iload_n 1, 1) := dk_27 (dk_at dksX6_isMark_0 0 rfl rfl)
theorem dX6_isMark_1 : decode cX6_isMark 1 = .ok (.bipush 59, 2) := dk_16 59 (dk_at dksX6_isMark_0 1 rfl rfl)
theorem dX6_isMark_3 : decode cX6_isMark 3 = .ok (.if_icmp .eq 57, 3) := dk_159 0 57 (dk_at dksX6_isMark_0 3 rfl rfl)
theorem dX6_isMark_6 : decode cX6_isMark 6 = .ok (.iload_n 1, 1) := dk_27 (dk_at dksX6_isMark_0 6 rfl rfl)
theorem dX6_isMark_7 : decode cX6_isMark 7 = .ok (.bipush 43, 2) := dk_16 43 (dk_at dksX6_isMark_0 7 rfl rfl)
theorem dX6_isMark_9 : decode cX6_isMark 9 = .ok (.if_icmp .eq 51, 3) := dk_159 0 51 (dk_at dksX6_isMark_0 9 rfl rfl)
theorem dX6_isMark_12 : decode cX6_isMark 12 = .ok (.iload_n 1, 1) := dk_27 (dk_at dksX6_isMark_0 12 rfl rfl)
theorem dX6_isMark_13 : decode cX6_isMark 13 = .ok (.bipush 45, 2) := dk_16 45 (dk_at dksX6_isMark_0 13 rfl rfl)
theorem dX6_isMark_15 : decode cX6_isMark 15 = .ok (.if_icmp .eq 45, 3) := dk_159 0 45 (dk_at dksX6_isMark_0 15 rfl rfl)
theorem dX6_isMark_18 : decode cX6_isMark 18 = .ok (.iload_n 1, 1) := dk_27 (dk_at dksX6_isMark_0 18 rfl rfl)
theorem dX6_isMark_19 : decode cX6_isMark 19 = .ok (.bipush 42, 2) := dk_16 42 (dk_at dksX6_isMark_0 19 rfl rfl)
theorem dX6_isMark_21 : decode cX6_isMark 21 = .ok (.if_icmp .eq 39, 3) := dk_159 0 39 (dk_at dksX6_isMark_0 21 rfl rfl)
theorem dX6_isMark_24 : decode cX6_isMark 24 = .ok (.iload_n 1, 1) := dk_27 (dk_at dksX6_isMark_1 0 rfl rfl)
theorem dX6_isMark_25 : decode cX6_isMark 25 = .ok (.bipush 47, 2) := dk_16 47 (dk_at dksX6_isMark_1 1 rfl rfl)
theorem dX6_isMark_27 : decode cX6_isMark 27 = .ok (.if_icmp .eq 33, 3) := dk_159 0 33 (dk_at dksX6_isMark_1 3 rfl rfl)
theorem dX6_isMark_30 : decode cX6_isMark 30 = .ok (.iload_n 1, 1) := dk_27 (dk_at dksX6_isMark_1 6 rfl rfl)
theorem dX6_isMark_31 : decode cX6_isMark 31 = .ok (.bipush 40, 2) := dk_16 40 (dk_at dksX6_isMark_1 7 rfl rfl)
theorem dX6_isMark_33 : decode cX6_isMark 33 = .ok (.if_icmp .eq 27, 3) := dk_159 0 27 (dk_at dksX6_isMark_1 9 rfl rfl)
theorem dX6_isMark_36 : decode cX6_isMark 36 = .ok (.iload_n 1, 1) := dk_27 (dk_at dksX6_isMark_1 12 rfl rfl)
theorem dX6_isMark_37 : decode cX6_isMark 37 = .ok (.bipush 41, 2) := dk_16 41 (dk_at dksX6_isMark_1 13 rfl rfl)
theorem dX6_isMark_39 : decode cX6_isMark 39 = .ok (.if_icmp .eq 21, 3) := dk_159 0 21 (dk_at dksX6_isMark_1 15 rfl rfl)
theorem dX6_isMark_42 : decode cX6_isMark 42 = .ok (.iload_n 1, 1) := dk_27 (dk_at dksX6_isMark_1 18 rfl rfl)
theorem dX6_isMark_43 : decode cX6_isMark 43 = .ok (.bipush 60, 2) := dk_16 60 (dk_at dksX6_isMark_1 19 rfl rfl)
theorem dX6_isMark_45 : decode cX6_isMark 45 = .ok (.if_icmp .eq 15, 3) := dk_159 0 15 (dk_at dksX6_isMark_1 21 rfl rfl)
theorem dX6_isMark_48 : decode cX6_isMark 48 = .ok (.iload_n 1, 1) := dk_27 (dk_at dksX6_isMark_2 0 rfl rfl)
theorem dX6_isMark_49 : decode cX6_isMark 49 = .ok (.bipush 61, 2) := dk_16 61 (dk_at dksX6_isMark_2 1 rfl rfl)
theorem dX6_isMark_51 : decode cX6_isMark 51 = .ok (.if_icmp .eq 9, 3) := dk_159 0 9 (dk_at dksX6_isMark_2 3 rfl rfl)
theorem dX6_isMark_54 : decode cX6_isMark 54 = .ok (.iload_n 1, 1) := dk_27 (dk_at dksX6_isMark_2 6 rfl rfl)
theorem dX6_isMark_55 : decode cX6_isMark 55 = .ok (.bipush 62, 2) := dk_16 62 (dk_at dksX6_isMark_2 7 rfl rfl)
theorem dX6_isMark_57 : decode cX6_isMark 57 = .ok (.if_icmp .ne 7, 3) := dk_160 0 7 (dk_at dksX6_isMark_2 9 rfl rfl)
theorem dX6_isMark_60 : decode cX6_isMark 60 = .ok (.iconst 1, 1) := dk_4 (dk_at dksX6_isMark_2 12 rfl rfl)
theorem dX6_isMark_61 : decode cX6_isMark 61 = .ok (.goto 4, 3) := dk_167 0 4 (dk_at dksX6_isMark_2 13 rfl rfl)
theorem dX6_isMark_64 : decode cX6_isMark 64 = .ok (.iconst 0, 1) := dk_3 (dk_at dksX6_isMark_2 16 rfl rfl)
theorem dX6_isMark_65 : decode cX6_isMark 65 = .ok (.ireturn, 1) := dk_172 (dk_at dksX6_isMark_2 17 rfl rfl)
abbrev cX6_sum : ByteArray := prog_9_method_16_code
def yX6_sum : MethodName := ⟨RX6, "sum", "()LWindingSquare$Term;"⟩
def dkwX6_sum_2 : List UInt8 := [167, 255, 215, 43, 176]
abbrev dktX6_sum_2 : List UInt8 := dkwX6_sum_2 ++ []
def dkwX6_sum_1 : List UInt8 := [180, 0, 134, 61, 42, 182, 0, 145, 187, 0, 169, 89, 43, 28, 42, 182, 0, 165, 183, 0, 171, 76]
abbrev dktX6_sum_1 : List UInt8 := dkwX6_sum_1 ++ dktX6_sum_2
def dkwX6_sum_0 : List UInt8 := [42, 182, 0, 165, 76, 42, 180, 0, 134, 16, 43, 159, 0, 12, 42, 180, 0, 134, 16, 45, 160, 0, 29, 42]
abbrev dktX6_sum_0 : List UInt8 := dkwX6_sum_0 ++ dktX6_sum_1
theorem dksX6_sum_0 : cX6_sum.data.toList.drop 0 = dktX6_sum_0 := by decide +kernel
theorem dksX6_sum_1 : cX6_sum.data.toList.drop 24 = dktX6_sum_1 := dk_seg dksX6_sum_0 24 rfl rfl
theorem dksX6_sum_2 : cX6_sum.data.toList.drop 46 = dktX6_sum_2 := dk_seg dksX6_sum_1 22 rfl rfl
theorem dX6_sum_0 : decode cX6_sum 0 = .ok (.aload_n 0, 1) := dk_42 (dk_at dksX6_sum_0 0 rfl rfl)
theorem dX6_sum_1 : decode cX6_sum 1 = .ok (.invokevirtual 165, 3) := dk_182 0 165 (dk_at dksX6_sum_0 1 rfl rfl)
theorem dX6_sum_4 : decode cX6_sum 4 = .ok (.astore_n 1, 1) := dk_76 (dk_at dksX6_sum_0 4 rfl rfl)
theorem dX6_sum_5 : decode cX6_sum 5 = .ok (.aload_n 0, 1) := dk_42 (dk_at dksX6_sum_0 5 rfl rfl)
theorem dX6_sum_6 : decode cX6_sum 6 = .ok (.getfield 134, 3) := dk_180 0 134 (dk_at dksX6_sum_0 6 rfl rfl)
theorem dX6_sum_9 : decode cX6_sum 9 = .ok (.bipush 43, 2) := dk_16 43 (dk_at dksX6_sum_0 9 rfl rfl)
theorem dX6_sum_11 : decode cX6_sum 11 = .ok (.if_icmp .eq 12, 3) := dk_159 0 12 (dk_at dksX6_sum_0 11 rfl rfl)
theorem dX6_sum_14 : decode cX6_sum 14 = .ok (.aload_n 0, 1) := dk_42 (dk_at dksX6_sum_0 14 rfl rfl)
theorem dX6_sum_15 : decode cX6_sum 15 = .ok (.getfield 134, 3) := dk_180 0 134 (dk_at dksX6_sum_0 15 rfl rfl)
theorem dX6_sum_18 : decode cX6_sum 18 = .ok (.bipush 45, 2) := dk_16 45 (dk_at dksX6_sum_0 18 rfl rfl)
theorem dX6_sum_20 : decode cX6_sum 20 = .ok (.if_icmp .ne 29, 3) := dk_160 0 29 (dk_at dksX6_sum_0 20 rfl rfl)
theorem dX6_sum_23 : decode cX6_sum 23 = .ok (.aload_n 0, 1) := dk_42 (dk_at dksX6_sum_0 23 rfl rfl)
theorem dX6_sum_24 : decode cX6_sum 24 = .ok (.getfield 134, 3) := dk_180 0 134 (dk_at dksX6_sum_1 0 rfl rfl)
theorem dX6_sum_27 : decode cX6_sum 27 = .ok (.istore_n 2, 1) := dk_61 (dk_at dksX6_sum_1 3 rfl rfl)
theorem dX6_sum_28 : decode cX6_sum 28 = .ok (.aload_n 0, 1) := dk_42 (dk_at dksX6_sum_1 4 rfl rfl)
theorem dX6_sum_29 : decode cX6_sum 29 = .ok (.invokevirtual 145, 3) := dk_182 0 145 (dk_at dksX6_sum_1 5 rfl rfl)
theorem dX6_sum_32 : decode cX6_sum 32 = .ok (.new 169, 3) := dk_187 0 169 (dk_at dksX6_sum_1 8 rfl rfl)
theorem dX6_sum_35 : decode cX6_sum 35 = .ok (.dup, 1) := dk_89 (dk_at dksX6_sum_1 11 rfl rfl)
theorem dX6_sum_36 : decode cX6_sum 36 = .ok (.aload_n 1, 1) := dk_43 (dk_at dksX6_sum_1 12 rfl rfl)
theorem dX6_sum_37 : decode cX6_sum 37 = .ok (.iload_n 2, 1) := dk_28 (dk_at dksX6_sum_1 13 rfl rfl)
theorem dX6_sum_38 : decode cX6_sum 38 = .ok (.aload_n 0, 1) := dk_42 (dk_at dksX6_sum_1 14 rfl rfl)
theorem dX6_sum_39 : decode cX6_sum 39 = .ok (.invokevirtual 165, 3) := dk_182 0 165 (dk_at dksX6_sum_1 15 rfl rfl)
theorem dX6_sum_42 : decode cX6_sum 42 = .ok (.invokespecial 171, 3) := dk_183 0 171 (dk_at dksX6_sum_1 18 rfl rfl)
theorem dX6_sum_45 : decode cX6_sum 45 = .ok (.astore_n 1, 1) := dk_76 (dk_at dksX6_sum_1 21 rfl rfl)
theorem dX6_sum_46 : decode cX6_sum 46 = .ok (.goto (-41), 3) := dk_167 255 215 (dk_at dksX6_sum_2 0 rfl rfl)
theorem dX6_sum_49 : decode cX6_sum 49 = .ok (.aload_n 1, 1) := dk_43 (dk_at dksX6_sum_2 3 rfl rfl)
theorem dX6_sum_50 : decode cX6_sum 50 = .ok (.areturn, 1) := dk_176 (dk_at dksX6_sum_2 4 rfl rfl)
abbrev cX6_product : ByteArray := prog_9_method_17_code
def yX6_product : MethodName := ⟨RX6, "product", "()LWindingSquare$Term;"⟩
def dkwX6_product_3 : List UInt8 := [167, 255, 191, 43, 176]
abbrev dktX6_product_3 : List UInt8 := dkwX6_product_3 ++ []
def dkwX6_product_2 : List UInt8 := [42, 4, 17, 39, 15, 182, 0, 179, 183, 0, 183, 167, 0, 7, 42, 182, 0, 174, 183, 0, 171, 76]
abbrev dktX6_product_2 : List UInt8 := dkwX6_product_2 ++ dktX6_product_3
def dkwX6_product_1 : List UInt8 := [180, 0, 134, 61, 42, 182, 0, 145, 187, 0, 169, 89, 43, 28, 28, 16, 47, 160, 0, 21, 187, 0, 177, 89]
abbrev dktX6_product_1 : List UInt8 := dkwX6_product_1 ++ dktX6_product_2
def dkwX6_product_0 : List UInt8 := [42, 182, 0, 174, 76, 42, 180, 0, 134, 16, 42, 159, 0, 12, 42, 180, 0, 134, 16, 47, 160, 0, 53, 42]
abbrev dktX6_product_0 : List UInt8 := dkwX6_product_0 ++ dktX6_product_1
theorem dksX6_product_0 : cX6_product.data.toList.drop 0 = dktX6_product_0 := by decide +kernel
theorem dksX6_product_1 : cX6_product.data.toList.drop 24 = dktX6_product_1 := dk_seg dksX6_product_0 24 rfl rfl
theorem dksX6_product_2 : cX6_product.data.toList.drop 48 = dktX6_product_2 := dk_seg dksX6_product_1 24 rfl rfl
theorem dksX6_product_3 : cX6_product.data.toList.drop 70 = dktX6_product_3 := dk_seg dksX6_product_2 22 rfl rfl
theorem dX6_product_0 : decode cX6_product 0 = .ok (.aload_n 0, 1) := dk_42 (dk_at dksX6_product_0 0 rfl rfl)
theorem dX6_product_1 : decode cX6_product 1 = .ok (.invokevirtual 174, 3) := dk_182 0 174 (dk_at dksX6_product_0 1 rfl rfl)
theorem dX6_product_4 : decode cX6_product 4 = .ok (.astore_n 1, 1) := dk_76 (dk_at dksX6_product_0 4 rfl rfl)
theorem dX6_product_5 : decode cX6_product 5 = .ok (.aload_n 0, 1) := dk_42 (dk_at dksX6_product_0 5 rfl rfl)
theorem dX6_product_6 : decode cX6_product 6 = .ok (.getfield 134, 3) := dk_180 0 134 (dk_at dksX6_product_0 6 rfl rfl)
theorem dX6_product_9 : decode cX6_product 9 = .ok (.bipush 42, 2) := dk_16 42 (dk_at dksX6_product_0 9 rfl rfl)
theorem dX6_product_11 : decode cX6_product 11 = .ok (.if_icmp .eq 12, 3) := dk_159 0 12 (dk_at dksX6_product_0 11 rfl rfl)
theorem dX6_product_14 : decode cX6_product 14 = .ok (.aload_n 0, 1) := dk_42 (dk_at dksX6_product_0 14 rfl rfl)
theorem dX6_product_15 : decode cX6_product 15 = .ok (.getfield 134, 3) := dk_180 0 134 (dk_at dksX6_product_0 15 rfl rfl)
theorem dX6_product_18 : decode cX6_product 18 = .ok (.bipush 47, 2) := dk_16 47 (dk_at dksX6_product_0 18 rfl rfl)
theorem dX6_product_20 : decode cX6_product 20 = .ok (.if_icmp .ne 53, 3) := dk_160 0 53 (dk_at dksX6_product_0 20 rfl rfl)
theorem dX6_product_23 : decode cX6_product 23 = .ok (.aload_n 0, 1) := dk_42 (dk_at dksX6_product_0 23 rfl rfl)
theorem dX6_product_24 : decode cX6_product 24 = .ok (.getfield 134, 3) := dk_180 0 134 (dk_at dksX6_product_1 0 rfl rfl)
theorem dX6_product_27 : decode cX6_product 27 = .ok (.istore_n 2, 1) := dk_61 (dk_at dksX6_product_1 3 rfl rfl)
theorem dX6_product_28 : decode cX6_product 28 = .ok (.aload_n 0, 1) := dk_42 (dk_at dksX6_product_1 4 rfl rfl)
theorem dX6_product_29 : decode cX6_product 29 = .ok (.invokevirtual 145, 3) := dk_182 0 145 (dk_at dksX6_product_1 5 rfl rfl)
theorem dX6_product_32 : decode cX6_product 32 = .ok (.new 169, 3) := dk_187 0 169 (dk_at dksX6_product_1 8 rfl rfl)
theorem dX6_product_35 : decode cX6_product 35 = .ok (.dup, 1) := dk_89 (dk_at dksX6_product_1 11 rfl rfl)
theorem dX6_product_36 : decode cX6_product 36 = .ok (.aload_n 1, 1) := dk_43 (dk_at dksX6_product_1 12 rfl rfl)
theorem dX6_product_37 : decode cX6_product 37 = .ok (.iload_n 2, 1) := dk_28 (dk_at dksX6_product_1 13 rfl rfl)
theorem dX6_product_38 : decode cX6_product 38 = .ok (.iload_n 2, 1) := dk_28 (dk_at dksX6_product_1 14 rfl rfl)
theorem dX6_product_39 : decode cX6_product 39 = .ok (.bipush 47, 2) := dk_16 47 (dk_at dksX6_product_1 15 rfl rfl)
theorem dX6_product_41 : decode cX6_product 41 = .ok (.if_icmp .ne 21, 3) := dk_160 0 21 (dk_at dksX6_product_1 17 rfl rfl)
theorem dX6_product_44 : decode cX6_product 44 = .ok (.new 177, 3) := dk_187 0 177 (dk_at dksX6_product_1 20 rfl rfl)
theorem dX6_product_47 : decode cX6_product 47 = .ok (.dup, 1) := dk_89 (dk_at dksX6_product_1 23 rfl rfl)
theorem dX6_product_48 : decode cX6_product 48 = .ok (.aload_n 0, 1) := dk_42 (dk_at dksX6_product_2 0 rfl rfl)
theorem dX6_product_49 : decode cX6_product 49 = .ok (.iconst 1, 1) := dk_4 (dk_at dksX6_product_2 1 rfl rfl)
theorem dX6_product_50 : decode cX6_product 50 = .ok (.sipush 9999, 3) := dk_17 39 15 (dk_at dksX6_product_2 2 rfl rfl)
theorem dX6_product_53 : decode cX6_product 53 = .ok (.invokevirtual 179, 3) := dk_182 0 179 (dk_at dksX6_product_2 5 rfl rfl)
theorem dX6_product_56 : decode cX6_product 56 = .ok (.invokespecial 183, 3) := dk_183 0 183 (dk_at dksX6_product_2 8 rfl rfl)
theorem dX6_product_59 : decode cX6_product 59 = .ok (.goto 7, 3) := dk_167 0 7 (dk_at dksX6_product_2 11 rfl rfl)
theorem dX6_product_62 : decode cX6_product 62 = .ok (.aload_n 0, 1) := dk_42 (dk_at dksX6_product_2 14 rfl rfl)
theorem dX6_product_63 : decode cX6_product 63 = .ok (.invokevirtual 174, 3) := dk_182 0 174 (dk_at dksX6_product_2 15 rfl rfl)
theorem dX6_product_66 : decode cX6_product 66 = .ok (.invokespecial 171, 3) := dk_183 0 171 (dk_at dksX6_product_2 18 rfl rfl)
theorem dX6_product_69 : decode cX6_product 69 = .ok (.astore_n 1, 1) := dk_76 (dk_at dksX6_product_2 21 rfl rfl)
theorem dX6_product_70 : decode cX6_product 70 = .ok (.goto (-65), 3) := dk_167 255 191 (dk_at dksX6_product_3 0 rfl rfl)
theorem dX6_product_73 : decode cX6_product 73 = .ok (.aload_n 1, 1) := dk_43 (dk_at dksX6_product_3 3 rfl rfl)
theorem dX6_product_74 : decode cX6_product 74 = .ok (.areturn, 1) := dk_176 (dk_at dksX6_product_3 4 rfl rfl)
abbrev cX6_unit : ByteArray := prog_9_method_18_code
def yX6_unit : MethodName := ⟨RX6, "unit", "()LWindingSquare$Term;"⟩
def dkwX6_unit_3 : List UInt8 := [27, 183, 0, 188, 176]
abbrev dktX6_unit_3 : List UInt8 := dkwX6_unit_3 ++ []
def dkwX6_unit_2 : List UInt8 := [180, 0, 48, 183, 0, 139, 191, 42, 180, 0, 134, 17, 0, 180, 100, 60, 42, 182, 0, 145, 187, 0, 186, 89]
abbrev dktX6_unit_2 : List UInt8 := dkwX6_unit_2 ++ dktX6_unit_3
def dkwX6_unit_1 : List UInt8 := [42, 180, 0, 134, 17, 0, 180, 17, 0, 189, 184, 0, 44, 154, 0, 16, 187, 0, 137, 89, 4, 42]
abbrev dktX6_unit_1 : List UInt8 := dkwX6_unit_1 ++ dktX6_unit_2
def dkwX6_unit_0 : List UInt8 := [42, 180, 0, 134, 5, 160, 0, 19, 187, 0, 177, 89, 42, 3, 17, 39, 15, 182, 0, 179, 183, 0, 183, 176]
abbrev dktX6_unit_0 : List UInt8 := dkwX6_unit_0 ++ dktX6_unit_1
theorem dksX6_unit_0 : cX6_unit.data.toList.drop 0 = dktX6_unit_0 := by decide +kernel
theorem dksX6_unit_1 : cX6_unit.data.toList.drop 24 = dktX6_unit_1 := dk_seg dksX6_unit_0 24 rfl rfl
theorem dksX6_unit_2 : cX6_unit.data.toList.drop 46 = dktX6_unit_2 := dk_seg dksX6_unit_1 22 rfl rfl
theorem dksX6_unit_3 : cX6_unit.data.toList.drop 70 = dktX6_unit_3 := dk_seg dksX6_unit_2 24 rfl rfl
theorem dX6_unit_0 : decode cX6_unit 0 = .ok (.aload_n 0, 1) := dk_42 (dk_at dksX6_unit_0 0 rfl rfl)
theorem dX6_unit_1 : decode cX6_unit 1 = .ok (.getfield 134, 3) := dk_180 0 134 (dk_at dksX6_unit_0 1 rfl rfl)
theorem dX6_unit_4 : decode cX6_unit 4 = .ok (.iconst 2, 1) := dk_5 (dk_at dksX6_unit_0 4 rfl rfl)
theorem dX6_unit_5 : decode cX6_unit 5 = .ok (.if_icmp .ne 19, 3) := dk_160 0 19 (dk_at dksX6_unit_0 5 rfl rfl)
theorem dX6_unit_8 : decode cX6_unit 8 = .ok (.new 177, 3) := dk_187 0 177 (dk_at dksX6_unit_0 8 rfl rfl)
theorem dX6_unit_11 : decode cX6_unit 11 = .ok (.dup, 1) := dk_89 (dk_at dksX6_unit_0 11 rfl rfl)
theorem dX6_unit_12 : decode cX6_unit 12 = .ok (.aload_n 0, 1) := dk_42 (dk_at dksX6_unit_0 12 rfl rfl)
theorem dX6_unit_13 : decode cX6_unit 13 = .ok (.iconst 0, 1) := dk_3 (dk_at dksX6_unit_0 13 rfl rfl)
theorem dX6_unit_14 : decode cX6_unit 14 = .ok (.sipush 9999, 3) := dk_17 39 15 (dk_at dksX6_unit_0 14 rfl rfl)
theorem dX6_unit_17 : decode cX6_unit 17 = .ok (.invokevirtual 179, 3) := dk_182 0 179 (dk_at dksX6_unit_0 17 rfl rfl)
theorem dX6_unit_20 : decode cX6_unit 20 = .ok (.invokespecial 183, 3) := dk_183 0 183 (dk_at dksX6_unit_0 20 rfl rfl)
theorem dX6_unit_23 : decode cX6_unit 23 = .ok (.areturn, 1) := dk_176 (dk_at dksX6_unit_0 23 rfl rfl)
theorem dX6_unit_24 : decode cX6_unit 24 = .ok (.aload_n 0, 1) := dk_42 (dk_at dksX6_unit_1 0 rfl rfl)
theorem dX6_unit_25 : decode cX6_unit 25 = .ok (.getfield 134, 3) := dk_180 0 134 (dk_at dksX6_unit_1 1 rfl rfl)
theorem dX6_unit_28 : decode cX6_unit 28 = .ok (.sipush 180, 3) := dk_17 0 180 (dk_at dksX6_unit_1 4 rfl rfl)
theorem dX6_unit_31 : decode cX6_unit 31 = .ok (.sipush 189, 3) := dk_17 0 189 (dk_at dksX6_unit_1 7 rfl rfl)
theorem dX6_unit_34 : decode cX6_unit 34 = .ok (.invokestatic 44, 3) := dk_184 0 44 (dk_at dksX6_unit_1 10 rfl rfl)
theorem dX6_unit_37 : decode cX6_unit 37 = .ok (.ifCond .ne 16, 3) := dk_154 0 16 (dk_at dksX6_unit_1 13 rfl rfl)
theorem dX6_unit_40 : decode cX6_unit 40 = .ok (.new 137, 3) := dk_187 0 137 (dk_at dksX6_unit_1 16 rfl rfl)
theorem dX6_unit_43 : decode cX6_unit 43 = .ok (.dup, 1) := dk_89 (dk_at dksX6_unit_1 19 rfl rfl)
theorem dX6_unit_44 : decode cX6_unit 44 = .ok (.iconst 1, 1) := dk_4 (dk_at dksX6_unit_1 20 rfl rfl)
theorem dX6_unit_45 : decode cX6_unit 45 = .ok (.aload_n 0, 1) := dk_42 (dk_at dksX6_unit_1 21 rfl rfl)
theorem dX6_unit_46 : decode cX6_unit 46 = .ok (.getfield 48, 3) := dk_180 0 48 (dk_at dksX6_unit_2 0 rfl rfl)
theorem dX6_unit_49 : decode cX6_unit 49 = .ok (.invokespecial 139, 3) := dk_183 0 139 (dk_at dksX6_unit_2 3 rfl rfl)
theorem dX6_unit_52 : decode cX6_unit 52 = .ok (.athrow, 1) := dk_191 (dk_at dksX6_unit_2 6 rfl rfl)
theorem dX6_unit_53 : decode cX6_unit 53 = .ok (.aload_n 0, 1) := dk_42 (dk_at dksX6_unit_2 7 rfl rfl)
theorem dX6_unit_54 : decode cX6_unit 54 = .ok (.getfield 134, 3) := dk_180 0 134 (dk_at dksX6_unit_2 8 rfl rfl)
theorem dX6_unit_57 : decode cX6_unit 57 = .ok (.sipush 180, 3) := dk_17 0 180 (dk_at dksX6_unit_2 11 rfl rfl)
theorem dX6_unit_60 : decode cX6_unit 60 = .ok (.isub, 1) := dk_100 (dk_at dksX6_unit_2 14 rfl rfl)
theorem dX6_unit_61 : decode cX6_unit 61 = .ok (.istore_n 1, 1) := dk_60 (dk_at dksX6_unit_2 15 rfl rfl)
theorem dX6_unit_62 : decode cX6_unit 62 = .ok (.aload_n 0, 1) := dk_42 (dk_at dksX6_unit_2 16 rfl rfl)
theorem dX6_unit_63 : decode cX6_unit 63 = .ok (.invokevirtual 145, 3) := dk_182 0 145 (dk_at dksX6_unit_2 17 rfl rfl)
theorem dX6_unit_66 : decode cX6_unit 66 = .ok (.new 186, 3) := dk_187 0 186 (dk_at dksX6_unit_2 20 rfl rfl)
theorem dX6_unit_69 : decode cX6_unit 69 = .ok (.dup, 1) := dk_89 (dk_at dksX6_unit_2 23 rfl rfl)
theorem dX6_unit_70 : decode cX6_unit 70 = .ok (.iload_n 1, 1) := dk_27 (dk_at dksX6_unit_3 0 rfl rfl)
theorem dX6_unit_71 : decode cX6_unit 71 = .ok (.invokespecial 188, 3) := dk_183 0 188 (dk_at dksX6_unit_3 1 rfl rfl)
theorem dX6_unit_74 : decode cX6_unit 74 = .ok (.areturn, 1) := dk_176 (dk_at dksX6_unit_3 4 rfl rfl)
abbrev cX6_number : ByteArray := prog_9_method_11_code
def yX6_number : MethodName := ⟨RX6, "number", "(II)I"⟩
def dkwX6_number_2 : List UInt8 := [42, 180, 0, 142, 62, 42, 182, 0, 145, 29, 172]
abbrev dktX6_number_2 : List UInt8 := dkwX6_number_2 ++ []
def dkwX6_number_1 : List UInt8 := [180, 0, 142, 27, 28, 184, 0, 44, 154, 0, 16, 187, 0, 137, 89, 5, 42, 180, 0, 48, 183, 0, 139, 191]
abbrev dktX6_number_1 : List UInt8 := dkwX6_number_1 ++ dktX6_number_2
def dkwX6_number_0 : List UInt8 := [42, 180, 0, 134, 5, 159, 0, 16, 187, 0, 137, 89, 4, 42, 180, 0, 48, 183, 0, 139, 191, 42]
abbrev dktX6_number_0 : List UInt8 := dkwX6_number_0 ++ dktX6_number_1
theorem dksX6_number_0 : cX6_number.data.toList.drop 0 = dktX6_number_0 := by decide +kernel
theorem dksX6_number_1 : cX6_number.data.toList.drop 22 = dktX6_number_1 := dk_seg dksX6_number_0 22 rfl rfl
theorem dksX6_number_2 : cX6_number.data.toList.drop 46 = dktX6_number_2 := dk_seg dksX6_number_1 24 rfl rfl
theorem dX6_number_0 : decode cX6_number 0 = .ok (.aload_n 0, 1) := dk_42 (dk_at dksX6_number_0 0 rfl rfl)
theorem dX6_number_1 : decode cX6_number 1 = .ok (.getfield 134, 3) := dk_180 0 134 (dk_at dksX6_number_0 1 rfl rfl)
theorem dX6_number_4 : decode cX6_number 4 = .ok (.iconst 2, 1) := dk_5 (dk_at dksX6_number_0 4 rfl rfl)
theorem dX6_number_5 : decode cX6_number 5 = .ok (.if_icmp .eq 16, 3) := dk_159 0 16 (dk_at dksX6_number_0 5 rfl rfl)
theorem dX6_number_8 : decode cX6_number 8 = .ok (.new 137, 3) := dk_187 0 137 (dk_at dksX6_number_0 8 rfl rfl)
theorem dX6_number_11 : decode cX6_number 11 = .ok (.dup, 1) := dk_89 (dk_at dksX6_number_0 11 rfl rfl)
theorem dX6_number_12 : decode cX6_number 12 = .ok (.iconst 1, 1) := dk_4 (dk_at dksX6_number_0 12 rfl rfl)
theorem dX6_number_13 : decode cX6_number 13 = .ok (.aload_n 0, 1) := dk_42 (dk_at dksX6_number_0 13 rfl rfl)
theorem dX6_number_14 : decode cX6_number 14 = .ok (.getfield 48, 3) := dk_180 0 48 (dk_at dksX6_number_0 14 rfl rfl)
theorem dX6_number_17 : decode cX6_number 17 = .ok (.invokespecial 139, 3) := dk_183 0 139 (dk_at dksX6_number_0 17 rfl rfl)
theorem dX6_number_20 : decode cX6_number 20 = .ok (.athrow, 1) := dk_191 (dk_at dksX6_number_0 20 rfl rfl)
theorem dX6_number_21 : decode cX6_number 21 = .ok (.aload_n 0, 1) := dk_42 (dk_at dksX6_number_0 21 rfl rfl)
theorem dX6_number_22 : decode cX6_number 22 = .ok (.getfield 142, 3) := dk_180 0 142 (dk_at dksX6_number_1 0 rfl rfl)
theorem dX6_number_25 : decode cX6_number 25 = .ok (.iload_n 1, 1) := dk_27 (dk_at dksX6_number_1 3 rfl rfl)
theorem dX6_number_26 : decode cX6_number 26 = .ok (.iload_n 2, 1) := dk_28 (dk_at dksX6_number_1 4 rfl rfl)
theorem dX6_number_27 : decode cX6_number 27 = .ok (.invokestatic 44, 3) := dk_184 0 44 (dk_at dksX6_number_1 5 rfl rfl)
theorem dX6_number_30 : decode cX6_number 30 = .ok (.ifCond .ne 16, 3) := dk_154 0 16 (dk_at dksX6_number_1 8 rfl rfl)
theorem dX6_number_33 : decode cX6_number 33 = .ok (.new 137, 3) := dk_187 0 137 (dk_at dksX6_number_1 11 rfl rfl)
theorem dX6_number_36 : decode cX6_number 36 = .ok (.dup, 1) := dk_89 (dk_at dksX6_number_1 14 rfl rfl)
theorem dX6_number_37 : decode cX6_number 37 = .ok (.iconst 2, 1) := dk_5 (dk_at dksX6_number_1 15 rfl rfl)
theorem dX6_number_38 : decode cX6_number 38 = .ok (.aload_n 0, 1) := dk_42 (dk_at dksX6_number_1 16 rfl rfl)
theorem dX6_number_39 : decode cX6_number 39 = .ok (.getfield 48, 3) := dk_180 0 48 (dk_at dksX6_number_1 17 rfl rfl)
theorem dX6_number_42 : decode cX6_number 42 = .ok (.invokespecial 139, 3) := dk_183 0 139 (dk_at dksX6_number_1 20 rfl rfl)
theorem dX6_number_45 : decode cX6_number 45 = .ok (.athrow, 1) := dk_191 (dk_at dksX6_number_1 23 rfl rfl)
theorem dX6_number_46 : decode cX6_number 46 = .ok (.aload_n 0, 1) := dk_42 (dk_at dksX6_number_2 0 rfl rfl)
theorem dX6_number_47 : decode cX6_number 47 = .ok (.getfield 142, 3) := dk_180 0 142 (dk_at dksX6_number_2 1 rfl rfl)
theorem dX6_number_50 : decode cX6_number 50 = .ok (.istore_n 3, 1) := dk_62 (dk_at dksX6_number_2 4 rfl rfl)
theorem dX6_number_51 : decode cX6_number 51 = .ok (.aload_n 0, 1) := dk_42 (dk_at dksX6_number_2 5 rfl rfl)
theorem dX6_number_52 : decode cX6_number 52 = .ok (.invokevirtual 145, 3) := dk_182 0 145 (dk_at dksX6_number_2 6 rfl rfl)
theorem dX6_number_55 : decode cX6_number 55 = .ok (.iload_n 3, 1) := dk_29 (dk_at dksX6_number_2 9 rfl rfl)
theorem dX6_number_56 : decode cX6_number 56 = .ok (.ireturn, 1) := dk_172 (dk_at dksX6_number_2 10 rfl rfl)
abbrev cX6_any : ByteArray := prog_9_method_19_code
def yX6_any : MethodName := ⟨RX6, "any", "()LWindingSquare$Term;"⟩
def dkwX6_any_1 : List UInt8 := [182, 0, 189, 183, 0, 171, 76, 167, 255, 230, 43, 176]
abbrev dktX6_any_1 : List UInt8 := dkwX6_any_1 ++ []
def dkwX6_any_0 : List UInt8 := [42, 182, 0, 189, 76, 42, 180, 0, 134, 7, 160, 0, 24, 42, 182, 0, 145, 187, 0, 169, 89, 43, 7, 42]
abbrev dktX6_any_0 : List UInt8 := dkwX6_any_0 ++ dktX6_any_1
theorem dksX6_any_0 : cX6_any.data.toList.drop 0 = dktX6_any_0 := by decide +kernel
theorem dksX6_any_1 : cX6_any.data.toList.drop 24 = dktX6_any_1 := dk_seg dksX6_any_0 24 rfl rfl
theorem dX6_any_0 : decode cX6_any 0 = .ok (.aload_n 0, 1) := dk_42 (dk_at dksX6_any_0 0 rfl rfl)
theorem dX6_any_1 : decode cX6_any 1 = .ok (.invokevirtual 189, 3) := dk_182 0 189 (dk_at dksX6_any_0 1 rfl rfl)
theorem dX6_any_4 : decode cX6_any 4 = .ok (.astore_n 1, 1) := dk_76 (dk_at dksX6_any_0 4 rfl rfl)
theorem dX6_any_5 : decode cX6_any 5 = .ok (.aload_n 0, 1) := dk_42 (dk_at dksX6_any_0 5 rfl rfl)
theorem dX6_any_6 : decode cX6_any 6 = .ok (.getfield 134, 3) := dk_180 0 134 (dk_at dksX6_any_0 6 rfl rfl)
theorem dX6_any_9 : decode cX6_any 9 = .ok (.iconst 4, 1) := dk_7 (dk_at dksX6_any_0 9 rfl rfl)
theorem dX6_any_10 : decode cX6_any 10 = .ok (.if_icmp .ne 24, 3) := dk_160 0 24 (dk_at dksX6_any_0 10 rfl rfl)
theorem dX6_any_13 : decode cX6_any 13 = .ok (.aload_n 0, 1) := dk_42 (dk_at dksX6_any_0 13 rfl rfl)
theorem dX6_any_14 : decode cX6_any 14 = .ok (.invokevirtual 145, 3) := dk_182 0 145 (dk_at dksX6_any_0 14 rfl rfl)
theorem dX6_any_17 : decode cX6_any 17 = .ok (.new 169, 3) := dk_187 0 169 (dk_at dksX6_any_0 17 rfl rfl)
theorem dX6_any_20 : decode cX6_any 20 = .ok (.dup, 1) := dk_89 (dk_at dksX6_any_0 20 rfl rfl)
theorem dX6_any_21 : decode cX6_any 21 = .ok (.aload_n 1, 1) := dk_43 (dk_at dksX6_any_0 21 rfl rfl)
theorem dX6_any_22 : decode cX6_any 22 = .ok (.iconst 4, 1) := dk_7 (dk_at dksX6_any_0 22 rfl rfl)
theorem dX6_any_23 : decode cX6_any 23 = .ok (.aload_n 0, 1) := dk_42 (dk_at dksX6_any_0 23 rfl rfl)
theorem dX6_any_24 : decode cX6_any 24 = .ok (.invokevirtual 189, 3) := dk_182 0 189 (dk_at dksX6_any_1 0 rfl rfl)
theorem dX6_any_27 : decode cX6_any 27 = .ok (.invokespecial 171, 3) := dk_183 0 171 (dk_at dksX6_any_1 3 rfl rfl)
theorem dX6_any_30 : decode cX6_any 30 = .ok (.astore_n 1, 1) := dk_76 (dk_at dksX6_any_1 6 rfl rfl)
theorem dX6_any_31 : decode cX6_any 31 = .ok (.goto (-26), 3) := dk_167 255 230 (dk_at dksX6_any_1 7 rfl rfl)
theorem dX6_any_34 : decode cX6_any 34 = .ok (.aload_n 1, 1) := dk_43 (dk_at dksX6_any_1 10 rfl rfl)
theorem dX6_any_35 : decode cX6_any 35 = .ok (.areturn, 1) := dk_176 (dk_at dksX6_any_1 11 rfl rfl)
abbrev cX6_all : ByteArray := prog_9_method_20_code
def yX6_all : MethodName := ⟨RX6, "all", "()LWindingSquare$Term;"⟩
def dkwX6_all_1 : List UInt8 := [182, 0, 192, 183, 0, 171, 76, 167, 255, 230, 43, 176]
abbrev dktX6_all_1 : List UInt8 := dkwX6_all_1 ++ []
def dkwX6_all_0 : List UInt8 := [42, 182, 0, 192, 76, 42, 180, 0, 134, 8, 160, 0, 24, 42, 182, 0, 145, 187, 0, 169, 89, 43, 8, 42]
abbrev dktX6_all_0 : List UInt8 := dkwX6_all_0 ++ dktX6_all_1
theorem dksX6_all_0 : cX6_all.data.toList.drop 0 = dktX6_all_0 := by decide +kernel
theorem dksX6_all_1 : cX6_all.data.toList.drop 24 = dktX6_all_1 := dk_seg dksX6_all_0 24 rfl rfl
theorem dX6_all_0 : decode cX6_all 0 = .ok (.aload_n 0, 1) := dk_42 (dk_at dksX6_all_0 0 rfl rfl)
theorem dX6_all_1 : decode cX6_all 1 = .ok (.invokevirtual 192, 3) := dk_182 0 192 (dk_at dksX6_all_0 1 rfl rfl)
theorem dX6_all_4 : decode cX6_all 4 = .ok (.astore_n 1, 1) := dk_76 (dk_at dksX6_all_0 4 rfl rfl)
theorem dX6_all_5 : decode cX6_all 5 = .ok (.aload_n 0, 1) := dk_42 (dk_at dksX6_all_0 5 rfl rfl)
theorem dX6_all_6 : decode cX6_all 6 = .ok (.getfield 134, 3) := dk_180 0 134 (dk_at dksX6_all_0 6 rfl rfl)
theorem dX6_all_9 : decode cX6_all 9 = .ok (.iconst 5, 1) := dk_8 (dk_at dksX6_all_0 9 rfl rfl)
theorem dX6_all_10 : decode cX6_all 10 = .ok (.if_icmp .ne 24, 3) := dk_160 0 24 (dk_at dksX6_all_0 10 rfl rfl)
theorem dX6_all_13 : decode cX6_all 13 = .ok (.aload_n 0, 1) := dk_42 (dk_at dksX6_all_0 13 rfl rfl)
theorem dX6_all_14 : decode cX6_all 14 = .ok (.invokevirtual 145, 3) := dk_182 0 145 (dk_at dksX6_all_0 14 rfl rfl)
theorem dX6_all_17 : decode cX6_all 17 = .ok (.new 169, 3) := dk_187 0 169 (dk_at dksX6_all_0 17 rfl rfl)
theorem dX6_all_20 : decode cX6_all 20 = .ok (.dup, 1) := dk_89 (dk_at dksX6_all_0 20 rfl rfl)
theorem dX6_all_21 : decode cX6_all 21 = .ok (.aload_n 1, 1) := dk_43 (dk_at dksX6_all_0 21 rfl rfl)
theorem dX6_all_22 : decode cX6_all 22 = .ok (.iconst 5, 1) := dk_8 (dk_at dksX6_all_0 22 rfl rfl)
theorem dX6_all_23 : decode cX6_all 23 = .ok (.aload_n 0, 1) := dk_42 (dk_at dksX6_all_0 23 rfl rfl)
theorem dX6_all_24 : decode cX6_all 24 = .ok (.invokevirtual 192, 3) := dk_182 0 192 (dk_at dksX6_all_1 0 rfl rfl)
theorem dX6_all_27 : decode cX6_all 27 = .ok (.invokespecial 171, 3) := dk_183 0 171 (dk_at dksX6_all_1 3 rfl rfl)
theorem dX6_all_30 : decode cX6_all 30 = .ok (.astore_n 1, 1) := dk_76 (dk_at dksX6_all_1 6 rfl rfl)
theorem dX6_all_31 : decode cX6_all 31 = .ok (.goto (-26), 3) := dk_167 255 230 (dk_at dksX6_all_1 7 rfl rfl)
theorem dX6_all_34 : decode cX6_all 34 = .ok (.aload_n 1, 1) := dk_43 (dk_at dksX6_all_1 10 rfl rfl)
theorem dX6_all_35 : decode cX6_all 35 = .ok (.areturn, 1) := dk_176 (dk_at dksX6_all_1 11 rfl rfl)
abbrev cX6_one : ByteArray := prog_9_method_21_code
def yX6_one : MethodName := ⟨RX6, "one", "()LWindingSquare$Term;"⟩
def dkwX6_one_6 : List UInt8 := [176]
abbrev dktX6_one_6 : List UInt8 := dkwX6_one_6 ++ []
def dkwX6_one_5 : List UInt8 := [180, 0, 48, 183, 0, 139, 191, 42, 182, 0, 145, 187, 0, 169, 89, 43, 28, 42, 182, 0, 209, 183, 0, 171]
abbrev dktX6_one_5 : List UInt8 := dkwX6_one_5 ++ dktX6_one_6
def dkwX6_one_4 : List UInt8 := [16, 60, 159, 0, 28, 28, 16, 61, 159, 0, 22, 28, 16, 62, 159, 0, 16, 187, 0, 137, 89, 4, 42]
abbrev dktX6_one_4 : List UInt8 := dkwX6_one_4 ++ dktX6_one_5
def dkwX6_one_3 : List UInt8 := [42, 89, 180, 0, 162, 4, 100, 181, 0, 162, 44, 176, 42, 182, 0, 209, 76, 42, 180, 0, 134, 61, 28]
abbrev dktX6_one_3 : List UInt8 := dkwX6_one_3 ++ dktX6_one_4
def dkwX6_one_2 : List UInt8 := [182, 0, 192, 183, 0, 200, 167, 0, 7, 42, 182, 0, 203, 77, 27, 154, 0, 9, 42, 16, 41, 182, 0, 206]
abbrev dktX6_one_2 : List UInt8 := dkwX6_one_2 ++ dktX6_one_3
def dkwX6_one_1 : List UInt8 := [160, 0, 7, 4, 167, 0, 4, 3, 60, 42, 182, 0, 195, 27, 153, 0, 17, 187, 0, 198, 89, 42]
abbrev dktX6_one_1 : List UInt8 := dkwX6_one_1 ++ dktX6_one_2
def dkwX6_one_0 : List UInt8 := [42, 180, 0, 134, 16, 6, 159, 0, 12, 42, 180, 0, 134, 16, 40, 160, 0, 67, 42, 180, 0, 134, 16, 6]
abbrev dktX6_one_0 : List UInt8 := dkwX6_one_0 ++ dktX6_one_1
theorem dksX6_one_0 : cX6_one.data.toList.drop 0 = dktX6_one_0 := by decide +kernel
theorem dksX6_one_1 : cX6_one.data.toList.drop 24 = dktX6_one_1 := dk_seg dksX6_one_0 24 rfl rfl
theorem dksX6_one_2 : cX6_one.data.toList.drop 46 = dktX6_one_2 := dk_seg dksX6_one_1 22 rfl rfl
theorem dksX6_one_3 : cX6_one.data.toList.drop 70 = dktX6_one_3 := dk_seg dksX6_one_2 24 rfl rfl
theorem dksX6_one_4 : cX6_one.data.toList.drop 93 = dktX6_one_4 := dk_seg dksX6_one_3 23 rfl rfl
theorem dksX6_one_5 : cX6_one.data.toList.drop 116 = dktX6_one_5 := dk_seg dksX6_one_4 23 rfl rfl
theorem dksX6_one_6 : cX6_one.data.toList.drop 140 = dktX6_one_6 := dk_seg dksX6_one_5 24 rfl rfl
theorem dX6_one_0 : decode cX6_one 0 = .ok (.aload_n 0, 1) := dk_42 (dk_at dksX6_one_0 0 rfl rfl)
theorem dX6_one_1 : decode cX6_one 1 = .ok (.getfield 134, 3) := dk_180 0 134 (dk_at dksX6_one_0 1 rfl rfl)
theorem dX6_one_4 : decode cX6_one 4 = .ok (.bipush 6, 2) := dk_16 6 (dk_at dksX6_one_0 4 rfl rfl)
theorem dX6_one_6 : decode cX6_one 6 = .ok (.if_icmp .eq 12, 3) := dk_159 0 12 (dk_at dksX6_one_0 6 rfl rfl)
theorem dX6_one_9 : decode cX6_one 9 = .ok (.aload_n 0, 1) := dk_42 (dk_at dksX6_one_0 9 rfl rfl)
theorem dX6_one_10 : decode cX6_one 10 = .ok (.getfield 134, 3) := dk_180 0 134 (dk_at dksX6_one_0 10 rfl rfl)
theorem dX6_one_13 : decode cX6_one 13 = .ok (.bipush 40, 2) := dk_16 40 (dk_at dksX6_one_0 13 rfl rfl)
theorem dX6_one_15 : decode cX6_one 15 = .ok (.if_icmp .ne 67, 3) := dk_160 0 67 (dk_at dksX6_one_0 15 rfl rfl)
theorem dX6_one_18 : decode cX6_one 18 = .ok (.aload_n 0, 1) := dk_42 (dk_at dksX6_one_0 18 rfl rfl)
theorem dX6_one_19 : decode cX6_one 19 = .ok (.getfield 134, 3) := dk_180 0 134 (dk_at dksX6_one_0 19 rfl rfl)
theorem dX6_one_22 : decode cX6_one 22 = .ok (.bipush 6, 2) := dk_16 6 (dk_at dksX6_one_0 22 rfl rfl)
theorem dX6_one_24 : decode cX6_one 24 = .ok (.if_icmp .ne 7, 3) := dk_160 0 7 (dk_at dksX6_one_1 0 rfl rfl)
theorem dX6_one_27 : decode cX6_one 27 = .ok (.iconst 1, 1) := dk_4 (dk_at dksX6_one_1 3 rfl rfl)
theorem dX6_one_28 : decode cX6_one 28 = .ok (.goto 4, 3) := dk_167 0 4 (dk_at dksX6_one_1 4 rfl rfl)
theorem dX6_one_31 : decode cX6_one 31 = .ok (.iconst 0, 1) := dk_3 (dk_at dksX6_one_1 7 rfl rfl)
theorem dX6_one_32 : decode cX6_one 32 = .ok (.istore_n 1, 1) := dk_60 (dk_at dksX6_one_1 8 rfl rfl)
theorem dX6_one_33 : decode cX6_one 33 = .ok (.aload_n 0, 1) := dk_42 (dk_at dksX6_one_1 9 rfl rfl)
theorem dX6_one_34 : decode cX6_one 34 = .ok (.invokevirtual 195, 3) := dk_182 0 195 (dk_at dksX6_one_1 10 rfl rfl)
theorem dX6_one_37 : decode cX6_one 37 = .ok (.iload_n 1, 1) := dk_27 (dk_at dksX6_one_1 13 rfl rfl)
theorem dX6_one_38 : decode cX6_one 38 = .ok (.ifCond .eq 17, 3) := dk_153 0 17 (dk_at dksX6_one_1 14 rfl rfl)
theorem dX6_one_41 : decode cX6_one 41 = .ok (.new 198, 3) := dk_187 0 198 (dk_at dksX6_one_1 17 rfl rfl)
theorem dX6_one_44 : decode cX6_one 44 = .ok (.dup, 1) := dk_89 (dk_at dksX6_one_1 20 rfl rfl)
theorem dX6_one_45 : decode cX6_one 45 = .ok (.aload_n 0, 1) := dk_42 (dk_at dksX6_one_1 21 rfl rfl)
theorem dX6_one_46 : decode cX6_one 46 = .ok (.invokevirtual 192, 3) := dk_182 0 192 (dk_at dksX6_one_2 0 rfl rfl)
theorem dX6_one_49 : decode cX6_one 49 = .ok (.invokespecial 200, 3) := dk_183 0 200 (dk_at dksX6_one_2 3 rfl rfl)
theorem dX6_one_52 : decode cX6_one 52 = .ok (.goto 7, 3) := dk_167 0 7 (dk_at dksX6_one_2 6 rfl rfl)
theorem dX6_one_55 : decode cX6_one 55 = .ok (.aload_n 0, 1) := dk_42 (dk_at dksX6_one_2 9 rfl rfl)
theorem dX6_one_56 : decode cX6_one 56 = .ok (.invokevirtual 203, 3) := dk_182 0 203 (dk_at dksX6_one_2 10 rfl rfl)
theorem dX6_one_59 : decode cX6_one 59 = .ok (.astore_n 2, 1) := dk_77 (dk_at dksX6_one_2 13 rfl rfl)
theorem dX6_one_60 : decode cX6_one 60 = .ok (.iload_n 1, 1) := dk_27 (dk_at dksX6_one_2 14 rfl rfl)
theorem dX6_one_61 : decode cX6_one 61 = .ok (.ifCond .ne 9, 3) := dk_154 0 9 (dk_at dksX6_one_2 15 rfl rfl)
theorem dX6_one_64 : decode cX6_one 64 = .ok (.aload_n 0, 1) := dk_42 (dk_at dksX6_one_2 18 rfl rfl)
theorem dX6_one_65 : decode cX6_one 65 = .ok (.bipush 41, 2) := dk_16 41 (dk_at dksX6_one_2 19 rfl rfl)
theorem dX6_one_67 : decode cX6_one 67 = .ok (.invokevirtual 206, 3) := dk_182 0 206 (dk_at dksX6_one_2 21 rfl rfl)
theorem dX6_one_70 : decode cX6_one 70 = .ok (.aload_n 0, 1) := dk_42 (dk_at dksX6_one_3 0 rfl rfl)
theorem dX6_one_71 : decode cX6_one 71 = .ok (.dup, 1) := dk_89 (dk_at dksX6_one_3 1 rfl rfl)
theorem dX6_one_72 : decode cX6_one 72 = .ok (.getfield 162, 3) := dk_180 0 162 (dk_at dksX6_one_3 2 rfl rfl)
theorem dX6_one_75 : decode cX6_one 75 = .ok (.iconst 1, 1) := dk_4 (dk_at dksX6_one_3 5 rfl rfl)
theorem dX6_one_76 : decode cX6_one 76 = .ok (.isub, 1) := dk_100 (dk_at dksX6_one_3 6 rfl rfl)
theorem dX6_one_77 : decode cX6_one 77 = .ok (.putfield 162, 3) := dk_181 0 162 (dk_at dksX6_one_3 7 rfl rfl)
theorem dX6_one_80 : decode cX6_one 80 = .ok (.aload_n 2, 1) := dk_44 (dk_at dksX6_one_3 10 rfl rfl)
theorem dX6_one_81 : decode cX6_one 81 = .ok (.areturn, 1) := dk_176 (dk_at dksX6_one_3 11 rfl rfl)
theorem dX6_one_82 : decode cX6_one 82 = .ok (.aload_n 0, 1) := dk_42 (dk_at dksX6_one_3 12 rfl rfl)
theorem dX6_one_83 : decode cX6_one 83 = .ok (.invokevirtual 209, 3) := dk_182 0 209 (dk_at dksX6_one_3 13 rfl rfl)
theorem dX6_one_86 : decode cX6_one 86 = .ok (.astore_n 1, 1) := dk_76 (dk_at dksX6_one_3 16 rfl rfl)
theorem dX6_one_87 : decode cX6_one 87 = .ok (.aload_n 0, 1) := dk_42 (dk_at dksX6_one_3 17 rfl rfl)
theorem dX6_one_88 : decode cX6_one 88 = .ok (.getfield 134, 3) := dk_180 0 134 (dk_at dksX6_one_3 18 rfl rfl)
theorem dX6_one_91 : decode cX6_one 91 = .ok (.istore_n 2, 1) := dk_61 (dk_at dksX6_one_3 21 rfl rfl)
theorem dX6_one_92 : decode cX6_one 92 = .ok (.iload_n 2, 1) := dk_28 (dk_at dksX6_one_3 22 rfl rfl)
theorem dX6_one_93 : decode cX6_one 93 = .ok (.bipush 60, 2) := dk_16 60 (dk_at dksX6_one_4 0 rfl rfl)
theorem dX6_one_95 : decode cX6_one 95 = .ok (.if_icmp .eq 28, 3) := dk_159 0 28 (dk_at dksX6_one_4 2 rfl rfl)
theorem dX6_one_98 : decode cX6_one 98 = .ok (.iload_n 2, 1) := dk_28 (dk_at dksX6_one_4 5 rfl rfl)
theorem dX6_one_99 : decode cX6_one 99 = .ok (.bipush 61, 2) := dk_16 61 (dk_at dksX6_one_4 6 rfl rfl)
theorem dX6_one_101 : decode cX6_one 101 = .ok (.if_icmp .eq 22, 3) := dk_159 0 22 (dk_at dksX6_one_4 8 rfl rfl)
theorem dX6_one_104 : decode cX6_one 104 = .ok (.iload_n 2, 1) := dk_28 (dk_at dksX6_one_4 11 rfl rfl)
theorem dX6_one_105 : decode cX6_one 105 = .ok (.bipush 62, 2) := dk_16 62 (dk_at dksX6_one_4 12 rfl rfl)
theorem dX6_one_107 : decode cX6_one 107 = .ok (.if_icmp .eq 16, 3) := dk_159 0 16 (dk_at dksX6_one_4 14 rfl rfl)
theorem dX6_one_110 : decode cX6_one 110 = .ok (.new 137, 3) := dk_187 0 137 (dk_at dksX6_one_4 17 rfl rfl)
theorem dX6_one_113 : decode cX6_one 113 = .ok (.dup, 1) := dk_89 (dk_at dksX6_one_4 20 rfl rfl)
theorem dX6_one_114 : decode cX6_one 114 = .ok (.iconst 1, 1) := dk_4 (dk_at dksX6_one_4 21 rfl rfl)
theorem dX6_one_115 : decode cX6_one 115 = .ok (.aload_n 0, 1) := dk_42 (dk_at dksX6_one_4 22 rfl rfl)
theorem dX6_one_116 : decode cX6_one 116 = .ok (.getfield 48, 3) := dk_180 0 48 (dk_at dksX6_one_5 0 rfl rfl)
theorem dX6_one_119 : decode cX6_one 119 = .ok (.invokespecial 139, 3) := dk_183 0 139 (dk_at dksX6_one_5 3 rfl rfl)
theorem dX6_one_122 : decode cX6_one 122 = .ok (.athrow, 1) := dk_191 (dk_at dksX6_one_5 6 rfl rfl)
theorem dX6_one_123 : decode cX6_one 123 = .ok (.aload_n 0, 1) := dk_42 (dk_at dksX6_one_5 7 rfl rfl)
theorem dX6_one_124 : decode cX6_one 124 = .ok (.invokevirtual 145, 3) := dk_182 0 145 (dk_at dksX6_one_5 8 rfl rfl)
theorem dX6_one_127 : decode cX6_one 127 = .ok (.new 169, 3) := dk_187 0 169 (dk_at dksX6_one_5 11 rfl rfl)
theorem dX6_one_130 : decode cX6_one 130 = .ok (.dup, 1) := dk_89 (dk_at dksX6_one_5 14 rfl rfl)
theorem dX6_one_131 : decode cX6_one 131 = .ok (.aload_n 1, 1) := dk_43 (dk_at dksX6_one_5 15 rfl rfl)
theorem dX6_one_132 : decode cX6_one 132 = .ok (.iload_n 2, 1) := dk_28 (dk_at dksX6_one_5 16 rfl rfl)
theorem dX6_one_133 : decode cX6_one 133 = .ok (.aload_n 0, 1) := dk_42 (dk_at dksX6_one_5 17 rfl rfl)
theorem dX6_one_134 : decode cX6_one 134 = .ok (.invokevirtual 209, 3) := dk_182 0 209 (dk_at dksX6_one_5 18 rfl rfl)
theorem dX6_one_137 : decode cX6_one 137 = .ok (.invokespecial 171, 3) := dk_183 0 171 (dk_at dksX6_one_5 21 rfl rfl)
theorem dX6_one_140 : decode cX6_one 140 = .ok (.areturn, 1) := dk_176 (dk_at dksX6_one_6 0 rfl rfl)
abbrev cX6_opens : ByteArray := prog_9_method_15_code
def yX6_opens : MethodName := ⟨RX6, "opens", "()V"⟩
def dkwX6_opens_1 : List UInt8 := [180, 0, 162, 4, 96, 181, 0, 162, 42, 182, 0, 145, 177]
abbrev dktX6_opens_1 : List UInt8 := dkwX6_opens_1 ++ []
def dkwX6_opens_0 : List UInt8 := [42, 180, 0, 162, 16, 8, 160, 0, 16, 187, 0, 137, 89, 6, 42, 180, 0, 48, 183, 0, 139, 191, 42, 89]
abbrev dktX6_opens_0 : List UInt8 := dkwX6_opens_0 ++ dktX6_opens_1
theorem dksX6_opens_0 : cX6_opens.data.toList.drop 0 = dktX6_opens_0 := by decide +kernel
theorem dksX6_opens_1 : cX6_opens.data.toList.drop 24 = dktX6_opens_1 := dk_seg dksX6_opens_0 24 rfl rfl
theorem dX6_opens_0 : decode cX6_opens 0 = .ok (.aload_n 0, 1) := dk_42 (dk_at dksX6_opens_0 0 rfl rfl)
theorem dX6_opens_1 : decode cX6_opens 1 = .ok (.getfield 162, 3) := dk_180 0 162 (dk_at dksX6_opens_0 1 rfl rfl)
theorem dX6_opens_4 : decode cX6_opens 4 = .ok (.bipush 8, 2) := dk_16 8 (dk_at dksX6_opens_0 4 rfl rfl)
theorem dX6_opens_6 : decode cX6_opens 6 = .ok (.if_icmp .ne 16, 3) := dk_160 0 16 (dk_at dksX6_opens_0 6 rfl rfl)
theorem dX6_opens_9 : decode cX6_opens 9 = .ok (.new 137, 3) := dk_187 0 137 (dk_at dksX6_opens_0 9 rfl rfl)
theorem dX6_opens_12 : decode cX6_opens 12 = .ok (.dup, 1) := dk_89 (dk_at dksX6_opens_0 12 rfl rfl)
theorem dX6_opens_13 : decode cX6_opens 13 = .ok (.iconst 3, 1) := dk_6 (dk_at dksX6_opens_0 13 rfl rfl)
theorem dX6_opens_14 : decode cX6_opens 14 = .ok (.aload_n 0, 1) := dk_42 (dk_at dksX6_opens_0 14 rfl rfl)
theorem dX6_opens_15 : decode cX6_opens 15 = .ok (.getfield 48, 3) := dk_180 0 48 (dk_at dksX6_opens_0 15 rfl rfl)
theorem dX6_opens_18 : decode cX6_opens 18 = .ok (.invokespecial 139, 3) := dk_183 0 139 (dk_at dksX6_opens_0 18 rfl rfl)
theorem dX6_opens_21 : decode cX6_opens 21 = .ok (.athrow, 1) := dk_191 (dk_at dksX6_opens_0 21 rfl rfl)
theorem dX6_opens_22 : decode cX6_opens 22 = .ok (.aload_n 0, 1) := dk_42 (dk_at dksX6_opens_0 22 rfl rfl)
theorem dX6_opens_23 : decode cX6_opens 23 = .ok (.dup, 1) := dk_89 (dk_at dksX6_opens_0 23 rfl rfl)
theorem dX6_opens_24 : decode cX6_opens 24 = .ok (.getfield 162, 3) := dk_180 0 162 (dk_at dksX6_opens_1 0 rfl rfl)
theorem dX6_opens_27 : decode cX6_opens 27 = .ok (.iconst 1, 1) := dk_4 (dk_at dksX6_opens_1 3 rfl rfl)
theorem dX6_opens_28 : decode cX6_opens 28 = .ok (.iadd, 1) := dk_96 (dk_at dksX6_opens_1 4 rfl rfl)
theorem dX6_opens_29 : decode cX6_opens 29 = .ok (.putfield 162, 3) := dk_181 0 162 (dk_at dksX6_opens_1 5 rfl rfl)
theorem dX6_opens_32 : decode cX6_opens 32 = .ok (.aload_n 0, 1) := dk_42 (dk_at dksX6_opens_1 8 rfl rfl)
theorem dX6_opens_33 : decode cX6_opens 33 = .ok (.invokevirtual 145, 3) := dk_182 0 145 (dk_at dksX6_opens_1 9 rfl rfl)
theorem dX6_opens_36 : decode cX6_opens 36 = .ok (.return_, 1) := dk_177 (dk_at dksX6_opens_1 12 rfl rfl)
abbrev cX6_must : ByteArray := prog_9_method_14_code
def yX6_must : MethodName := ⟨RX6, "must", "(I)V"⟩
def dkwX6_must_1 : List UInt8 := [182, 0, 145, 177]
abbrev dktX6_must_1 : List UInt8 := dkwX6_must_1 ++ []
def dkwX6_must_0 : List UInt8 := [42, 180, 0, 134, 27, 159, 0, 16, 187, 0, 137, 89, 4, 42, 180, 0, 48, 183, 0, 139, 191, 42]
abbrev dktX6_must_0 : List UInt8 := dkwX6_must_0 ++ dktX6_must_1
theorem dksX6_must_0 : cX6_must.data.toList.drop 0 = dktX6_must_0 := by decide +kernel
theorem dksX6_must_1 : cX6_must.data.toList.drop 22 = dktX6_must_1 := dk_seg dksX6_must_0 22 rfl rfl
theorem dX6_must_0 : decode cX6_must 0 = .ok (.aload_n 0, 1) := dk_42 (dk_at dksX6_must_0 0 rfl rfl)
theorem dX6_must_1 : decode cX6_must 1 = .ok (.getfield 134, 3) := dk_180 0 134 (dk_at dksX6_must_0 1 rfl rfl)
theorem dX6_must_4 : decode cX6_must 4 = .ok (.iload_n 1, 1) := dk_27 (dk_at dksX6_must_0 4 rfl rfl)
theorem dX6_must_5 : decode cX6_must 5 = .ok (.if_icmp .eq 16, 3) := dk_159 0 16 (dk_at dksX6_must_0 5 rfl rfl)
theorem dX6_must_8 : decode cX6_must 8 = .ok (.new 137, 3) := dk_187 0 137 (dk_at dksX6_must_0 8 rfl rfl)
theorem dX6_must_11 : decode cX6_must 11 = .ok (.dup, 1) := dk_89 (dk_at dksX6_must_0 11 rfl rfl)
theorem dX6_must_12 : decode cX6_must 12 = .ok (.iconst 1, 1) := dk_4 (dk_at dksX6_must_0 12 rfl rfl)
theorem dX6_must_13 : decode cX6_must 13 = .ok (.aload_n 0, 1) := dk_42 (dk_at dksX6_must_0 13 rfl rfl)
theorem dX6_must_14 : decode cX6_must 14 = .ok (.getfield 48, 3) := dk_180 0 48 (dk_at dksX6_must_0 14 rfl rfl)
theorem dX6_must_17 : decode cX6_must 17 = .ok (.invokespecial 139, 3) := dk_183 0 139 (dk_at dksX6_must_0 17 rfl rfl)
theorem dX6_must_20 : decode cX6_must 20 = .ok (.athrow, 1) := dk_191 (dk_at dksX6_must_0 20 rfl rfl)
theorem dX6_must_21 : decode cX6_must 21 = .ok (.aload_n 0, 1) := dk_42 (dk_at dksX6_must_0 21 rfl rfl)
theorem dX6_must_22 : decode cX6_must 22 = .ok (.invokevirtual 145, 3) := dk_182 0 145 (dk_at dksX6_must_1 0 rfl rfl)
theorem dX6_must_25 : decode cX6_must 25 = .ok (.return_, 1) := dk_177 (dk_at dksX6_must_1 3 rfl rfl)
abbrev cX6_stones : ByteArray := prog_9_method_24_code
def yX6_stones : MethodName := ⟨RX6, "stones", "()[I"⟩
def dkwX6_stones_6 : List UInt8 := [180, 0, 232, 4, 96, 181, 0, 232, 167, 255, 113, 42, 180, 0, 15, 176]
abbrev dktX6_stones_6 : List UInt8 := dkwX6_stones_6 ++ []
def dkwX6_stones_5 : List UInt8 := [182, 0, 179, 54, 5, 42, 16, 59, 182, 0, 206, 42, 27, 28, 29, 21, 4, 21, 5, 182, 0, 235, 42, 89]
abbrev dktX6_stones_5 : List UInt8 := dkwX6_stones_5 ++ dktX6_stones_6
def dkwX6_stones_4 : List UInt8 := [16, 14, 160, 0, 25, 42, 182, 0, 145, 42, 3, 16, 11, 182, 0, 179, 54, 4, 42, 3, 16, 11]
abbrev dktX6_stones_4 : List UInt8 := dkwX6_stones_4 ++ dktX6_stones_5
def dkwX6_stones_3 : List UInt8 := [16, 11, 182, 0, 179, 61, 42, 3, 16, 11, 182, 0, 179, 62, 28, 54, 4, 29, 54, 5, 42, 180, 0, 134]
abbrev dktX6_stones_3 : List UInt8 := dkwX6_stones_3 ++ dktX6_stones_4
def dkwX6_stones_2 : List UInt8 := [16, 16, 160, 0, 16, 187, 0, 137, 89, 6, 42, 180, 0, 48, 183, 0, 139, 191, 42, 182, 0, 145, 42, 3]
abbrev dktX6_stones_2 : List UInt8 := dkwX6_stones_2 ++ dktX6_stones_3
def dkwX6_stones_1 : List UInt8 := [184, 0, 44, 154, 0, 16, 187, 0, 137, 89, 4, 42, 180, 0, 48, 183, 0, 139, 191, 42, 180, 0, 232]
abbrev dktX6_stones_1 : List UInt8 := dkwX6_stones_1 ++ dktX6_stones_2
def dkwX6_stones_0 : List UInt8 := [42, 182, 0, 145, 42, 180, 0, 134, 153, 0, 142, 42, 180, 0, 134, 16, 10, 100, 60, 27, 3, 6]
abbrev dktX6_stones_0 : List UInt8 := dkwX6_stones_0 ++ dktX6_stones_1
theorem dksX6_stones_0 : cX6_stones.data.toList.drop 0 = dktX6_stones_0 := by decide +kernel
theorem dksX6_stones_1 : cX6_stones.data.toList.drop 22 = dktX6_stones_1 := dk_seg dksX6_stones_0 22 rfl rfl
theorem dksX6_stones_2 : cX6_stones.data.toList.drop 45 = dktX6_stones_2 := dk_seg dksX6_stones_1 23 rfl rfl
theorem dksX6_stones_3 : cX6_stones.data.toList.drop 69 = dktX6_stones_3 := dk_seg dksX6_stones_2 24 rfl rfl
theorem dksX6_stones_4 : cX6_stones.data.toList.drop 93 = dktX6_stones_4 := dk_seg dksX6_stones_3 24 rfl rfl
theorem dksX6_stones_5 : cX6_stones.data.toList.drop 115 = dktX6_stones_5 := dk_seg dksX6_stones_4 22 rfl rfl
theorem dksX6_stones_6 : cX6_stones.data.toList.drop 139 = dktX6_stones_6 := dk_seg dksX6_stones_5 24 rfl rfl
theorem dX6_stones_0 : decode cX6_stones 0 = .ok (.aload_n 0, 1) := dk_42 (dk_at dksX6_stones_0 0 rfl rfl)
theorem dX6_stones_1 : decode cX6_stones 1 = .ok (.invokevirtual 145, 3) := dk_182 0 145 (dk_at dksX6_stones_0 1 rfl rfl)
theorem dX6_stones_4 : decode cX6_stones 4 = .ok (.aload_n 0, 1) := dk_42 (dk_at dksX6_stones_0 4 rfl rfl)
theorem dX6_stones_5 : decode cX6_stones 5 = .ok (.getfield 134, 3) := dk_180 0 134 (dk_at dksX6_stones_0 5 rfl rfl)
theorem dX6_stones_8 : decode cX6_stones 8 = .ok (.ifCond .eq 142, 3) := dk_153 0 142 (dk_at dksX6_stones_0 8 rfl rfl)
theorem dX6_stones_11 : decode cX6_stones 11 = .ok (.aload_n 0, 1) := dk_42 (dk_at dksX6_stones_0 11 rfl rfl)
theorem dX6_stones_12 : decode cX6_stones 12 = .ok (.getfield 134, 3) := dk_180 0 134 (dk_at dksX6_stones_0 12 rfl rfl)
theorem dX6_stones_15 : decode cX6_stones 15 = .ok (.bipush 10, 2) := dk_16 10 (dk_at dksX6_stones_0 15 rfl rfl)
theorem dX6_stones_17 : decode cX6_stones 17 = .ok (.isub, 1) := dk_100 (dk_at dksX6_stones_0 17 rfl rfl)
theorem dX6_stones_18 : decode cX6_stones 18 = .ok (.istore_n 1, 1) := dk_60 (dk_at dksX6_stones_0 18 rfl rfl)
theorem dX6_stones_19 : decode cX6_stones 19 = .ok (.iload_n 1, 1) := dk_27 (dk_at dksX6_stones_0 19 rfl rfl)
theorem dX6_stones_20 : decode cX6_stones 20 = .ok (.iconst 0, 1) := dk_3 (dk_at dksX6_stones_0 20 rfl rfl)
theorem dX6_stones_21 : decode cX6_stones 21 = .ok (.iconst 3, 1) := dk_6 (dk_at dksX6_stones_0 21 rfl rfl)
theorem dX6_stones_22 : decode cX6_stones 22 = .ok (.invokestatic 44, 3) := dk_184 0 44 (dk_at dksX6_stones_1 0 rfl rfl)
theorem dX6_stones_25 : decode cX6_stones 25 = .ok (.ifCond .ne 16, 3) := dk_154 0 16 (dk_at dksX6_stones_1 3 rfl rfl)
theorem dX6_stones_28 : decode cX6_stones 28 = .ok (.new 137, 3) := dk_187 0 137 (dk_at dksX6_stones_1 6 rfl rfl)
theorem dX6_stones_31 : decode cX6_stones 31 = .ok (.dup, 1) := dk_89 (dk_at dksX6_stones_1 9 rfl rfl)
theorem dX6_stones_32 : decode cX6_stones 32 = .ok (.iconst 1, 1) := dk_4 (dk_at dksX6_stones_1 10 rfl rfl)
theorem dX6_stones_33 : decode cX6_stones 33 = .ok (.aload_n 0, 1) := dk_42 (dk_at dksX6_stones_1 11 rfl rfl)
theorem dX6_stones_34 : decode cX6_stones 34 = .ok (.getfield 48, 3) := dk_180 0 48 (dk_at dksX6_stones_1 12 rfl rfl)
theorem dX6_stones_37 : decode cX6_stones 37 = .ok (.invokespecial 139, 3) := dk_183 0 139 (dk_at dksX6_stones_1 15 rfl rfl)
theorem dX6_stones_40 : decode cX6_stones 40 = .ok (.athrow, 1) := dk_191 (dk_at dksX6_stones_1 18 rfl rfl)
theorem dX6_stones_41 : decode cX6_stones 41 = .ok (.aload_n 0, 1) := dk_42 (dk_at dksX6_stones_1 19 rfl rfl)
theorem dX6_stones_42 : decode cX6_stones 42 = .ok (.getfield 232, 3) := dk_180 0 232 (dk_at dksX6_stones_1 20 rfl rfl)
theorem dX6_stones_45 : decode cX6_stones 45 = .ok (.bipush 16, 2) := dk_16 16 (dk_at dksX6_stones_2 0 rfl rfl)
theorem dX6_stones_47 : decode cX6_stones 47 = .ok (.if_icmp .ne 16, 3) := dk_160 0 16 (dk_at dksX6_stones_2 2 rfl rfl)
theorem dX6_stones_50 : decode cX6_stones 50 = .ok (.new 137, 3) := dk_187 0 137 (dk_at dksX6_stones_2 5 rfl rfl)
theorem dX6_stones_53 : decode cX6_stones 53 = .ok (.dup, 1) := dk_89 (dk_at dksX6_stones_2 8 rfl rfl)
theorem dX6_stones_54 : decode cX6_stones 54 = .ok (.iconst 3, 1) := dk_6 (dk_at dksX6_stones_2 9 rfl rfl)
theorem dX6_stones_55 : decode cX6_stones 55 = .ok (.aload_n 0, 1) := dk_42 (dk_at dksX6_stones_2 10 rfl rfl)
theorem dX6_stones_56 : decode cX6_stones 56 = .ok (.getfield 48, 3) := dk_180 0 48 (dk_at dksX6_stones_2 11 rfl rfl)
theorem dX6_stones_59 : decode cX6_stones 59 = .ok (.invokespecial 139, 3) := dk_183 0 139 (dk_at dksX6_stones_2 14 rfl rfl)
theorem dX6_stones_62 : decode cX6_stones 62 = .ok (.athrow, 1) := dk_191 (dk_at dksX6_stones_2 17 rfl rfl)
theorem dX6_stones_63 : decode cX6_stones 63 = .ok (.aload_n 0, 1) := dk_42 (dk_at dksX6_stones_2 18 rfl rfl)
theorem dX6_stones_64 : decode cX6_stones 64 = .ok (.invokevirtual 145, 3) := dk_182 0 145 (dk_at dksX6_stones_2 19 rfl rfl)
theorem dX6_stones_67 : decode cX6_stones 67 = .ok (.aload_n 0, 1) := dk_42 (dk_at dksX6_stones_2 22 rfl rfl)
theorem dX6_stones_68 : decode cX6_stones 68 = .ok (.iconst 0, 1) := dk_3 (dk_at dksX6_stones_2 23 rfl rfl)
theorem dX6_stones_69 : decode cX6_stones 69 = .ok (.bipush 11, 2) := dk_16 11 (dk_at dksX6_stones_3 0 rfl rfl)
theorem dX6_stones_71 : decode cX6_stones 71 = .ok (.invokevirtual 179, 3) := dk_182 0 179 (dk_at dksX6_stones_3 2 rfl rfl)
theorem dX6_stones_74 : decode cX6_stones 74 = .ok (.istore_n 2, 1) := dk_61 (dk_at dksX6_stones_3 5 rfl rfl)
theorem dX6_stones_75 : decode cX6_stones 75 = .ok (.aload_n 0, 1) := dk_42 (dk_at dksX6_stones_3 6 rfl rfl)
theorem dX6_stones_76 : decode cX6_stones 76 = .ok (.iconst 0, 1) := dk_3 (dk_at dksX6_stones_3 7 rfl rfl)
theorem dX6_stones_77 : decode cX6_stones 77 = .ok (.bipush 11, 2) := dk_16 11 (dk_at dksX6_stones_3 8 rfl rfl)
theorem dX6_stones_79 : decode cX6_stones 79 = .ok (.invokevirtual 179, 3) := dk_182 0 179 (dk_at dksX6_stones_3 10 rfl rfl)
theorem dX6_stones_82 : decode cX6_stones 82 = .ok (.istore_n 3, 1) := dk_62 (dk_at dksX6_stones_3 13 rfl rfl)
theorem dX6_stones_83 : decode cX6_stones 83 = .ok (.iload_n 2, 1) := dk_28 (dk_at dksX6_stones_3 14 rfl rfl)
theorem dX6_stones_84 : decode cX6_stones 84 = .ok (.istore 4, 2) := dk_54 4 (dk_at dksX6_stones_3 15 rfl rfl)
theorem dX6_stones_86 : decode cX6_stones 86 = .ok (.iload_n 3, 1) := dk_29 (dk_at dksX6_stones_3 17 rfl rfl)
theorem dX6_stones_87 : decode cX6_stones 87 = .ok (.istore 5, 2) := dk_54 5 (dk_at dksX6_stones_3 18 rfl rfl)
theorem dX6_stones_89 : decode cX6_stones 89 = .ok (.aload_n 0, 1) := dk_42 (dk_at dksX6_stones_3 20 rfl rfl)
theorem dX6_stones_90 : decode cX6_stones 90 = .ok (.getfield 134, 3) := dk_180 0 134 (dk_at dksX6_stones_3 21 rfl rfl)
theorem dX6_stones_93 : decode cX6_stones 93 = .ok (.bipush 14, 2) := dk_16 14 (dk_at dksX6_stones_4 0 rfl rfl)
theorem dX6_stones_95 : decode cX6_stones 95 = .ok (.if_icmp .ne 25, 3) := dk_160 0 25 (dk_at dksX6_stones_4 2 rfl rfl)
theorem dX6_stones_98 : decode cX6_stones 98 = .ok (.aload_n 0, 1) := dk_42 (dk_at dksX6_stones_4 5 rfl rfl)
theorem dX6_stones_99 : decode cX6_stones 99 = .ok (.invokevirtual 145, 3) := dk_182 0 145 (dk_at dksX6_stones_4 6 rfl rfl)
theorem dX6_stones_102 : decode cX6_stones 102 = .ok (.aload_n 0, 1) := dk_42 (dk_at dksX6_stones_4 9 rfl rfl)
theorem dX6_stones_103 : decode cX6_stones 103 = .ok (.iconst 0, 1) := dk_3 (dk_at dksX6_stones_4 10 rfl rfl)
theorem dX6_stones_104 : decode cX6_stones 104 = .ok (.bipush 11, 2) := dk_16 11 (dk_at dksX6_stones_4 11 rfl rfl)
theorem dX6_stones_106 : decode cX6_stones 106 = .ok (.invokevirtual 179, 3) := dk_182 0 179 (dk_at dksX6_stones_4 13 rfl rfl)
theorem dX6_stones_109 : decode cX6_stones 109 = .ok (.istore 4, 2) := dk_54 4 (dk_at dksX6_stones_4 16 rfl rfl)
theorem dX6_stones_111 : decode cX6_stones 111 = .ok (.aload_n 0, 1) := dk_42 (dk_at dksX6_stones_4 18 rfl rfl)
theorem dX6_stones_112 : decode cX6_stones 112 = .ok (.iconst 0, 1) := dk_3 (dk_at dksX6_stones_4 19 rfl rfl)
theorem dX6_stones_113 : decode cX6_stones 113 = .ok (.bipush 11, 2) := dk_16 11 (dk_at dksX6_stones_4 20 rfl rfl)
theorem dX6_stones_115 : decode cX6_stones 115 = .ok (.invokevirtual 179, 3) := dk_182 0 179 (dk_at dksX6_stones_5 0 rfl rfl)
theorem dX6_stones_118 : decode cX6_stones 118 = .ok (.istore 5, 2) := dk_54 5 (dk_at dksX6_stones_5 3 rfl rfl)
theorem dX6_stones_120 : decode cX6_stones 120 = .ok (.aload_n 0, 1) := dk_42 (dk_at dksX6_stones_5 5 rfl rfl)
theorem dX6_stones_121 : decode cX6_stones 121 = .ok (.bipush 59, 2) := dk_16 59 (dk_at dksX6_stones_5 6 rfl rfl)
theorem dX6_stones_123 : decode cX6_stones 123 = .ok (.invokevirtual 206, 3) := dk_182 0 206 (dk_at dksX6_stones_5 8 rfl rfl)
theorem dX6_stones_126 : decode cX6_stones 126 = .ok (.aload_n 0, 1) := dk_42 (dk_at dksX6_stones_5 11 rfl rfl)
theorem dX6_stones_127 : decode cX6_stones 127 = .ok (.iload_n 1, 1) := dk_27 (dk_at dksX6_stones_5 12 rfl rfl)
theorem dX6_stones_128 : decode cX6_stones 128 = .ok (.iload_n 2, 1) := dk_28 (dk_at dksX6_stones_5 13 rfl rfl)
theorem dX6_stones_129 : decode cX6_stones 129 = .ok (.iload_n 3, 1) := dk_29 (dk_at dksX6_stones_5 14 rfl rfl)
theorem dX6_stones_130 : decode cX6_stones 130 = .ok (.iload 4, 2) := dk_21 4 (dk_at dksX6_stones_5 15 rfl rfl)
theorem dX6_stones_132 : decode cX6_stones 132 = .ok (.iload 5, 2) := dk_21 5 (dk_at dksX6_stones_5 17 rfl rfl)
theorem dX6_stones_134 : decode cX6_stones 134 = .ok (.invokevirtual 235, 3) := dk_182 0 235 (dk_at dksX6_stones_5 19 rfl rfl)
theorem dX6_stones_137 : decode cX6_stones 137 = .ok (.aload_n 0, 1) := dk_42 (dk_at dksX6_stones_5 22 rfl rfl)
theorem dX6_stones_138 : decode cX6_stones 138 = .ok (.dup, 1) := dk_89 (dk_at dksX6_stones_5 23 rfl rfl)
theorem dX6_stones_139 : decode cX6_stones 139 = .ok (.getfield 232, 3) := dk_180 0 232 (dk_at dksX6_stones_6 0 rfl rfl)
theorem dX6_stones_142 : decode cX6_stones 142 = .ok (.iconst 1, 1) := dk_4 (dk_at dksX6_stones_6 3 rfl rfl)
theorem dX6_stones_143 : decode cX6_stones 143 = .ok (.iadd, 1) := dk_96 (dk_at dksX6_stones_6 4 rfl rfl)
theorem dX6_stones_144 : decode cX6_stones 144 = .ok (.putfield 232, 3) := dk_181 0 232 (dk_at dksX6_stones_6 5 rfl rfl)
theorem dX6_stones_147 : decode cX6_stones 147 = .ok (.goto (-143), 3) := dk_167 255 113 (dk_at dksX6_stones_6 8 rfl rfl)
theorem dX6_stones_150 : decode cX6_stones 150 = .ok (.aload_n 0, 1) := dk_42 (dk_at dksX6_stones_6 11 rfl rfl)
theorem dX6_stones_151 : decode cX6_stones 151 = .ok (.getfield 15, 3) := dk_180 0 15 (dk_at dksX6_stones_6 12 rfl rfl)
theorem dX6_stones_154 : decode cX6_stones 154 = .ok (.areturn, 1) := dk_176 (dk_at dksX6_stones_6 15 rfl rfl)
abbrev cX6_lays : ByteArray := prog_9_method_23_code
def yX6_lays : MethodName := ⟨RX6, "lays", "(IIIII)V"⟩
def dkwX6_lays_2 : List UInt8 := [104, 21, 7, 96, 27, 79, 132, 7, 1, 167, 255, 228, 132, 6, 1, 167, 255, 203, 177]
abbrev dktX6_lays_2 : List UInt8 := dkwX6_lays_2 ++ []
def dkwX6_lays_1 : List UInt8 := [184, 0, 224, 54, 7, 21, 7, 28, 21, 4, 184, 0, 229, 163, 0, 23, 42, 180, 0, 15, 16, 12, 21, 6]
abbrev dktX6_lays_1 : List UInt8 := dkwX6_lays_1 ++ dktX6_lays_2
def dkwX6_lays_0 : List UInt8 := [29, 21, 5, 184, 0, 224, 54, 6, 21, 6, 29, 21, 5, 184, 0, 229, 163, 0, 48, 28, 21, 4]
abbrev dktX6_lays_0 : List UInt8 := dkwX6_lays_0 ++ dktX6_lays_1
theorem dksX6_lays_0 : cX6_lays.data.toList.drop 0 = dktX6_lays_0 := by decide +kernel
theorem dksX6_lays_1 : cX6_lays.data.toList.drop 22 = dktX6_lays_1 := dk_seg dksX6_lays_0 22 rfl rfl
theorem dksX6_lays_2 : cX6_lays.data.toList.drop 46 = dktX6_lays_2 := dk_seg dksX6_lays_1 24 rfl rfl
theorem dX6_lays_0 : decode cX6_lays 0 = .ok (.iload_n 3, 1) := dk_29 (dk_at dksX6_lays_0 0 rfl rfl)
theorem dX6_lays_1 : decode cX6_lays 1 = .ok (.iload 5, 2) := dk_21 5 (dk_at dksX6_lays_0 1 rfl rfl)
theorem dX6_lays_3 : decode cX6_lays 3 = .ok (.invokestatic 224, 3) := dk_184 0 224 (dk_at dksX6_lays_0 3 rfl rfl)
theorem dX6_lays_6 : decode cX6_lays 6 = .ok (.istore 6, 2) := dk_54 6 (dk_at dksX6_lays_0 6 rfl rfl)
theorem dX6_lays_8 : decode cX6_lays 8 = .ok (.iload 6, 2) := dk_21 6 (dk_at dksX6_lays_0 8 rfl rfl)
theorem dX6_lays_10 : decode cX6_lays 10 = .ok (.iload_n 3, 1) := dk_29 (dk_at dksX6_lays_0 10 rfl rfl)
theorem dX6_lays_11 : decode cX6_lays 11 = .ok (.iload 5, 2) := dk_21 5 (dk_at dksX6_lays_0 11 rfl rfl)
theorem dX6_lays_13 : decode cX6_lays 13 = .ok (.invokestatic 229, 3) := dk_184 0 229 (dk_at dksX6_lays_0 13 rfl rfl)
theorem dX6_lays_16 : decode cX6_lays 16 = .ok (.if_icmp .gt 48, 3) := dk_163 0 48 (dk_at dksX6_lays_0 16 rfl rfl)
theorem dX6_lays_19 : decode cX6_lays 19 = .ok (.iload_n 2, 1) := dk_28 (dk_at dksX6_lays_0 19 rfl rfl)
theorem dX6_lays_20 : decode cX6_lays 20 = .ok (.iload 4, 2) := dk_21 4 (dk_at dksX6_lays_0 20 rfl rfl)
theorem dX6_lays_22 : decode cX6_lays 22 = .ok (.invokestatic 224, 3) := dk_184 0 224 (dk_at dksX6_lays_1 0 rfl rfl)
theorem dX6_lays_25 : decode cX6_lays 25 = .ok (.istore 7, 2) := dk_54 7 (dk_at dksX6_lays_1 3 rfl rfl)
theorem dX6_lays_27 : decode cX6_lays 27 = .ok (.iload 7, 2) := dk_21 7 (dk_at dksX6_lays_1 5 rfl rfl)
theorem dX6_lays_29 : decode cX6_lays 29 = .ok (.iload_n 2, 1) := dk_28 (dk_at dksX6_lays_1 7 rfl rfl)
theorem dX6_lays_30 : decode cX6_lays 30 = .ok (.iload 4, 2) := dk_21 4 (dk_at dksX6_lays_1 8 rfl rfl)
theorem dX6_lays_32 : decode cX6_lays 32 = .ok (.invokestatic 229, 3) := dk_184 0 229 (dk_at dksX6_lays_1 10 rfl rfl)
theorem dX6_lays_35 : decode cX6_lays 35 = .ok (.if_icmp .gt 23, 3) := dk_163 0 23 (dk_at dksX6_lays_1 13 rfl rfl)
theorem dX6_lays_38 : decode cX6_lays 38 = .ok (.aload_n 0, 1) := dk_42 (dk_at dksX6_lays_1 16 rfl rfl)
theorem dX6_lays_39 : decode cX6_lays 39 = .ok (.getfield 15, 3) := dk_180 0 15 (dk_at dksX6_lays_1 17 rfl rfl)
theorem dX6_lays_42 : decode cX6_lays 42 = .ok (.bipush 12, 2) := dk_16 12 (dk_at dksX6_lays_1 20 rfl rfl)
theorem dX6_lays_44 : decode cX6_lays 44 = .ok (.iload 6, 2) := dk_21 6 (dk_at dksX6_lays_1 22 rfl rfl)
theorem dX6_lays_46 : decode cX6_lays 46 = .ok (.imul, 1) := dk_104 (dk_at dksX6_lays_2 0 rfl rfl)
theorem dX6_lays_47 : decode cX6_lays 47 = .ok (.iload 7, 2) := dk_21 7 (dk_at dksX6_lays_2 1 rfl rfl)
theorem dX6_lays_49 : decode cX6_lays 49 = .ok (.iadd, 1) := dk_96 (dk_at dksX6_lays_2 3 rfl rfl)
theorem dX6_lays_50 : decode cX6_lays 50 = .ok (.iload_n 1, 1) := dk_27 (dk_at dksX6_lays_2 4 rfl rfl)
theorem dX6_lays_51 : decode cX6_lays 51 = .ok (.iastore, 1) := dk_79 (dk_at dksX6_lays_2 5 rfl rfl)
theorem dX6_lays_52 : decode cX6_lays 52 = .ok (.iinc 7 1, 3) := dk_132 7 1 (dk_at dksX6_lays_2 6 rfl rfl)
theorem dX6_lays_55 : decode cX6_lays 55 = .ok (.goto (-28), 3) := dk_167 255 228 (dk_at dksX6_lays_2 9 rfl rfl)
theorem dX6_lays_58 : decode cX6_lays 58 = .ok (.iinc 6 1, 3) := dk_132 6 1 (dk_at dksX6_lays_2 12 rfl rfl)
theorem dX6_lays_61 : decode cX6_lays 61 = .ok (.goto (-53), 3) := dk_167 255 203 (dk_at dksX6_lays_2 15 rfl rfl)
theorem dX6_lays_64 : decode cX6_lays 64 = .ok (.return_, 1) := dk_177 (dk_at dksX6_lays_2 18 rfl rfl)
abbrev cX6_ways : ByteArray := prog_9_method_27_code
def yX6_ways : MethodName := ⟨RX6, "ways", "()Ljava/util/ArrayList;"⟩
def dkwX6_ways_5 : List UInt8 := [182, 1, 5, 87, 42, 89, 180, 0, 232, 4, 96, 181, 0, 232, 167, 255, 160, 42, 180, 0, 22, 176]
abbrev dktX6_ways_5 : List UInt8 := dkwX6_ways_5 ++ []
def dkwX6_ways_4 : List UInt8 := [180, 0, 3, 180, 0, 248, 180, 0, 252, 4, 100, 182, 0, 179, 60, 42, 180, 0, 22, 27, 42, 182, 1, 1]
abbrev dktX6_ways_4 : List UInt8 := dkwX6_ways_4 ++ dktX6_ways_5
def dkwX6_ways_3 : List UInt8 := [160, 0, 16, 187, 0, 137, 89, 6, 42, 180, 0, 48, 183, 0, 139, 191, 42, 182, 0, 145, 42, 3, 42]
abbrev dktX6_ways_3 : List UInt8 := dkwX6_ways_3 ++ dktX6_ways_4
def dkwX6_ways_2 : List UInt8 := [159, 0, 16, 187, 0, 137, 89, 4, 42, 180, 0, 48, 183, 0, 139, 191, 42, 180, 0, 232, 16, 16]
abbrev dktX6_ways_2 : List UInt8 := dkwX6_ways_2 ++ dktX6_ways_3
def dkwX6_ways_1 : List UInt8 := [132, 1, 1, 167, 255, 232, 42, 182, 0, 145, 42, 180, 0, 134, 153, 0, 95, 42, 180, 0, 134, 16, 15]
abbrev dktX6_ways_1 : List UInt8 := dkwX6_ways_1 ++ dktX6_ways_2
def dkwX6_ways_0 : List UInt8 := [3, 60, 27, 16, 16, 162, 0, 24, 42, 180, 0, 22, 187, 0, 19, 89, 183, 0, 21, 182, 0, 220, 87]
abbrev dktX6_ways_0 : List UInt8 := dkwX6_ways_0 ++ dktX6_ways_1
theorem dksX6_ways_0 : cX6_ways.data.toList.drop 0 = dktX6_ways_0 := by decide +kernel
theorem dksX6_ways_1 : cX6_ways.data.toList.drop 23 = dktX6_ways_1 := dk_seg dksX6_ways_0 23 rfl rfl
theorem dksX6_ways_2 : cX6_ways.data.toList.drop 46 = dktX6_ways_2 := dk_seg dksX6_ways_1 23 rfl rfl
theorem dksX6_ways_3 : cX6_ways.data.toList.drop 68 = dktX6_ways_3 := dk_seg dksX6_ways_2 22 rfl rfl
theorem dksX6_ways_4 : cX6_ways.data.toList.drop 91 = dktX6_ways_4 := dk_seg dksX6_ways_3 23 rfl rfl
theorem dksX6_ways_5 : cX6_ways.data.toList.drop 115 = dktX6_ways_5 := dk_seg dksX6_ways_4 24 rfl rfl
theorem dX6_ways_0 : decode cX6_ways 0 = .ok (.iconst 0, 1) := dk_3 (dk_at dksX6_ways_0 0 rfl rfl)
theorem dX6_ways_1 : decode cX6_ways 1 = .ok (.istore_n 1, 1) := dk_60 (dk_at dksX6_ways_0 1 rfl rfl)
theorem dX6_ways_2 : decode cX6_ways 2 = .ok (.iload_n 1, 1) := dk_27 (dk_at dksX6_ways_0 2 rfl rfl)
theorem dX6_ways_3 : decode cX6_ways 3 = .ok (.bipush 16, 2) := dk_16 16 (dk_at dksX6_ways_0 3 rfl rfl)
theorem dX6_ways_5 : decode cX6_ways 5 = .ok (.if_icmp .ge 24, 3) := dk_162 0 24 (dk_at dksX6_ways_0 5 rfl rfl)
theorem dX6_ways_8 : decode cX6_ways 8 = .ok (.aload_n 0, 1) := dk_42 (dk_at dksX6_ways_0 8 rfl rfl)
theorem dX6_ways_9 : decode cX6_ways 9 = .ok (.getfield 22, 3) := dk_180 0 22 (dk_at dksX6_ways_0 9 rfl rfl)
theorem dX6_ways_12 : decode cX6_ways 12 = .ok (.new 19, 3) := dk_187 0 19 (dk_at dksX6_ways_0 12 rfl rfl)
theorem dX6_ways_15 : decode cX6_ways 15 = .ok (.dup, 1) := dk_89 (dk_at dksX6_ways_0 15 rfl rfl)
theorem dX6_ways_16 : decode cX6_ways 16 = .ok (.invokespecial 21, 3) := dk_183 0 21 (dk_at dksX6_ways_0 16 rfl rfl)
theorem dX6_ways_19 : decode cX6_ways 19 = .ok (.invokevirtual 220, 3) := dk_182 0 220 (dk_at dksX6_ways_0 19 rfl rfl)
theorem dX6_ways_22 : decode cX6_ways 22 = .ok (.pop, 1) := dk_87 (dk_at dksX6_ways_0 22 rfl rfl)
theorem dX6_ways_23 : decode cX6_ways 23 = .ok (.iinc 1 1, 3) := dk_132 1 1 (dk_at dksX6_ways_1 0 rfl rfl)
theorem dX6_ways_26 : decode cX6_ways 26 = .ok (.goto (-24), 3) := dk_167 255 232 (dk_at dksX6_ways_1 3 rfl rfl)
theorem dX6_ways_29 : decode cX6_ways 29 = .ok (.aload_n 0, 1) := dk_42 (dk_at dksX6_ways_1 6 rfl rfl)
theorem dX6_ways_30 : decode cX6_ways 30 = .ok (.invokevirtual 145, 3) := dk_182 0 145 (dk_at dksX6_ways_1 7 rfl rfl)
theorem dX6_ways_33 : decode cX6_ways 33 = .ok (.aload_n 0, 1) := dk_42 (dk_at dksX6_ways_1 10 rfl rfl)
theorem dX6_ways_34 : decode cX6_ways 34 = .ok (.getfield 134, 3) := dk_180 0 134 (dk_at dksX6_ways_1 11 rfl rfl)
theorem dX6_ways_37 : decode cX6_ways 37 = .ok (.ifCond .eq 95, 3) := dk_153 0 95 (dk_at dksX6_ways_1 14 rfl rfl)
theorem dX6_ways_40 : decode cX6_ways 40 = .ok (.aload_n 0, 1) := dk_42 (dk_at dksX6_ways_1 17 rfl rfl)
theorem dX6_ways_41 : decode cX6_ways 41 = .ok (.getfield 134, 3) := dk_180 0 134 (dk_at dksX6_ways_1 18 rfl rfl)
theorem dX6_ways_44 : decode cX6_ways 44 = .ok (.bipush 15, 2) := dk_16 15 (dk_at dksX6_ways_1 21 rfl rfl)
theorem dX6_ways_46 : decode cX6_ways 46 = .ok (.if_icmp .eq 16, 3) := dk_159 0 16 (dk_at dksX6_ways_2 0 rfl rfl)
theorem dX6_ways_49 : decode cX6_ways 49 = .ok (.new 137, 3) := dk_187 0 137 (dk_at dksX6_ways_2 3 rfl rfl)
theorem dX6_ways_52 : decode cX6_ways 52 = .ok (.dup, 1) := dk_89 (dk_at dksX6_ways_2 6 rfl rfl)
theorem dX6_ways_53 : decode cX6_ways 53 = .ok (.iconst 1, 1) := dk_4 (dk_at dksX6_ways_2 7 rfl rfl)
theorem dX6_ways_54 : decode cX6_ways 54 = .ok (.aload_n 0, 1) := dk_42 (dk_at dksX6_ways_2 8 rfl rfl)
theorem dX6_ways_55 : decode cX6_ways 55 = .ok (.getfield 48, 3) := dk_180 0 48 (dk_at dksX6_ways_2 9 rfl rfl)
theorem dX6_ways_58 : decode cX6_ways 58 = .ok (.invokespecial 139, 3) := dk_183 0 139 (dk_at dksX6_ways_2 12 rfl rfl)
theorem dX6_ways_61 : decode cX6_ways 61 = .ok (.athrow, 1) := dk_191 (dk_at dksX6_ways_2 15 rfl rfl)
theorem dX6_ways_62 : decode cX6_ways 62 = .ok (.aload_n 0, 1) := dk_42 (dk_at dksX6_ways_2 16 rfl rfl)
theorem dX6_ways_63 : decode cX6_ways 63 = .ok (.getfield 232, 3) := dk_180 0 232 (dk_at dksX6_ways_2 17 rfl rfl)
theorem dX6_ways_66 : decode cX6_ways 66 = .ok (.bipush 16, 2) := dk_16 16 (dk_at dksX6_ways_2 20 rfl rfl)
theorem dX6_ways_68 : decode cX6_ways 68 = .ok (.if_icmp .ne 16, 3) := dk_160 0 16 (dk_at dksX6_ways_3 0 rfl rfl)
theorem dX6_ways_71 : decode cX6_ways 71 = .ok (.new 137, 3) := dk_187 0 137 (dk_at dksX6_ways_3 3 rfl rfl)
theorem dX6_ways_74 : decode cX6_ways 74 = .ok (.dup, 1) := dk_89 (dk_at dksX6_ways_3 6 rfl rfl)
theorem dX6_ways_75 : decode cX6_ways 75 = .ok (.iconst 3, 1) := dk_6 (dk_at dksX6_ways_3 7 rfl rfl)
theorem dX6_ways_76 : decode cX6_ways 76 = .ok (.aload_n 0, 1) := dk_42 (dk_at dksX6_ways_3 8 rfl rfl)
theorem dX6_ways_77 : decode cX6_ways 77 = .ok (.getfield 48, 3) := dk_180 0 48 (dk_at dksX6_ways_3 9 rfl rfl)
theorem dX6_ways_80 : decode cX6_ways 80 = .ok (.invokespecial 139, 3) := dk_183 0 139 (dk_at dksX6_ways_3 12 rfl rfl)
theorem dX6_ways_83 : decode cX6_ways 83 = .ok (.athrow, 1) := dk_191 (dk_at dksX6_ways_3 15 rfl rfl)
theorem dX6_ways_84 : decode cX6_ways 84 = .ok (.aload_n 0, 1) := dk_42 (dk_at dksX6_ways_3 16 rfl rfl)
theorem dX6_ways_85 : decode cX6_ways 85 = .ok (.invokevirtual 145, 3) := dk_182 0 145 (dk_at dksX6_ways_3 17 rfl rfl)
theorem dX6_ways_88 : decode cX6_ways 88 = .ok (.aload_n 0, 1) := dk_42 (dk_at dksX6_ways_3 20 rfl rfl)
theorem dX6_ways_89 : decode cX6_ways 89 = .ok (.iconst 0, 1) := dk_3 (dk_at dksX6_ways_3 21 rfl rfl)
theorem dX6_ways_90 : decode cX6_ways 90 = .ok (.aload_n 0, 1) := dk_42 (dk_at dksX6_ways_3 22 rfl rfl)
theorem dX6_ways_91 : decode cX6_ways 91 = .ok (.getfield 3, 3) := dk_180 0 3 (dk_at dksX6_ways_4 0 rfl rfl)
theorem dX6_ways_94 : decode cX6_ways 94 = .ok (.getfield 248, 3) := dk_180 0 248 (dk_at dksX6_ways_4 3 rfl rfl)
theorem dX6_ways_97 : decode cX6_ways 97 = .ok (.getfield 252, 3) := dk_180 0 252 (dk_at dksX6_ways_4 6 rfl rfl)
theorem dX6_ways_100 : decode cX6_ways 100 = .ok (.iconst 1, 1) := dk_4 (dk_at dksX6_ways_4 9 rfl rfl)
theorem dX6_ways_101 : decode cX6_ways 101 = .ok (.isub, 1) := dk_100 (dk_at dksX6_ways_4 10 rfl rfl)
theorem dX6_ways_102 : decode cX6_ways 102 = .ok (.invokevirtual 179, 3) := dk_182 0 179 (dk_at dksX6_ways_4 11 rfl rfl)
theorem dX6_ways_105 : decode cX6_ways 105 = .ok (.istore_n 1, 1) := dk_60 (dk_at dksX6_ways_4 14 rfl rfl)
theorem dX6_ways_106 : decode cX6_ways 106 = .ok (.aload_n 0, 1) := dk_42 (dk_at dksX6_ways_4 15 rfl rfl)
theorem dX6_ways_107 : decode cX6_ways 107 = .ok (.getfield 22, 3) := dk_180 0 22 (dk_at dksX6_ways_4 16 rfl rfl)
theorem dX6_ways_110 : decode cX6_ways 110 = .ok (.iload_n 1, 1) := dk_27 (dk_at dksX6_ways_4 19 rfl rfl)
theorem dX6_ways_111 : decode cX6_ways 111 = .ok (.aload_n 0, 1) := dk_42 (dk_at dksX6_ways_4 20 rfl rfl)
theorem dX6_ways_112 : decode cX6_ways 112 = .ok (.invokevirtual 257, 3) := dk_182 1 1 (dk_at dksX6_ways_4 21 rfl rfl)
theorem dX6_ways_115 : decode cX6_ways 115 = .ok (.invokevirtual 261, 3) := dk_182 1 5 (dk_at dksX6_ways_5 0 rfl rfl)
theorem dX6_ways_118 : decode cX6_ways 118 = .ok (.pop, 1) := dk_87 (dk_at dksX6_ways_5 3 rfl rfl)
theorem dX6_ways_119 : decode cX6_ways 119 = .ok (.aload_n 0, 1) := dk_42 (dk_at dksX6_ways_5 4 rfl rfl)
theorem dX6_ways_120 : decode cX6_ways 120 = .ok (.dup, 1) := dk_89 (dk_at dksX6_ways_5 5 rfl rfl)
theorem dX6_ways_121 : decode cX6_ways 121 = .ok (.getfield 232, 3) := dk_180 0 232 (dk_at dksX6_ways_5 6 rfl rfl)
theorem dX6_ways_124 : decode cX6_ways 124 = .ok (.iconst 1, 1) := dk_4 (dk_at dksX6_ways_5 9 rfl rfl)
theorem dX6_ways_125 : decode cX6_ways 125 = .ok (.iadd, 1) := dk_96 (dk_at dksX6_ways_5 10 rfl rfl)
theorem dX6_ways_126 : decode cX6_ways 126 = .ok (.putfield 232, 3) := dk_181 0 232 (dk_at dksX6_ways_5 11 rfl rfl)
theorem dX6_ways_129 : decode cX6_ways 129 = .ok (.goto (-96), 3) := dk_167 255 160 (dk_at dksX6_ways_5 14 rfl rfl)
theorem dX6_ways_132 : decode cX6_ways 132 = .ok (.aload_n 0, 1) := dk_42 (dk_at dksX6_ways_5 17 rfl rfl)
theorem dX6_ways_133 : decode cX6_ways 133 = .ok (.getfield 22, 3) := dk_180 0 22 (dk_at dksX6_ways_5 18 rfl rfl)
theorem dX6_ways_136 : decode cX6_ways 136 = .ok (.areturn, 1) := dk_176 (dk_at dksX6_ways_5 21 rfl rfl)
abbrev cX6_steps : ByteArray := prog_9_method_26_code
def yX6_steps : MethodName := ⟨RX6, "steps", "()Ljava/util/ArrayList;"⟩
def dkwX6_steps_3 : List UInt8 := [182, 0, 244, 182, 0, 220, 87, 167, 255, 189, 42, 182, 0, 145, 43, 176]
abbrev dktX6_steps_3 : List UInt8 := dkwX6_steps_3 ++ []
def dkwX6_steps_2 : List UInt8 := [182, 0, 212, 16, 12, 160, 0, 16, 187, 0, 137, 89, 6, 42, 180, 0, 48, 183, 0, 139, 191, 43, 42]
abbrev dktX6_steps_2 : List UInt8 := dkwX6_steps_2 ++ dktX6_steps_3
def dkwX6_steps_1 : List UInt8 := [16, 20, 184, 0, 44, 154, 0, 16, 187, 0, 137, 89, 4, 42, 180, 0, 48, 183, 0, 139, 191, 43]
abbrev dktX6_steps_1 : List UInt8 := dkwX6_steps_1 ++ dktX6_steps_2
def dkwX6_steps_0 : List UInt8 := [187, 0, 19, 89, 183, 0, 21, 76, 42, 180, 0, 134, 16, 59, 159, 0, 64, 42, 180, 0, 134, 16, 16]
abbrev dktX6_steps_0 : List UInt8 := dkwX6_steps_0 ++ dktX6_steps_1
theorem dksX6_steps_0 : cX6_steps.data.toList.drop 0 = dktX6_steps_0 := by decide +kernel
theorem dksX6_steps_1 : cX6_steps.data.toList.drop 23 = dktX6_steps_1 := dk_seg dksX6_steps_0 23 rfl rfl
theorem dksX6_steps_2 : cX6_steps.data.toList.drop 45 = dktX6_steps_2 := dk_seg dksX6_steps_1 22 rfl rfl
theorem dksX6_steps_3 : cX6_steps.data.toList.drop 68 = dktX6_steps_3 := dk_seg dksX6_steps_2 23 rfl rfl
theorem dX6_steps_0 : decode cX6_steps 0 = .ok (.new 19, 3) := dk_187 0 19 (dk_at dksX6_steps_0 0 rfl rfl)
theorem dX6_steps_3 : decode cX6_steps 3 = .ok (.dup, 1) := dk_89 (dk_at dksX6_steps_0 3 rfl rfl)
theorem dX6_steps_4 : decode cX6_steps 4 = .ok (.invokespecial 21, 3) := dk_183 0 21 (dk_at dksX6_steps_0 4 rfl rfl)
theorem dX6_steps_7 : decode cX6_steps 7 = .ok (.astore_n 1, 1) := dk_76 (dk_at dksX6_steps_0 7 rfl rfl)
theorem dX6_steps_8 : decode cX6_steps 8 = .ok (.aload_n 0, 1) := dk_42 (dk_at dksX6_steps_0 8 rfl rfl)
theorem dX6_steps_9 : decode cX6_steps 9 = .ok (.getfield 134, 3) := dk_180 0 134 (dk_at dksX6_steps_0 9 rfl rfl)
theorem dX6_steps_12 : decode cX6_steps 12 = .ok (.bipush 59, 2) := dk_16 59 (dk_at dksX6_steps_0 12 rfl rfl)
theorem dX6_steps_14 : decode cX6_steps 14 = .ok (.if_icmp .eq 64, 3) := dk_159 0 64 (dk_at dksX6_steps_0 14 rfl rfl)
theorem dX6_steps_17 : decode cX6_steps 17 = .ok (.aload_n 0, 1) := dk_42 (dk_at dksX6_steps_0 17 rfl rfl)
theorem dX6_steps_18 : decode cX6_steps 18 = .ok (.getfield 134, 3) := dk_180 0 134 (dk_at dksX6_steps_0 18 rfl rfl)
theorem dX6_steps_21 : decode cX6_steps 21 = .ok (.bipush 16, 2) := dk_16 16 (dk_at dksX6_steps_0 21 rfl rfl)
theorem dX6_steps_23 : decode cX6_steps 23 = .ok (.bipush 20, 2) := dk_16 20 (dk_at dksX6_steps_1 0 rfl rfl)
theorem dX6_steps_25 : decode cX6_steps 25 = .ok (.invokestatic 44, 3) := dk_184 0 44 (dk_at dksX6_steps_1 2 rfl rfl)
theorem dX6_steps_28 : decode cX6_steps 28 = .ok (.ifCond .ne 16, 3) := dk_154 0 16 (dk_at dksX6_steps_1 5 rfl rfl)
theorem dX6_steps_31 : decode cX6_steps 31 = .ok (.new 137, 3) := dk_187 0 137 (dk_at dksX6_steps_1 8 rfl rfl)
theorem dX6_steps_34 : decode cX6_steps 34 = .ok (.dup, 1) := dk_89 (dk_at dksX6_steps_1 11 rfl rfl)
theorem dX6_steps_35 : decode cX6_steps 35 = .ok (.iconst 1, 1) := dk_4 (dk_at dksX6_steps_1 12 rfl rfl)
theorem dX6_steps_36 : decode cX6_steps 36 = .ok (.aload_n 0, 1) := dk_42 (dk_at dksX6_steps_1 13 rfl rfl)
theorem dX6_steps_37 : decode cX6_steps 37 = .ok (.getfield 48, 3) := dk_180 0 48 (dk_at dksX6_steps_1 14 rfl rfl)
theorem dX6_steps_40 : decode cX6_steps 40 = .ok (.invokespecial 139, 3) := dk_183 0 139 (dk_at dksX6_steps_1 17 rfl rfl)
theorem dX6_steps_43 : decode cX6_steps 43 = .ok (.athrow, 1) := dk_191 (dk_at dksX6_steps_1 20 rfl rfl)
theorem dX6_steps_44 : decode cX6_steps 44 = .ok (.aload_n 1, 1) := dk_43 (dk_at dksX6_steps_1 21 rfl rfl)
theorem dX6_steps_45 : decode cX6_steps 45 = .ok (.invokevirtual 212, 3) := dk_182 0 212 (dk_at dksX6_steps_2 0 rfl rfl)
theorem dX6_steps_48 : decode cX6_steps 48 = .ok (.bipush 12, 2) := dk_16 12 (dk_at dksX6_steps_2 3 rfl rfl)
theorem dX6_steps_50 : decode cX6_steps 50 = .ok (.if_icmp .ne 16, 3) := dk_160 0 16 (dk_at dksX6_steps_2 5 rfl rfl)
theorem dX6_steps_53 : decode cX6_steps 53 = .ok (.new 137, 3) := dk_187 0 137 (dk_at dksX6_steps_2 8 rfl rfl)
theorem dX6_steps_56 : decode cX6_steps 56 = .ok (.dup, 1) := dk_89 (dk_at dksX6_steps_2 11 rfl rfl)
theorem dX6_steps_57 : decode cX6_steps 57 = .ok (.iconst 3, 1) := dk_6 (dk_at dksX6_steps_2 12 rfl rfl)
theorem dX6_steps_58 : decode cX6_steps 58 = .ok (.aload_n 0, 1) := dk_42 (dk_at dksX6_steps_2 13 rfl rfl)
theorem dX6_steps_59 : decode cX6_steps 59 = .ok (.getfield 48, 3) := dk_180 0 48 (dk_at dksX6_steps_2 14 rfl rfl)
theorem dX6_steps_62 : decode cX6_steps 62 = .ok (.invokespecial 139, 3) := dk_183 0 139 (dk_at dksX6_steps_2 17 rfl rfl)
theorem dX6_steps_65 : decode cX6_steps 65 = .ok (.athrow, 1) := dk_191 (dk_at dksX6_steps_2 20 rfl rfl)
theorem dX6_steps_66 : decode cX6_steps 66 = .ok (.aload_n 1, 1) := dk_43 (dk_at dksX6_steps_2 21 rfl rfl)
theorem dX6_steps_67 : decode cX6_steps 67 = .ok (.aload_n 0, 1) := dk_42 (dk_at dksX6_steps_2 22 rfl rfl)
theorem dX6_steps_68 : decode cX6_steps 68 = .ok (.invokevirtual 244, 3) := dk_182 0 244 (dk_at dksX6_steps_3 0 rfl rfl)
theorem dX6_steps_71 : decode cX6_steps 71 = .ok (.invokevirtual 220, 3) := dk_182 0 220 (dk_at dksX6_steps_3 3 rfl rfl)
theorem dX6_steps_74 : decode cX6_steps 74 = .ok (.pop, 1) := dk_87 (dk_at dksX6_steps_3 6 rfl rfl)
theorem dX6_steps_75 : decode cX6_steps 75 = .ok (.goto (-67), 3) := dk_167 255 189 (dk_at dksX6_steps_3 7 rfl rfl)
theorem dX6_steps_78 : decode cX6_steps 78 = .ok (.aload_n 0, 1) := dk_42 (dk_at dksX6_steps_3 10 rfl rfl)
theorem dX6_steps_79 : decode cX6_steps 79 = .ok (.invokevirtual 145, 3) := dk_182 0 145 (dk_at dksX6_steps_3 11 rfl rfl)
theorem dX6_steps_82 : decode cX6_steps 82 = .ok (.aload_n 1, 1) := dk_43 (dk_at dksX6_steps_3 14 rfl rfl)
theorem dX6_steps_83 : decode cX6_steps 83 = .ok (.areturn, 1) := dk_176 (dk_at dksX6_steps_3 15 rfl rfl)
abbrev cX6_step : ByteArray := prog_9_method_25_code
def yX6_step : MethodName := ⟨RX6, "step", "()LWindingSquare$Step;"⟩
def dkwX6_step_3 : List UInt8 := [167, 0, 4, 5, 183, 0, 241, 176]
abbrev dktX6_step_3 : List UInt8 := dkwX6_step_3 ++ []
def dkwX6_step_2 : List UInt8 := [187, 0, 239, 89, 3, 4, 27, 16, 18, 160, 0, 7, 6, 167, 0, 14, 27, 16, 19, 160, 0, 7, 4]
abbrev dktX6_step_2 : List UInt8 := dkwX6_step_2 ++ dktX6_step_3
def dkwX6_step_1 : List UInt8 := [89, 27, 16, 16, 160, 0, 7, 4, 167, 0, 4, 3, 42, 4, 16, 11, 182, 0, 179, 3, 183, 0, 241, 176]
abbrev dktX6_step_1 : List UInt8 := dkwX6_step_1 ++ dktX6_step_2
def dkwX6_step_0 : List UInt8 := [42, 180, 0, 134, 60, 42, 182, 0, 145, 27, 16, 16, 159, 0, 9, 27, 16, 17, 160, 0, 30, 187, 0, 239]
abbrev dktX6_step_0 : List UInt8 := dkwX6_step_0 ++ dktX6_step_1
theorem dksX6_step_0 : cX6_step.data.toList.drop 0 = dktX6_step_0 := by decide +kernel
theorem dksX6_step_1 : cX6_step.data.toList.drop 24 = dktX6_step_1 := dk_seg dksX6_step_0 24 rfl rfl
theorem dksX6_step_2 : cX6_step.data.toList.drop 48 = dktX6_step_2 := dk_seg dksX6_step_1 24 rfl rfl
theorem dksX6_step_3 : cX6_step.data.toList.drop 71 = dktX6_step_3 := dk_seg dksX6_step_2 23 rfl rfl
theorem dX6_step_0 : decode cX6_step 0 = .ok (.aload_n 0, 1) := dk_42 (dk_at dksX6_step_0 0 rfl rfl)
theorem dX6_step_1 : decode cX6_step 1 = .ok (.getfield 134, 3) := dk_180 0 134 (dk_at dksX6_step_0 1 rfl rfl)
theorem dX6_step_4 : decode cX6_step 4 = .ok (.istore_n 1, 1) := dk_60 (dk_at dksX6_step_0 4 rfl rfl)
theorem dX6_step_5 : decode cX6_step 5 = .ok (.aload_n 0, 1) := dk_42 (dk_at dksX6_step_0 5 rfl rfl)
theorem dX6_step_6 : decode cX6_step 6 = .ok (.invokevirtual 145, 3) := dk_182 0 145 (dk_at dksX6_step_0 6 rfl rfl)
theorem dX6_step_9 : decode cX6_step 9 = .ok (.iload_n 1, 1) := dk_27 (dk_at dksX6_step_0 9 rfl rfl)
theorem dX6_step_10 : decode cX6_step 10 = .ok (.bipush 16, 2) := dk_16 16 (dk_at dksX6_step_0 10 rfl rfl)
theorem dX6_step_12 : decode cX6_step 12 = .ok (.if_icmp .eq 9, 3) := dk_159 0 9 (dk_at dksX6_step_0 12 rfl rfl)
theorem dX6_step_15 : decode cX6_step 15 = .ok (.iload_n 1, 1) := dk_27 (dk_at dksX6_step_0 15 rfl rfl)
theorem dX6_step_16 : decode cX6_step 16 = .ok (.bipush 17, 2) := dk_16 17 (dk_at dksX6_step_0 16 rfl rfl)
theorem dX6_step_18 : decode cX6_step 18 = .ok (.if_icmp .ne 30, 3) := dk_160 0 30 (dk_at dksX6_step_0 18 rfl rfl)
theorem dX6_step_21 : decode cX6_step 21 = .ok (.new 239, 3) := dk_187 0 239 (dk_at dksX6_step_0 21 rfl rfl)
theorem dX6_step_24 : decode cX6_step 24 = .ok (.dup, 1) := dk_89 (dk_at dksX6_step_1 0 rfl rfl)
theorem dX6_step_25 : decode cX6_step 25 = .ok (.iload_n 1, 1) := dk_27 (dk_at dksX6_step_1 1 rfl rfl)
theorem dX6_step_26 : decode cX6_step 26 = .ok (.bipush 16, 2) := dk_16 16 (dk_at dksX6_step_1 2 rfl rfl)
theorem dX6_step_28 : decode cX6_step 28 = .ok (.if_icmp .ne 7, 3) := dk_160 0 7 (dk_at dksX6_step_1 4 rfl rfl)
theorem dX6_step_31 : decode cX6_step 31 = .ok (.iconst 1, 1) := dk_4 (dk_at dksX6_step_1 7 rfl rfl)
theorem dX6_step_32 : decode cX6_step 32 = .ok (.goto 4, 3) := dk_167 0 4 (dk_at dksX6_step_1 8 rfl rfl)
theorem dX6_step_35 : decode cX6_step 35 = .ok (.iconst 0, 1) := dk_3 (dk_at dksX6_step_1 11 rfl rfl)
theorem dX6_step_36 : decode cX6_step 36 = .ok (.aload_n 0, 1) := dk_42 (dk_at dksX6_step_1 12 rfl rfl)
theorem dX6_step_37 : decode cX6_step 37 = .ok (.iconst 1, 1) := dk_4 (dk_at dksX6_step_1 13 rfl rfl)
theorem dX6_step_38 : decode cX6_step 38 = .ok (.bipush 11, 2) := dk_16 11 (dk_at dksX6_step_1 14 rfl rfl)
theorem dX6_step_40 : decode cX6_step 40 = .ok (.invokevirtual 179, 3) := dk_182 0 179 (dk_at dksX6_step_1 16 rfl rfl)
theorem dX6_step_43 : decode cX6_step 43 = .ok (.iconst 0, 1) := dk_3 (dk_at dksX6_step_1 19 rfl rfl)
theorem dX6_step_44 : decode cX6_step 44 = .ok (.invokespecial 241, 3) := dk_183 0 241 (dk_at dksX6_step_1 20 rfl rfl)
theorem dX6_step_47 : decode cX6_step 47 = .ok (.areturn, 1) := dk_176 (dk_at dksX6_step_1 23 rfl rfl)
theorem dX6_step_48 : decode cX6_step 48 = .ok (.new 239, 3) := dk_187 0 239 (dk_at dksX6_step_2 0 rfl rfl)
theorem dX6_step_51 : decode cX6_step 51 = .ok (.dup, 1) := dk_89 (dk_at dksX6_step_2 3 rfl rfl)
theorem dX6_step_52 : decode cX6_step 52 = .ok (.iconst 0, 1) := dk_3 (dk_at dksX6_step_2 4 rfl rfl)
theorem dX6_step_53 : decode cX6_step 53 = .ok (.iconst 1, 1) := dk_4 (dk_at dksX6_step_2 5 rfl rfl)
theorem dX6_step_54 : decode cX6_step 54 = .ok (.iload_n 1, 1) := dk_27 (dk_at dksX6_step_2 6 rfl rfl)
theorem dX6_step_55 : decode cX6_step 55 = .ok (.bipush 18, 2) := dk_16 18 (dk_at dksX6_step_2 7 rfl rfl)
theorem dX6_step_57 : decode cX6_step 57 = .ok (.if_icmp .ne 7, 3) := dk_160 0 7 (dk_at dksX6_step_2 9 rfl rfl)
theorem dX6_step_60 : decode cX6_step 60 = .ok (.iconst 3, 1) := dk_6 (dk_at dksX6_step_2 12 rfl rfl)
theorem dX6_step_61 : decode cX6_step 61 = .ok (.goto 14, 3) := dk_167 0 14 (dk_at dksX6_step_2 13 rfl rfl)
theorem dX6_step_64 : decode cX6_step 64 = .ok (.iload_n 1, 1) := dk_27 (dk_at dksX6_step_2 16 rfl rfl)
theorem dX6_step_65 : decode cX6_step 65 = .ok (.bipush 19, 2) := dk_16 19 (dk_at dksX6_step_2 17 rfl rfl)
theorem dX6_step_67 : decode cX6_step 67 = .ok (.if_icmp .ne 7, 3) := dk_160 0 7 (dk_at dksX6_step_2 19 rfl rfl)
theorem dX6_step_70 : decode cX6_step 70 = .ok (.iconst 1, 1) := dk_4 (dk_at dksX6_step_2 22 rfl rfl)
theorem dX6_step_71 : decode cX6_step 71 = .ok (.goto 4, 3) := dk_167 0 4 (dk_at dksX6_step_3 0 rfl rfl)
theorem dX6_step_74 : decode cX6_step 74 = .ok (.iconst 2, 1) := dk_5 (dk_at dksX6_step_3 3 rfl rfl)
theorem dX6_step_75 : decode cX6_step 75 = .ok (.invokespecial 241, 3) := dk_183 0 241 (dk_at dksX6_step_3 4 rfl rfl)
theorem dX6_step_78 : decode cX6_step 78 = .ok (.areturn, 1) := dk_176 (dk_at dksX6_step_3 7 rfl rfl)
abbrev cX6_watches : ByteArray := prog_9_method_28_code
def yX6_watches : MethodName := ⟨RX6, "watches", "()Ljava/util/ArrayList;"⟩
def dkwX6_watches_5 : List UInt8 := [187, 1, 9, 89, 28, 29, 183, 1, 11, 182, 0, 220, 87, 167, 255, 140, 43, 176]
abbrev dktX6_watches_5 : List UInt8 := dkwX6_watches_5 ++ []
def dkwX6_watches_4 : List UInt8 := [167, 0, 17, 42, 16, 22, 182, 0, 206, 42, 4, 16, 9, 182, 0, 179, 62, 42, 16, 59, 182, 0, 206, 43]
abbrev dktX6_watches_4 : List UInt8 := dkwX6_watches_4 ++ dktX6_watches_5
def dkwX6_watches_3 : List UInt8 := [17, 3, 231, 182, 0, 179, 61, 3, 62, 42, 180, 0, 134, 16, 23, 160, 0, 10, 42, 182, 0, 145]
abbrev dktX6_watches_3 : List UInt8 := dkwX6_watches_3 ++ dktX6_watches_4
def dkwX6_watches_2 : List UInt8 := [160, 0, 16, 187, 0, 137, 89, 6, 42, 180, 0, 48, 183, 0, 139, 191, 42, 182, 0, 145, 42, 3]
abbrev dktX6_watches_2 : List UInt8 := dkwX6_watches_2 ++ dktX6_watches_3
def dkwX6_watches_1 : List UInt8 := [16, 21, 159, 0, 16, 187, 0, 137, 89, 4, 42, 180, 0, 48, 183, 0, 139, 191, 43, 182, 0, 212, 16, 16]
abbrev dktX6_watches_1 : List UInt8 := dkwX6_watches_1 ++ dktX6_watches_2
def dkwX6_watches_0 : List UInt8 := [187, 0, 19, 89, 183, 0, 21, 76, 42, 182, 0, 145, 42, 180, 0, 134, 153, 0, 115, 42, 180, 0, 134]
abbrev dktX6_watches_0 : List UInt8 := dkwX6_watches_0 ++ dktX6_watches_1
theorem dksX6_watches_0 : cX6_watches.data.toList.drop 0 = dktX6_watches_0 := by decide +kernel
theorem dksX6_watches_1 : cX6_watches.data.toList.drop 23 = dktX6_watches_1 := dk_seg dksX6_watches_0 23 rfl rfl
theorem dksX6_watches_2 : cX6_watches.data.toList.drop 47 = dktX6_watches_2 := dk_seg dksX6_watches_1 24 rfl rfl
theorem dksX6_watches_3 : cX6_watches.data.toList.drop 69 = dktX6_watches_3 := dk_seg dksX6_watches_2 22 rfl rfl
theorem dksX6_watches_4 : cX6_watches.data.toList.drop 91 = dktX6_watches_4 := dk_seg dksX6_watches_3 22 rfl rfl
theorem dksX6_watches_5 : cX6_watches.data.toList.drop 115 = dktX6_watches_5 := dk_seg dksX6_watches_4 24 rfl rfl
theorem dX6_watches_0 : decode cX6_watches 0 = .ok (.new 19, 3) := dk_187 0 19 (dk_at dksX6_watches_0 0 rfl rfl)
theorem dX6_watches_3 : decode cX6_watches 3 = .ok (.dup, 1) := dk_89 (dk_at dksX6_watches_0 3 rfl rfl)
theorem dX6_watches_4 : decode cX6_watches 4 = .ok (.invokespecial 21, 3) := dk_183 0 21 (dk_at dksX6_watches_0 4 rfl rfl)
theorem dX6_watches_7 : decode cX6_watches 7 = .ok (.astore_n 1, 1) := dk_76 (dk_at dksX6_watches_0 7 rfl rfl)
theorem dX6_watches_8 : decode cX6_watches 8 = .ok (.aload_n 0, 1) := dk_42 (dk_at dksX6_watches_0 8 rfl rfl)
theorem dX6_watches_9 : decode cX6_watches 9 = .ok (.invokevirtual 145, 3) := dk_182 0 145 (dk_at dksX6_watches_0 9 rfl rfl)
theorem dX6_watches_12 : decode cX6_watches 12 = .ok (.aload_n 0, 1) := dk_42 (dk_at dksX6_watches_0 12 rfl rfl)
theorem dX6_watches_13 : decode cX6_watches 13 = .ok (.getfield 134, 3) := dk_180 0 134 (dk_at dksX6_watches_0 13 rfl rfl)
theorem dX6_watches_16 : decode cX6_watches 16 = .ok (.ifCond .eq 115, 3) := dk_153 0 115 (dk_at dksX6_watches_0 16 rfl rfl)
theorem dX6_watches_19 : decode cX6_watches 19 = .ok (.aload_n 0, 1) := dk_42 (dk_at dksX6_watches_0 19 rfl rfl)
theorem dX6_watches_20 : decode cX6_watches 20 = .ok (.getfield 134, 3) := dk_180 0 134 (dk_at dksX6_watches_0 20 rfl rfl)
theorem dX6_watches_23 : decode cX6_watches 23 = .ok (.bipush 21, 2) := dk_16 21 (dk_at dksX6_watches_1 0 rfl rfl)
theorem dX6_watches_25 : decode cX6_watches 25 = .ok (.if_icmp .eq 16, 3) := dk_159 0 16 (dk_at dksX6_watches_1 2 rfl rfl)
theorem dX6_watches_28 : decode cX6_watches 28 = .ok (.new 137, 3) := dk_187 0 137 (dk_at dksX6_watches_1 5 rfl rfl)
theorem dX6_watches_31 : decode cX6_watches 31 = .ok (.dup, 1) := dk_89 (dk_at dksX6_watches_1 8 rfl rfl)
theorem dX6_watches_32 : decode cX6_watches 32 = .ok (.iconst 1, 1) := dk_4 (dk_at dksX6_watches_1 9 rfl rfl)
theorem dX6_watches_33 : decode cX6_watches 33 = .ok (.aload_n 0, 1) := dk_42 (dk_at dksX6_watches_1 10 rfl rfl)
theorem dX6_watches_34 : decode cX6_watches 34 = .ok (.getfield 48, 3) := dk_180 0 48 (dk_at dksX6_watches_1 11 rfl rfl)
theorem dX6_watches_37 : decode cX6_watches 37 = .ok (.invokespecial 139, 3) := dk_183 0 139 (dk_at dksX6_watches_1 14 rfl rfl)
theorem dX6_watches_40 : decode cX6_watches 40 = .ok (.athrow, 1) := dk_191 (dk_at dksX6_watches_1 17 rfl rfl)
theorem dX6_watches_41 : decode cX6_watches 41 = .ok (.aload_n 1, 1) := dk_43 (dk_at dksX6_watches_1 18 rfl rfl)
theorem dX6_watches_42 : decode cX6_watches 42 = .ok (.invokevirtual 212, 3) := dk_182 0 212 (dk_at dksX6_watches_1 19 rfl rfl)
theorem dX6_watches_45 : decode cX6_watches 45 = .ok (.bipush 16, 2) := dk_16 16 (dk_at dksX6_watches_1 22 rfl rfl)
theorem dX6_watches_47 : decode cX6_watches 47 = .ok (.if_icmp .ne 16, 3) := dk_160 0 16 (dk_at dksX6_watches_2 0 rfl rfl)
theorem dX6_watches_50 : decode cX6_watches 50 = .ok (.new 137, 3) := dk_187 0 137 (dk_at dksX6_watches_2 3 rfl rfl)
theorem dX6_watches_53 : decode cX6_watches 53 = .ok (.dup, 1) := dk_89 (dk_at dksX6_watches_2 6 rfl rfl)
theorem dX6_watches_54 : decode cX6_watches 54 = .ok (.iconst 3, 1) := dk_6 (dk_at dksX6_watches_2 7 rfl rfl)
theorem dX6_watches_55 : decode cX6_watches 55 = .ok (.aload_n 0, 1) := dk_42 (dk_at dksX6_watches_2 8 rfl rfl)
theorem dX6_watches_56 : decode cX6_watches 56 = .ok (.getfield 48, 3) := dk_180 0 48 (dk_at dksX6_watches_2 9 rfl rfl)
theorem dX6_watches_59 : decode cX6_watches 59 = .ok (.invokespecial 139, 3) := dk_183 0 139 (dk_at dksX6_watches_2 12 rfl rfl)
theorem dX6_watches_62 : decode cX6_watches 62 = .ok (.athrow, 1) := dk_191 (dk_at dksX6_watches_2 15 rfl rfl)
theorem dX6_watches_63 : decode cX6_watches 63 = .ok (.aload_n 0, 1) := dk_42 (dk_at dksX6_watches_2 16 rfl rfl)
theorem dX6_watches_64 : decode cX6_watches 64 = .ok (.invokevirtual 145, 3) := dk_182 0 145 (dk_at dksX6_watches_2 17 rfl rfl)
theorem dX6_watches_67 : decode cX6_watches 67 = .ok (.aload_n 0, 1) := dk_42 (dk_at dksX6_watches_2 20 rfl rfl)
theorem dX6_watches_68 : decode cX6_watches 68 = .ok (.iconst 0, 1) := dk_3 (dk_at dksX6_watches_2 21 rfl rfl)
theorem dX6_watches_69 : decode cX6_watches 69 = .ok (.sipush 999, 3) := dk_17 3 231 (dk_at dksX6_watches_3 0 rfl rfl)
theorem dX6_watches_72 : decode cX6_watches 72 = .ok (.invokevirtual 179, 3) := dk_182 0 179 (dk_at dksX6_watches_3 3 rfl rfl)
theorem dX6_watches_75 : decode cX6_watches 75 = .ok (.istore_n 2, 1) := dk_61 (dk_at dksX6_watches_3 6 rfl rfl)
theorem dX6_watches_76 : decode cX6_watches 76 = .ok (.iconst 0, 1) := dk_3 (dk_at dksX6_watches_3 7 rfl rfl)
theorem dX6_watches_77 : decode cX6_watches 77 = .ok (.istore_n 3, 1) := dk_62 (dk_at dksX6_watches_3 8 rfl rfl)
theorem dX6_watches_78 : decode cX6_watches 78 = .ok (.aload_n 0, 1) := dk_42 (dk_at dksX6_watches_3 9 rfl rfl)
theorem dX6_watches_79 : decode cX6_watches 79 = .ok (.getfield 134, 3) := dk_180 0 134 (dk_at dksX6_watches_3 10 rfl rfl)
theorem dX6_watches_82 : decode cX6_watches 82 = .ok (.bipush 23, 2) := dk_16 23 (dk_at dksX6_watches_3 13 rfl rfl)
theorem dX6_watches_84 : decode cX6_watches 84 = .ok (.if_icmp .ne 10, 3) := dk_160 0 10 (dk_at dksX6_watches_3 15 rfl rfl)
theorem dX6_watches_87 : decode cX6_watches 87 = .ok (.aload_n 0, 1) := dk_42 (dk_at dksX6_watches_3 18 rfl rfl)
theorem dX6_watches_88 : decode cX6_watches 88 = .ok (.invokevirtual 145, 3) := dk_182 0 145 (dk_at dksX6_watches_3 19 rfl rfl)
theorem dX6_watches_91 : decode cX6_watches 91 = .ok (.goto 17, 3) := dk_167 0 17 (dk_at dksX6_watches_4 0 rfl rfl)
theorem dX6_watches_94 : decode cX6_watches 94 = .ok (.aload_n 0, 1) := dk_42 (dk_at dksX6_watches_4 3 rfl rfl)
theorem dX6_watches_95 : decode cX6_watches 95 = .ok (.bipush 22, 2) := dk_16 22 (dk_at dksX6_watches_4 4 rfl rfl)
theorem dX6_watches_97 : decode cX6_watches 97 = .ok (.invokevirtual 206, 3) := dk_182 0 206 (dk_at dksX6_watches_4 6 rfl rfl)
theorem dX6_watches_100 : decode cX6_watches 100 = .ok (.aload_n 0, 1) := dk_42 (dk_at dksX6_watches_4 9 rfl rfl)
theorem dX6_watches_101 : decode cX6_watches 101 = .ok (.iconst 1, 1) := dk_4 (dk_at dksX6_watches_4 10 rfl rfl)
theorem dX6_watches_102 : decode cX6_watches 102 = .ok (.bipush 9, 2) := dk_16 9 (dk_at dksX6_watches_4 11 rfl rfl)
theorem dX6_watches_104 : decode cX6_watches 104 = .ok (.invokevirtual 179, 3) := dk_182 0 179 (dk_at dksX6_watches_4 13 rfl rfl)
theorem dX6_watches_107 : decode cX6_watches 107 = .ok (.istore_n 3, 1) := dk_62 (dk_at dksX6_watches_4 16 rfl rfl)
theorem dX6_watches_108 : decode cX6_watches 108 = .ok (.aload_n 0, 1) := dk_42 (dk_at dksX6_watches_4 17 rfl rfl)
theorem dX6_watches_109 : decode cX6_watches 109 = .ok (.bipush 59, 2) := dk_16 59 (dk_at dksX6_watches_4 18 rfl rfl)
theorem dX6_watches_111 : decode cX6_watches 111 = .ok (.invokevirtual 206, 3) := dk_182 0 206 (dk_at dksX6_watches_4 20 rfl rfl)
theorem dX6_watches_114 : decode cX6_watches 114 = .ok (.aload_n 1, 1) := dk_43 (dk_at dksX6_watches_4 23 rfl rfl)
theorem dX6_watches_115 : decode cX6_watches 115 = .ok (.new 265, 3) := dk_187 1 9 (dk_at dksX6_watches_5 0 rfl rfl)
theorem dX6_watches_118 : decode cX6_watches 118 = .ok (.dup, 1) := dk_89 (dk_at dksX6_watches_5 3 rfl rfl)
theorem dX6_watches_119 : decode cX6_watches 119 = .ok (.iload_n 2, 1) := dk_28 (dk_at dksX6_watches_5 4 rfl rfl)
theorem dX6_watches_120 : decode cX6_watches 120 = .ok (.iload_n 3, 1) := dk_29 (dk_at dksX6_watches_5 5 rfl rfl)
theorem dX6_watches_121 : decode cX6_watches 121 = .ok (.invokespecial 267, 3) := dk_183 1 11 (dk_at dksX6_watches_5 6 rfl rfl)
theorem dX6_watches_124 : decode cX6_watches 124 = .ok (.invokevirtual 220, 3) := dk_182 0 220 (dk_at dksX6_watches_5 9 rfl rfl)
theorem dX6_watches_127 : decode cX6_watches 127 = .ok (.pop, 1) := dk_87 (dk_at dksX6_watches_5 12 rfl rfl)
theorem dX6_watches_128 : decode cX6_watches 128 = .ok (.goto (-116), 3) := dk_167 255 140 (dk_at dksX6_watches_5 13 rfl rfl)
theorem dX6_watches_131 : decode cX6_watches 131 = .ok (.aload_n 1, 1) := dk_43 (dk_at dksX6_watches_5 16 rfl rfl)
theorem dX6_watches_132 : decode cX6_watches 132 = .ok (.areturn, 1) := dk_176 (dk_at dksX6_watches_5 17 rfl rfl)
theorem q148 : (Jvm.Cond.initialized "WindingSquare$Reader") ∈ lw_all := lw_g (lw_at lw_m1 17 rfl) rfl
theorem q352 : (Jvm.Cond.selects "WindingSquare$Reader" ({ cls := "java/lang/Object", name := "getClass", desc := "()Ljava/lang/Class;" } : Jvm.MethodName) ({ cls := "java/lang/Object", name := "getClass", desc := "()Ljava/lang/Class;" } : Jvm.MethodName)) ∈ lw_all := lw_g (lw_at lw_m1 221 rfl) rfl
theorem q397 : (Jvm.Cond.fieldLinkNest "WindingSquare$Reader" (252 : Nat) "WindingSquare$Square" "walkers" "I" "WindingSquare") ∈ lw_tbl := lw_at lw_m2 26 rfl
theorem q458 : (Jvm.Cond.fieldLinkNest "WindingSquare$Reader" (36 : Nat) "WindingSquare" "tape" "[B" "WindingSquare") ∈ lw_tbl := lw_at lw_m2 87 rfl
theorem q459 : (Jvm.Cond.fieldLinkNest "WindingSquare$Reader" (33 : Nat) "WindingSquare" "taped" "I" "WindingSquare") ∈ lw_tbl := lw_at lw_m2 88 rfl
theorem q464 : (Jvm.Cond.fieldLinkNest "WindingSquare$Reader" (248 : Nat) "WindingSquare" "square" "LWindingSquare$Square;" "WindingSquare") ∈ lw_tbl := lw_at lw_m2 93 rfl
theorem q578 : (Jvm.Cond.instantiable "WindingSquare$Reader" (10 : Nat)) ∈ lw_all := lw_g (lw_at lw_m2 207 rfl) rfl
theorem q580 : (Jvm.Cond.instanceMethod ({ cls := "WindingSquare$Reader", name := "<init>", desc := "(LWindingSquare;I)V" } : Jvm.MethodName)) ∈ lw_all := lw_g (lw_at lw_m2 209 rfl) rfl
theorem q581 : (Jvm.Cond.code ({ cls := "WindingSquare$Reader", name := "<init>", desc := "(LWindingSquare;I)V" } : Jvm.MethodName) prog_9_method_1_code (3 : Nat) (Option.none : Option Jvm.ClassFile.FieldType)) ∈ lw_all := lw_g (lw_at lw_m2 210 rfl) rfl
theorem q582 : (Jvm.Cond.methodLink "WindingSquare$Reader" (9 : Nat) ({ cls := "java/lang/Object", name := "<init>", desc := "()V" } : Jvm.MethodName)) ∈ lw_all := lw_g (lw_at lw_m2 211 rfl) rfl
theorem q583 : (Jvm.Cond.classLink "WindingSquare$Reader" (19 : Nat) "java/util/ArrayList") ∈ lw_all := lw_g (lw_at lw_m2 212 rfl) rfl
theorem q584 : (Jvm.Cond.methodLink "WindingSquare$Reader" (21 : Nat) ({ cls := "java/util/ArrayList", name := "<init>", desc := "()V" } : Jvm.MethodName)) ∈ lw_all := lw_g (lw_at lw_m2 213 rfl) rfl
theorem q585 : (Jvm.Cond.fieldLink "WindingSquare$Reader" (26 : Nat) "WindingSquare$Reader" "which" "I") ∈ lw_all := lw_g (lw_at lw_m2 214 rfl) rfl
theorem q586 : (Jvm.Cond.fieldLink "WindingSquare$Reader" (15 : Nat) "WindingSquare$Reader" "cell" "[I") ∈ lw_all := lw_g (lw_at lw_m2 215 rfl) rfl
theorem q587 : (Jvm.Cond.fieldLink "WindingSquare$Reader" (22 : Nat) "WindingSquare$Reader" "way" "Ljava/util/ArrayList;") ∈ lw_all := lw_g (lw_at lw_m2 216 rfl) rfl
theorem q588 : (Jvm.Cond.fieldLink "WindingSquare$Reader" (30 : Nat) "WindingSquare$Reader" "at" "I") ∈ lw_all := lw_g (lw_at lw_m2 217 rfl) rfl
theorem q589 : (Jvm.Cond.fieldLink "WindingSquare$Reader" (48 : Nat) "WindingSquare$Reader" "start" "I") ∈ lw_all := lw_g (lw_at lw_m2 218 rfl) rfl
theorem q590 : (Jvm.Cond.fieldLink "WindingSquare$Reader" (134 : Nat) "WindingSquare$Reader" "token" "I") ∈ lw_all := lw_g (lw_at lw_m2 219 rfl) rfl
theorem q591 : (Jvm.Cond.fieldLink "WindingSquare$Reader" (142 : Nat) "WindingSquare$Reader" "value" "I") ∈ lw_all := lw_g (lw_at lw_m2 220 rfl) rfl
theorem q592 : (Jvm.Cond.fieldLink "WindingSquare$Reader" (162 : Nat) "WindingSquare$Reader" "open" "I") ∈ lw_all := lw_g (lw_at lw_m2 221 rfl) rfl
theorem q594 : (Jvm.Cond.fieldLink "WindingSquare$Reader" (232 : Nat) "WindingSquare$Reader" "told" "I") ∈ lw_all := lw_g (lw_at lw_m2 223 rfl) rfl
theorem q595 : (Jvm.Cond.fieldLink "WindingSquare$Reader" (3 : Nat) "WindingSquare$Reader" "this$0" "LWindingSquare;") ∈ lw_all := lw_g (lw_at lw_m2 224 rfl) rfl
theorem q596 : (Jvm.Cond.laysFinal "WindingSquare$Reader" "WindingSquare$Reader" "which" "I") ∈ lw_all := lw_g (lw_at lw_m2 225 rfl) rfl
theorem q597 : (Jvm.Cond.soleField "WindingSquare$Reader" "which") ∈ lw_all := lw_g (lw_at lw_m2 226 rfl) rfl
theorem q598 : (Jvm.Cond.laysFinal "WindingSquare$Reader" "WindingSquare$Reader" "cell" "[I") ∈ lw_all := lw_g (lw_at lw_m2 227 rfl) rfl
theorem q599 : (Jvm.Cond.soleField "WindingSquare$Reader" "cell") ∈ lw_all := lw_g (lw_at lw_m2 228 rfl) rfl
theorem q600 : (Jvm.Cond.laysFinal "WindingSquare$Reader" "WindingSquare$Reader" "way" "Ljava/util/ArrayList;") ∈ lw_all := lw_g (lw_at lw_m2 229 rfl) rfl
theorem q601 : (Jvm.Cond.soleField "WindingSquare$Reader" "way") ∈ lw_all := lw_g (lw_at lw_m2 230 rfl) rfl
theorem q602 : (Jvm.Cond.lays "WindingSquare$Reader" "WindingSquare$Reader" "at" "I") ∈ lw_all := lw_g (lw_at lw_m2 231 rfl) rfl
theorem q603 : (Jvm.Cond.soleField "WindingSquare$Reader" "at") ∈ lw_all := lw_g (lw_at lw_m2 232 rfl) rfl
theorem q604 : (Jvm.Cond.lays "WindingSquare$Reader" "WindingSquare$Reader" "start" "I") ∈ lw_all := lw_g (lw_at lw_m2 233 rfl) rfl
theorem q605 : (Jvm.Cond.soleField "WindingSquare$Reader" "start") ∈ lw_all := lw_g (lw_at lw_m2 234 rfl) rfl
theorem q606 : (Jvm.Cond.lays "WindingSquare$Reader" "WindingSquare$Reader" "token" "I") ∈ lw_all := lw_g (lw_at lw_m2 235 rfl) rfl
theorem q607 : (Jvm.Cond.soleField "WindingSquare$Reader" "token") ∈ lw_all := lw_g (lw_at lw_m2 236 rfl) rfl
theorem q608 : (Jvm.Cond.lays "WindingSquare$Reader" "WindingSquare$Reader" "value" "I") ∈ lw_all := lw_g (lw_at lw_m2 237 rfl) rfl
theorem q609 : (Jvm.Cond.soleField "WindingSquare$Reader" "value") ∈ lw_all := lw_g (lw_at lw_m2 238 rfl) rfl
theorem q610 : (Jvm.Cond.lays "WindingSquare$Reader" "WindingSquare$Reader" "open" "I") ∈ lw_all := lw_g (lw_at lw_m2 239 rfl) rfl
theorem q611 : (Jvm.Cond.soleField "WindingSquare$Reader" "open") ∈ lw_all := lw_g (lw_at lw_m3 0 rfl) rfl
theorem q612 : (Jvm.Cond.lays "WindingSquare$Reader" "WindingSquare$Reader" "told" "I") ∈ lw_all := lw_g (lw_at lw_m3 1 rfl) rfl
theorem q613 : (Jvm.Cond.soleField "WindingSquare$Reader" "told") ∈ lw_all := lw_g (lw_at lw_m3 2 rfl) rfl
theorem q614 : (Jvm.Cond.laysFinal "WindingSquare$Reader" "WindingSquare$Reader" "this$0" "LWindingSquare;") ∈ lw_all := lw_g (lw_at lw_m3 3 rfl) rfl
theorem q615 : (Jvm.Cond.soleField "WindingSquare$Reader" "this$0") ∈ lw_all := lw_g (lw_at lw_m3 4 rfl) rfl
theorem q616 : (Jvm.Cond.superclass "WindingSquare$Reader" "java/lang/Object") ∈ lw_all := lw_g (lw_at lw_m3 5 rfl) rfl
theorem q618 : (Jvm.Cond.instanceMethod ({ cls := "WindingSquare$Reader", name := "law", desc := "()Ljava/util/ArrayList;" } : Jvm.MethodName)) ∈ lw_all := lw_g (lw_at lw_m3 7 rfl) rfl
theorem q619 : (Jvm.Cond.selects "WindingSquare$Reader" ({ cls := "WindingSquare$Reader", name := "law", desc := "()Ljava/util/ArrayList;" } : Jvm.MethodName) ({ cls := "WindingSquare$Reader", name := "law", desc := "()Ljava/util/ArrayList;" } : Jvm.MethodName)) ∈ lw_all := lw_g (lw_at lw_m3 8 rfl) rfl
theorem q620 : (Jvm.Cond.code ({ cls := "WindingSquare$Reader", name := "law", desc := "()Ljava/util/ArrayList;" } : Jvm.MethodName) prog_9_method_22_code (5 : Nat) (Option.some (Jvm.ClassFile.FieldType.object "java/util/ArrayList"))) ∈ lw_all := lw_g (lw_at lw_m3 9 rfl) rfl
theorem q621 : (Jvm.Cond.methodLink "WindingSquare$Reader" (145 : Nat) ({ cls := "WindingSquare$Reader", name := "next", desc := "()V" } : Jvm.MethodName)) ∈ lw_all := lw_g (lw_at lw_m3 10 rfl) rfl
theorem q622 : (Jvm.Cond.privateMethod ({ cls := "WindingSquare$Reader", name := "next", desc := "()V" } : Jvm.MethodName)) ∈ lw_tbl := lw_at lw_m3 11 rfl
theorem q623 : (Jvm.Cond.instanceMethod ({ cls := "WindingSquare$Reader", name := "next", desc := "()V" } : Jvm.MethodName)) ∈ lw_all := lw_g (lw_at lw_m3 12 rfl) rfl
theorem q624 : (Jvm.Cond.code ({ cls := "WindingSquare$Reader", name := "next", desc := "()V" } : Jvm.MethodName) prog_9_method_13_code (1 : Nat) (Option.none : Option Jvm.ClassFile.FieldType)) ∈ lw_all := lw_g (lw_at lw_m3 13 rfl) rfl
theorem q625 : (Jvm.Cond.methodLink "WindingSquare$Reader" (40 : Nat) ({ cls := "WindingSquare$Reader", name := "see", desc := "()I" } : Jvm.MethodName)) ∈ lw_all := lw_g (lw_at lw_m3 14 rfl) rfl
theorem q626 : (Jvm.Cond.privateMethod ({ cls := "WindingSquare$Reader", name := "see", desc := "()I" } : Jvm.MethodName)) ∈ lw_tbl := lw_at lw_m3 15 rfl
theorem q627 : (Jvm.Cond.instanceMethod ({ cls := "WindingSquare$Reader", name := "see", desc := "()I" } : Jvm.MethodName)) ∈ lw_all := lw_g (lw_at lw_m3 16 rfl) rfl
theorem q628 : (Jvm.Cond.code ({ cls := "WindingSquare$Reader", name := "see", desc := "()I" } : Jvm.MethodName) prog_9_method_2_code (1 : Nat) (Option.some Jvm.ClassFile.FieldType.int)) ∈ lw_all := lw_g (lw_at lw_m3 17 rfl) rfl
theorem q629 : (Jvm.Cond.methodLink "WindingSquare$Reader" (148 : Nat) ({ cls := "WindingSquare$Reader", name := "isLetter", desc := "()Z" } : Jvm.MethodName)) ∈ lw_all := lw_g (lw_at lw_m3 18 rfl) rfl
theorem q630 : (Jvm.Cond.privateMethod ({ cls := "WindingSquare$Reader", name := "isLetter", desc := "()Z" } : Jvm.MethodName)) ∈ lw_tbl := lw_at lw_m3 19 rfl
theorem q631 : (Jvm.Cond.instanceMethod ({ cls := "WindingSquare$Reader", name := "isLetter", desc := "()Z" } : Jvm.MethodName)) ∈ lw_all := lw_g (lw_at lw_m3 20 rfl) rfl
theorem q632 : (Jvm.Cond.code ({ cls := "WindingSquare$Reader", name := "isLetter", desc := "()Z" } : Jvm.MethodName) prog_9_method_3_code (1 : Nat) (Option.some Jvm.ClassFile.FieldType.boolean)) ∈ lw_all := lw_g (lw_at lw_m3 21 rfl) rfl
theorem q633 : (Jvm.Cond.methodLinkNest "WindingSquare$Reader" (44 : Nat) ({ cls := "WindingSquare", name := "isIn", desc := "(III)Z" } : Jvm.MethodName) "WindingSquare") ∈ lw_tbl := lw_at lw_m3 22 rfl
theorem q634 : (Jvm.Cond.methodLink "WindingSquare$Reader" (152 : Nat) ({ cls := "WindingSquare$Reader", name := "keyword", desc := "()I" } : Jvm.MethodName)) ∈ lw_all := lw_g (lw_at lw_m3 23 rfl) rfl
theorem q635 : (Jvm.Cond.privateMethod ({ cls := "WindingSquare$Reader", name := "keyword", desc := "()I" } : Jvm.MethodName)) ∈ lw_tbl := lw_at lw_m3 24 rfl
theorem q636 : (Jvm.Cond.instanceMethod ({ cls := "WindingSquare$Reader", name := "keyword", desc := "()I" } : Jvm.MethodName)) ∈ lw_all := lw_g (lw_at lw_m3 25 rfl) rfl
theorem q637 : (Jvm.Cond.code ({ cls := "WindingSquare$Reader", name := "keyword", desc := "()I" } : Jvm.MethodName) prog_9_method_10_code (1 : Nat) (Option.some Jvm.ClassFile.FieldType.int)) ∈ lw_all := lw_g (lw_at lw_m3 26 rfl) rfl
theorem q638 : (Jvm.Cond.methodLink "WindingSquare$Reader" (121 : Nat) ({ cls := "WindingSquare$Reader", name := "lawWord", desc := "()I" } : Jvm.MethodName)) ∈ lw_all := lw_g (lw_at lw_m3 27 rfl) rfl
theorem q639 : (Jvm.Cond.privateMethod ({ cls := "WindingSquare$Reader", name := "lawWord", desc := "()I" } : Jvm.MethodName)) ∈ lw_tbl := lw_at lw_m3 28 rfl
theorem q640 : (Jvm.Cond.instanceMethod ({ cls := "WindingSquare$Reader", name := "lawWord", desc := "()I" } : Jvm.MethodName)) ∈ lw_all := lw_g (lw_at lw_m3 29 rfl) rfl
theorem q641 : (Jvm.Cond.code ({ cls := "WindingSquare$Reader", name := "lawWord", desc := "()I" } : Jvm.MethodName) prog_9_method_7_code (1 : Nat) (Option.some Jvm.ClassFile.FieldType.int)) ∈ lw_all := lw_g (lw_at lw_m3 30 rfl) rfl
theorem q642 : (Jvm.Cond.stringRef "WindingSquare$Reader" (84 : Nat) "when") ∈ lw_tbl := lw_at lw_m3 31 rfl
theorem q643 : (Jvm.Cond.methodLink "WindingSquare$Reader" (62 : Nat) ({ cls := "WindingSquare$Reader", name := "is", desc := "(Ljava/lang/String;)Z" } : Jvm.MethodName)) ∈ lw_all := lw_g (lw_at lw_m3 32 rfl) rfl
theorem q644 : (Jvm.Cond.privateMethod ({ cls := "WindingSquare$Reader", name := "is", desc := "(Ljava/lang/String;)Z" } : Jvm.MethodName)) ∈ lw_tbl := lw_at lw_m3 33 rfl
theorem q645 : (Jvm.Cond.instanceMethod ({ cls := "WindingSquare$Reader", name := "is", desc := "(Ljava/lang/String;)Z" } : Jvm.MethodName)) ∈ lw_all := lw_g (lw_at lw_m3 34 rfl) rfl
theorem q646 : (Jvm.Cond.code ({ cls := "WindingSquare$Reader", name := "is", desc := "(Ljava/lang/String;)Z" } : Jvm.MethodName) prog_9_method_5_code (4 : Nat) (Option.some Jvm.ClassFile.FieldType.boolean)) ∈ lw_all := lw_g (lw_at lw_m3 35 rfl) rfl
theorem q647 : (Jvm.Cond.methodLink "WindingSquare$Reader" (51 : Nat) ({ cls := "java/lang/String", name := "length", desc := "()I" } : Jvm.MethodName)) ∈ lw_all := lw_g (lw_at lw_m3 36 rfl) rfl
theorem q657 : (Jvm.Cond.methodLink "WindingSquare$Reader" (56 : Nat) ({ cls := "java/lang/String", name := "charAt", desc := "(I)C" } : Jvm.MethodName)) ∈ lw_all := lw_g (lw_at lw_m3 46 rfl) rfl
theorem q695 : (Jvm.Cond.stringRef "WindingSquare$Reader" (86 : Nat) "or") ∈ lw_tbl := lw_at lw_m3 84 rfl
theorem q696 : (Jvm.Cond.stringRef "WindingSquare$Reader" (88 : Nat) "and") ∈ lw_tbl := lw_at lw_m3 85 rfl
theorem q697 : (Jvm.Cond.stringRef "WindingSquare$Reader" (90 : Nat) "not") ∈ lw_tbl := lw_at lw_m3 86 rfl
theorem q698 : (Jvm.Cond.stringRef "WindingSquare$Reader" (92 : Nat) "slips") ∈ lw_tbl := lw_at lw_m3 87 rfl
theorem q699 : (Jvm.Cond.stringRef "WindingSquare$Reader" (94 : Nat) "sees") ∈ lw_tbl := lw_at lw_m3 88 rfl
theorem q700 : (Jvm.Cond.stringRef "WindingSquare$Reader" (96 : Nat) "pays") ∈ lw_tbl := lw_at lw_m3 89 rfl
theorem q701 : (Jvm.Cond.methodLink "WindingSquare$Reader" (98 : Nat) ({ cls := "WindingSquare$Reader", name := "asked", desc := "()I" } : Jvm.MethodName)) ∈ lw_all := lw_g (lw_at lw_m3 90 rfl) rfl
theorem q702 : (Jvm.Cond.privateMethod ({ cls := "WindingSquare$Reader", name := "asked", desc := "()I" } : Jvm.MethodName)) ∈ lw_tbl := lw_at lw_m3 91 rfl
theorem q703 : (Jvm.Cond.instanceMethod ({ cls := "WindingSquare$Reader", name := "asked", desc := "()I" } : Jvm.MethodName)) ∈ lw_all := lw_g (lw_at lw_m3 92 rfl) rfl
theorem q704 : (Jvm.Cond.code ({ cls := "WindingSquare$Reader", name := "asked", desc := "()I" } : Jvm.MethodName) prog_9_method_6_code (1 : Nat) (Option.some Jvm.ClassFile.FieldType.int)) ∈ lw_all := lw_g (lw_at lw_m3 93 rfl) rfl
theorem q705 : (Jvm.Cond.stringRef "WindingSquare$Reader" (60 : Nat) "haste") ∈ lw_tbl := lw_at lw_m3 94 rfl
theorem q706 : (Jvm.Cond.stringRef "WindingSquare$Reader" (66 : Nat) "turns") ∈ lw_tbl := lw_at lw_m3 95 rfl
theorem q707 : (Jvm.Cond.stringRef "WindingSquare$Reader" (68 : Nat) "signs") ∈ lw_tbl := lw_at lw_m3 96 rfl
theorem q708 : (Jvm.Cond.stringRef "WindingSquare$Reader" (70 : Nat) "x") ∈ lw_tbl := lw_at lw_m3 97 rfl
theorem q709 : (Jvm.Cond.stringRef "WindingSquare$Reader" (72 : Nat) "y") ∈ lw_tbl := lw_at lw_m3 98 rfl
theorem q710 : (Jvm.Cond.stringRef "WindingSquare$Reader" (74 : Nat) "facing") ∈ lw_tbl := lw_at lw_m3 99 rfl
theorem q711 : (Jvm.Cond.stringRef "WindingSquare$Reader" (76 : Nat) "snow") ∈ lw_tbl := lw_at lw_m3 100 rfl
theorem q712 : (Jvm.Cond.stringRef "WindingSquare$Reader" (78 : Nat) "inside") ∈ lw_tbl := lw_at lw_m3 101 rfl
theorem q713 : (Jvm.Cond.stringRef "WindingSquare$Reader" (80 : Nat) "watch") ∈ lw_tbl := lw_at lw_m3 102 rfl
theorem q714 : (Jvm.Cond.stringRef "WindingSquare$Reader" (82 : Nat) "minute") ∈ lw_tbl := lw_at lw_m3 103 rfl
theorem q715 : (Jvm.Cond.methodLink "WindingSquare$Reader" (124 : Nat) ({ cls := "WindingSquare$Reader", name := "stoneWord", desc := "()I" } : Jvm.MethodName)) ∈ lw_all := lw_g (lw_at lw_m3 104 rfl) rfl
theorem q716 : (Jvm.Cond.privateMethod ({ cls := "WindingSquare$Reader", name := "stoneWord", desc := "()I" } : Jvm.MethodName)) ∈ lw_tbl := lw_at lw_m3 105 rfl
theorem q717 : (Jvm.Cond.instanceMethod ({ cls := "WindingSquare$Reader", name := "stoneWord", desc := "()I" } : Jvm.MethodName)) ∈ lw_all := lw_g (lw_at lw_m3 106 rfl) rfl
theorem q718 : (Jvm.Cond.code ({ cls := "WindingSquare$Reader", name := "stoneWord", desc := "()I" } : Jvm.MethodName) prog_9_method_8_code (1 : Nat) (Option.some Jvm.ClassFile.FieldType.int)) ∈ lw_all := lw_g (lw_at lw_m3 107 rfl) rfl
theorem q719 : (Jvm.Cond.stringRef "WindingSquare$Reader" (101 : Nat) "bare") ∈ lw_tbl := lw_at lw_m3 108 rfl
theorem q720 : (Jvm.Cond.stringRef "WindingSquare$Reader" (103 : Nat) "stone") ∈ lw_tbl := lw_at lw_m3 109 rfl
theorem q721 : (Jvm.Cond.stringRef "WindingSquare$Reader" (105 : Nat) "sign") ∈ lw_tbl := lw_at lw_m3 110 rfl
theorem q722 : (Jvm.Cond.stringRef "WindingSquare$Reader" (107 : Nat) "to") ∈ lw_tbl := lw_at lw_m3 111 rfl
theorem q723 : (Jvm.Cond.methodLink "WindingSquare$Reader" (127 : Nat) ({ cls := "WindingSquare$Reader", name := "wayWord", desc := "()I" } : Jvm.MethodName)) ∈ lw_all := lw_g (lw_at lw_m3 112 rfl) rfl
theorem q724 : (Jvm.Cond.privateMethod ({ cls := "WindingSquare$Reader", name := "wayWord", desc := "()I" } : Jvm.MethodName)) ∈ lw_tbl := lw_at lw_m3 113 rfl
theorem q725 : (Jvm.Cond.instanceMethod ({ cls := "WindingSquare$Reader", name := "wayWord", desc := "()I" } : Jvm.MethodName)) ∈ lw_all := lw_g (lw_at lw_m3 114 rfl) rfl
theorem q726 : (Jvm.Cond.code ({ cls := "WindingSquare$Reader", name := "wayWord", desc := "()I" } : Jvm.MethodName) prog_9_method_9_code (1 : Nat) (Option.some Jvm.ClassFile.FieldType.int)) ∈ lw_all := lw_g (lw_at lw_m3 115 rfl) rfl
theorem q727 : (Jvm.Cond.stringRef "WindingSquare$Reader" (109 : Nat) "walker") ∈ lw_tbl := lw_at lw_m3 116 rfl
theorem q728 : (Jvm.Cond.stringRef "WindingSquare$Reader" (111 : Nat) "ahead") ∈ lw_tbl := lw_at lw_m3 117 rfl
theorem q729 : (Jvm.Cond.stringRef "WindingSquare$Reader" (113 : Nat) "wait") ∈ lw_tbl := lw_at lw_m3 118 rfl
theorem q730 : (Jvm.Cond.stringRef "WindingSquare$Reader" (115 : Nat) "left") ∈ lw_tbl := lw_at lw_m3 119 rfl
theorem q731 : (Jvm.Cond.stringRef "WindingSquare$Reader" (117 : Nat) "right") ∈ lw_tbl := lw_at lw_m3 120 rfl
theorem q732 : (Jvm.Cond.stringRef "WindingSquare$Reader" (119 : Nat) "back") ∈ lw_tbl := lw_at lw_m3 121 rfl
theorem q733 : (Jvm.Cond.stringRef "WindingSquare$Reader" (130 : Nat) "from") ∈ lw_tbl := lw_at lw_m3 122 rfl
theorem q734 : (Jvm.Cond.stringRef "WindingSquare$Reader" (132 : Nat) "blind") ∈ lw_tbl := lw_at lw_m3 123 rfl
theorem q735 : (Jvm.Cond.methodLink "WindingSquare$Reader" (155 : Nat) ({ cls := "WindingSquare$Reader", name := "isDigit", desc := "()Z" } : Jvm.MethodName)) ∈ lw_all := lw_g (lw_at lw_m3 124 rfl) rfl
theorem q736 : (Jvm.Cond.privateMethod ({ cls := "WindingSquare$Reader", name := "isDigit", desc := "()Z" } : Jvm.MethodName)) ∈ lw_tbl := lw_at lw_m3 125 rfl
theorem q737 : (Jvm.Cond.instanceMethod ({ cls := "WindingSquare$Reader", name := "isDigit", desc := "()Z" } : Jvm.MethodName)) ∈ lw_all := lw_g (lw_at lw_m3 126 rfl) rfl
theorem q738 : (Jvm.Cond.code ({ cls := "WindingSquare$Reader", name := "isDigit", desc := "()Z" } : Jvm.MethodName) prog_9_method_4_code (1 : Nat) (Option.some Jvm.ClassFile.FieldType.boolean)) ∈ lw_all := lw_g (lw_at lw_m3 127 rfl) rfl
theorem q739 : (Jvm.Cond.methodLink "WindingSquare$Reader" (158 : Nat) ({ cls := "WindingSquare$Reader", name := "isMark", desc := "(I)Z" } : Jvm.MethodName)) ∈ lw_all := lw_g (lw_at lw_m3 128 rfl) rfl
theorem q740 : (Jvm.Cond.privateMethod ({ cls := "WindingSquare$Reader", name := "isMark", desc := "(I)Z" } : Jvm.MethodName)) ∈ lw_tbl := lw_at lw_m3 129 rfl
theorem q741 : (Jvm.Cond.instanceMethod ({ cls := "WindingSquare$Reader", name := "isMark", desc := "(I)Z" } : Jvm.MethodName)) ∈ lw_all := lw_g (lw_at lw_m3 130 rfl) rfl
theorem q742 : (Jvm.Cond.code ({ cls := "WindingSquare$Reader", name := "isMark", desc := "(I)Z" } : Jvm.MethodName) prog_9_method_12_code (2 : Nat) (Option.some Jvm.ClassFile.FieldType.boolean)) ∈ lw_all := lw_g (lw_at lw_m3 131 rfl) rfl
theorem q743 : (Jvm.Cond.classLink "WindingSquare$Reader" (137 : Nat) "WindingSquare$Fault") ∈ lw_all := lw_g (lw_at lw_m3 132 rfl) rfl
theorem q780 : (Jvm.Cond.methodLink "WindingSquare$Reader" (139 : Nat) ({ cls := "WindingSquare$Fault", name := "<init>", desc := "(II)V" } : Jvm.MethodName)) ∈ lw_all := lw_g (lw_at lw_m3 169 rfl) rfl
theorem q807 : (Jvm.Cond.methodLink "WindingSquare$Reader" (212 : Nat) ({ cls := "java/util/ArrayList", name := "size", desc := "()I" } : Jvm.MethodName)) ∈ lw_all := lw_g (lw_at lw_m3 196 rfl) rfl
theorem q811 : (Jvm.Cond.methodLink "WindingSquare$Reader" (209 : Nat) ({ cls := "WindingSquare$Reader", name := "sum", desc := "()LWindingSquare$Term;" } : Jvm.MethodName)) ∈ lw_all := lw_g (lw_at lw_m3 200 rfl) rfl
theorem q812 : (Jvm.Cond.privateMethod ({ cls := "WindingSquare$Reader", name := "sum", desc := "()LWindingSquare$Term;" } : Jvm.MethodName)) ∈ lw_tbl := lw_at lw_m3 201 rfl
theorem q813 : (Jvm.Cond.instanceMethod ({ cls := "WindingSquare$Reader", name := "sum", desc := "()LWindingSquare$Term;" } : Jvm.MethodName)) ∈ lw_all := lw_g (lw_at lw_m3 202 rfl) rfl
theorem q814 : (Jvm.Cond.code ({ cls := "WindingSquare$Reader", name := "sum", desc := "()LWindingSquare$Term;" } : Jvm.MethodName) prog_9_method_16_code (3 : Nat) (Option.some (Jvm.ClassFile.FieldType.object "WindingSquare$Term"))) ∈ lw_all := lw_g (lw_at lw_m3 203 rfl) rfl
theorem q815 : (Jvm.Cond.methodLink "WindingSquare$Reader" (165 : Nat) ({ cls := "WindingSquare$Reader", name := "product", desc := "()LWindingSquare$Term;" } : Jvm.MethodName)) ∈ lw_all := lw_g (lw_at lw_m3 204 rfl) rfl
theorem q816 : (Jvm.Cond.privateMethod ({ cls := "WindingSquare$Reader", name := "product", desc := "()LWindingSquare$Term;" } : Jvm.MethodName)) ∈ lw_tbl := lw_at lw_m3 205 rfl
theorem q817 : (Jvm.Cond.instanceMethod ({ cls := "WindingSquare$Reader", name := "product", desc := "()LWindingSquare$Term;" } : Jvm.MethodName)) ∈ lw_all := lw_g (lw_at lw_m3 206 rfl) rfl
theorem q818 : (Jvm.Cond.code ({ cls := "WindingSquare$Reader", name := "product", desc := "()LWindingSquare$Term;" } : Jvm.MethodName) prog_9_method_17_code (3 : Nat) (Option.some (Jvm.ClassFile.FieldType.object "WindingSquare$Term"))) ∈ lw_all := lw_g (lw_at lw_m3 207 rfl) rfl
theorem q819 : (Jvm.Cond.methodLink "WindingSquare$Reader" (174 : Nat) ({ cls := "WindingSquare$Reader", name := "unit", desc := "()LWindingSquare$Term;" } : Jvm.MethodName)) ∈ lw_all := lw_g (lw_at lw_m3 208 rfl) rfl
theorem q820 : (Jvm.Cond.privateMethod ({ cls := "WindingSquare$Reader", name := "unit", desc := "()LWindingSquare$Term;" } : Jvm.MethodName)) ∈ lw_tbl := lw_at lw_m3 209 rfl
theorem q821 : (Jvm.Cond.instanceMethod ({ cls := "WindingSquare$Reader", name := "unit", desc := "()LWindingSquare$Term;" } : Jvm.MethodName)) ∈ lw_all := lw_g (lw_at lw_m3 210 rfl) rfl
theorem q822 : (Jvm.Cond.code ({ cls := "WindingSquare$Reader", name := "unit", desc := "()LWindingSquare$Term;" } : Jvm.MethodName) prog_9_method_18_code (2 : Nat) (Option.some (Jvm.ClassFile.FieldType.object "WindingSquare$Term"))) ∈ lw_all := lw_g (lw_at lw_m3 211 rfl) rfl
theorem q823 : (Jvm.Cond.classLink "WindingSquare$Reader" (177 : Nat) "WindingSquare$Fixed") ∈ lw_all := lw_g (lw_at lw_m3 212 rfl) rfl
theorem q825 : (Jvm.Cond.methodLink "WindingSquare$Reader" (179 : Nat) ({ cls := "WindingSquare$Reader", name := "number", desc := "(II)I" } : Jvm.MethodName)) ∈ lw_all := lw_g (lw_at lw_m3 214 rfl) rfl
theorem q826 : (Jvm.Cond.privateMethod ({ cls := "WindingSquare$Reader", name := "number", desc := "(II)I" } : Jvm.MethodName)) ∈ lw_tbl := lw_at lw_m3 215 rfl
theorem q827 : (Jvm.Cond.instanceMethod ({ cls := "WindingSquare$Reader", name := "number", desc := "(II)I" } : Jvm.MethodName)) ∈ lw_all := lw_g (lw_at lw_m3 216 rfl) rfl
theorem q828 : (Jvm.Cond.code ({ cls := "WindingSquare$Reader", name := "number", desc := "(II)I" } : Jvm.MethodName) prog_9_method_11_code (4 : Nat) (Option.some Jvm.ClassFile.FieldType.int)) ∈ lw_all := lw_g (lw_at lw_m3 217 rfl) rfl
theorem q829 : (Jvm.Cond.methodLink "WindingSquare$Reader" (183 : Nat) ({ cls := "WindingSquare$Fixed", name := "<init>", desc := "(I)V" } : Jvm.MethodName)) ∈ lw_all := lw_g (lw_at lw_m3 218 rfl) rfl
theorem q840 : (Jvm.Cond.classLink "WindingSquare$Reader" (186 : Nat) "WindingSquare$Known") ∈ lw_all := lw_g (lw_at lw_m3 229 rfl) rfl
theorem q842 : (Jvm.Cond.methodLink "WindingSquare$Reader" (188 : Nat) ({ cls := "WindingSquare$Known", name := "<init>", desc := "(I)V" } : Jvm.MethodName)) ∈ lw_all := lw_g (lw_at lw_m3 231 rfl) rfl
theorem q850 : (Jvm.Cond.classLink "WindingSquare$Reader" (169 : Nat) "WindingSquare$Joined") ∈ lw_all := lw_g (lw_at lw_m3 239 rfl) rfl
theorem q852 : (Jvm.Cond.methodLink "WindingSquare$Reader" (171 : Nat) ({ cls := "WindingSquare$Joined", name := "<init>", desc := "(LWindingSquare$Term;ILWindingSquare$Term;)V" } : Jvm.MethodName)) ∈ lw_all := lw_g (lw_at lw_m4 1 rfl) rfl
theorem q866 : (Jvm.Cond.methodLink "WindingSquare$Reader" (203 : Nat) ({ cls := "WindingSquare$Reader", name := "any", desc := "()LWindingSquare$Term;" } : Jvm.MethodName)) ∈ lw_all := lw_g (lw_at lw_m4 15 rfl) rfl
theorem q867 : (Jvm.Cond.privateMethod ({ cls := "WindingSquare$Reader", name := "any", desc := "()LWindingSquare$Term;" } : Jvm.MethodName)) ∈ lw_tbl := lw_at lw_m4 16 rfl
theorem q868 : (Jvm.Cond.instanceMethod ({ cls := "WindingSquare$Reader", name := "any", desc := "()LWindingSquare$Term;" } : Jvm.MethodName)) ∈ lw_all := lw_g (lw_at lw_m4 17 rfl) rfl
theorem q869 : (Jvm.Cond.code ({ cls := "WindingSquare$Reader", name := "any", desc := "()LWindingSquare$Term;" } : Jvm.MethodName) prog_9_method_19_code (2 : Nat) (Option.some (Jvm.ClassFile.FieldType.object "WindingSquare$Term"))) ∈ lw_all := lw_g (lw_at lw_m4 18 rfl) rfl
theorem q870 : (Jvm.Cond.methodLink "WindingSquare$Reader" (189 : Nat) ({ cls := "WindingSquare$Reader", name := "all", desc := "()LWindingSquare$Term;" } : Jvm.MethodName)) ∈ lw_all := lw_g (lw_at lw_m4 19 rfl) rfl
theorem q871 : (Jvm.Cond.privateMethod ({ cls := "WindingSquare$Reader", name := "all", desc := "()LWindingSquare$Term;" } : Jvm.MethodName)) ∈ lw_tbl := lw_at lw_m4 20 rfl
theorem q872 : (Jvm.Cond.instanceMethod ({ cls := "WindingSquare$Reader", name := "all", desc := "()LWindingSquare$Term;" } : Jvm.MethodName)) ∈ lw_all := lw_g (lw_at lw_m4 21 rfl) rfl
theorem q873 : (Jvm.Cond.code ({ cls := "WindingSquare$Reader", name := "all", desc := "()LWindingSquare$Term;" } : Jvm.MethodName) prog_9_method_20_code (2 : Nat) (Option.some (Jvm.ClassFile.FieldType.object "WindingSquare$Term"))) ∈ lw_all := lw_g (lw_at lw_m4 22 rfl) rfl
theorem q874 : (Jvm.Cond.methodLink "WindingSquare$Reader" (192 : Nat) ({ cls := "WindingSquare$Reader", name := "one", desc := "()LWindingSquare$Term;" } : Jvm.MethodName)) ∈ lw_all := lw_g (lw_at lw_m4 23 rfl) rfl
theorem q875 : (Jvm.Cond.privateMethod ({ cls := "WindingSquare$Reader", name := "one", desc := "()LWindingSquare$Term;" } : Jvm.MethodName)) ∈ lw_tbl := lw_at lw_m4 24 rfl
theorem q876 : (Jvm.Cond.instanceMethod ({ cls := "WindingSquare$Reader", name := "one", desc := "()LWindingSquare$Term;" } : Jvm.MethodName)) ∈ lw_all := lw_g (lw_at lw_m4 25 rfl) rfl
theorem q877 : (Jvm.Cond.code ({ cls := "WindingSquare$Reader", name := "one", desc := "()LWindingSquare$Term;" } : Jvm.MethodName) prog_9_method_21_code (3 : Nat) (Option.some (Jvm.ClassFile.FieldType.object "WindingSquare$Term"))) ∈ lw_all := lw_g (lw_at lw_m4 26 rfl) rfl
theorem q878 : (Jvm.Cond.methodLink "WindingSquare$Reader" (195 : Nat) ({ cls := "WindingSquare$Reader", name := "opens", desc := "()V" } : Jvm.MethodName)) ∈ lw_all := lw_g (lw_at lw_m4 27 rfl) rfl
theorem q879 : (Jvm.Cond.privateMethod ({ cls := "WindingSquare$Reader", name := "opens", desc := "()V" } : Jvm.MethodName)) ∈ lw_tbl := lw_at lw_m4 28 rfl
theorem q880 : (Jvm.Cond.instanceMethod ({ cls := "WindingSquare$Reader", name := "opens", desc := "()V" } : Jvm.MethodName)) ∈ lw_all := lw_g (lw_at lw_m4 29 rfl) rfl
theorem q881 : (Jvm.Cond.code ({ cls := "WindingSquare$Reader", name := "opens", desc := "()V" } : Jvm.MethodName) prog_9_method_15_code (1 : Nat) (Option.none : Option Jvm.ClassFile.FieldType)) ∈ lw_all := lw_g (lw_at lw_m4 30 rfl) rfl
theorem q882 : (Jvm.Cond.classLink "WindingSquare$Reader" (198 : Nat) "WindingSquare$Not") ∈ lw_all := lw_g (lw_at lw_m4 31 rfl) rfl
theorem q884 : (Jvm.Cond.methodLink "WindingSquare$Reader" (200 : Nat) ({ cls := "WindingSquare$Not", name := "<init>", desc := "(LWindingSquare$Term;)V" } : Jvm.MethodName)) ∈ lw_all := lw_g (lw_at lw_m4 33 rfl) rfl
theorem q892 : (Jvm.Cond.methodLink "WindingSquare$Reader" (206 : Nat) ({ cls := "WindingSquare$Reader", name := "must", desc := "(I)V" } : Jvm.MethodName)) ∈ lw_all := lw_g (lw_at lw_m4 41 rfl) rfl
theorem q893 : (Jvm.Cond.privateMethod ({ cls := "WindingSquare$Reader", name := "must", desc := "(I)V" } : Jvm.MethodName)) ∈ lw_tbl := lw_at lw_m4 42 rfl
theorem q894 : (Jvm.Cond.instanceMethod ({ cls := "WindingSquare$Reader", name := "must", desc := "(I)V" } : Jvm.MethodName)) ∈ lw_all := lw_g (lw_at lw_m4 43 rfl) rfl
theorem q895 : (Jvm.Cond.code ({ cls := "WindingSquare$Reader", name := "must", desc := "(I)V" } : Jvm.MethodName) prog_9_method_14_code (2 : Nat) (Option.none : Option Jvm.ClassFile.FieldType)) ∈ lw_all := lw_g (lw_at lw_m4 44 rfl) rfl
theorem q896 : (Jvm.Cond.classLink "WindingSquare$Reader" (215 : Nat) "WindingSquare$Line") ∈ lw_all := lw_g (lw_at lw_m4 45 rfl) rfl
theorem q898 : (Jvm.Cond.methodLink "WindingSquare$Reader" (217 : Nat) ({ cls := "WindingSquare$Line", name := "<init>", desc := "(ILWindingSquare$Term;LWindingSquare$Term;)V" } : Jvm.MethodName)) ∈ lw_all := lw_g (lw_at lw_m4 47 rfl) rfl
theorem q915 : (Jvm.Cond.methodLink "WindingSquare$Reader" (220 : Nat) ({ cls := "java/util/ArrayList", name := "add", desc := "(Ljava/lang/Object;)Z" } : Jvm.MethodName)) ∈ lw_all := lw_g (lw_at lw_m4 64 rfl) rfl
theorem q918 : (Jvm.Cond.instanceMethod ({ cls := "WindingSquare$Reader", name := "stones", desc := "()[I" } : Jvm.MethodName)) ∈ lw_all := lw_g (lw_at lw_m4 67 rfl) rfl
theorem q919 : (Jvm.Cond.selects "WindingSquare$Reader" ({ cls := "WindingSquare$Reader", name := "stones", desc := "()[I" } : Jvm.MethodName) ({ cls := "WindingSquare$Reader", name := "stones", desc := "()[I" } : Jvm.MethodName)) ∈ lw_all := lw_g (lw_at lw_m4 68 rfl) rfl
theorem q920 : (Jvm.Cond.code ({ cls := "WindingSquare$Reader", name := "stones", desc := "()[I" } : Jvm.MethodName) prog_9_method_24_code (6 : Nat) (Option.some (Jvm.ClassFile.FieldType.array Jvm.ClassFile.FieldType.int))) ∈ lw_all := lw_g (lw_at lw_m4 69 rfl) rfl
theorem q921 : (Jvm.Cond.methodLink "WindingSquare$Reader" (235 : Nat) ({ cls := "WindingSquare$Reader", name := "lays", desc := "(IIIII)V" } : Jvm.MethodName)) ∈ lw_all := lw_g (lw_at lw_m4 70 rfl) rfl
theorem q922 : (Jvm.Cond.privateMethod ({ cls := "WindingSquare$Reader", name := "lays", desc := "(IIIII)V" } : Jvm.MethodName)) ∈ lw_tbl := lw_at lw_m4 71 rfl
theorem q923 : (Jvm.Cond.instanceMethod ({ cls := "WindingSquare$Reader", name := "lays", desc := "(IIIII)V" } : Jvm.MethodName)) ∈ lw_all := lw_g (lw_at lw_m4 72 rfl) rfl
theorem q924 : (Jvm.Cond.code ({ cls := "WindingSquare$Reader", name := "lays", desc := "(IIIII)V" } : Jvm.MethodName) prog_9_method_23_code (8 : Nat) (Option.none : Option Jvm.ClassFile.FieldType)) ∈ lw_all := lw_g (lw_at lw_m4 73 rfl) rfl
theorem q925 : (Jvm.Cond.methodLink "WindingSquare$Reader" (224 : Nat) ({ cls := "java/lang/Math", name := "min", desc := "(II)I" } : Jvm.MethodName)) ∈ lw_all := lw_g (lw_at lw_m4 74 rfl) rfl
theorem q926 : (Jvm.Cond.methodLink "WindingSquare$Reader" (229 : Nat) ({ cls := "java/lang/Math", name := "max", desc := "(II)I" } : Jvm.MethodName)) ∈ lw_all := lw_g (lw_at lw_m4 75 rfl) rfl
theorem q936 : (Jvm.Cond.instanceMethod ({ cls := "WindingSquare$Reader", name := "ways", desc := "()Ljava/util/ArrayList;" } : Jvm.MethodName)) ∈ lw_all := lw_g (lw_at lw_m4 85 rfl) rfl
theorem q937 : (Jvm.Cond.selects "WindingSquare$Reader" ({ cls := "WindingSquare$Reader", name := "ways", desc := "()Ljava/util/ArrayList;" } : Jvm.MethodName) ({ cls := "WindingSquare$Reader", name := "ways", desc := "()Ljava/util/ArrayList;" } : Jvm.MethodName)) ∈ lw_all := lw_g (lw_at lw_m4 86 rfl) rfl
theorem q938 : (Jvm.Cond.code ({ cls := "WindingSquare$Reader", name := "ways", desc := "()Ljava/util/ArrayList;" } : Jvm.MethodName) prog_9_method_27_code (2 : Nat) (Option.some (Jvm.ClassFile.FieldType.object "java/util/ArrayList"))) ∈ lw_all := lw_g (lw_at lw_m4 87 rfl) rfl
theorem q939 : (Jvm.Cond.methodLink "WindingSquare$Reader" (257 : Nat) ({ cls := "WindingSquare$Reader", name := "steps", desc := "()Ljava/util/ArrayList;" } : Jvm.MethodName)) ∈ lw_all := lw_g (lw_at lw_m4 88 rfl) rfl
theorem q940 : (Jvm.Cond.privateMethod ({ cls := "WindingSquare$Reader", name := "steps", desc := "()Ljava/util/ArrayList;" } : Jvm.MethodName)) ∈ lw_tbl := lw_at lw_m4 89 rfl
theorem q941 : (Jvm.Cond.instanceMethod ({ cls := "WindingSquare$Reader", name := "steps", desc := "()Ljava/util/ArrayList;" } : Jvm.MethodName)) ∈ lw_all := lw_g (lw_at lw_m4 90 rfl) rfl
theorem q942 : (Jvm.Cond.code ({ cls := "WindingSquare$Reader", name := "steps", desc := "()Ljava/util/ArrayList;" } : Jvm.MethodName) prog_9_method_26_code (2 : Nat) (Option.some (Jvm.ClassFile.FieldType.object "java/util/ArrayList"))) ∈ lw_all := lw_g (lw_at lw_m4 91 rfl) rfl
theorem q943 : (Jvm.Cond.methodLink "WindingSquare$Reader" (244 : Nat) ({ cls := "WindingSquare$Reader", name := "step", desc := "()LWindingSquare$Step;" } : Jvm.MethodName)) ∈ lw_all := lw_g (lw_at lw_m4 92 rfl) rfl
theorem q944 : (Jvm.Cond.privateMethod ({ cls := "WindingSquare$Reader", name := "step", desc := "()LWindingSquare$Step;" } : Jvm.MethodName)) ∈ lw_tbl := lw_at lw_m4 93 rfl
theorem q945 : (Jvm.Cond.instanceMethod ({ cls := "WindingSquare$Reader", name := "step", desc := "()LWindingSquare$Step;" } : Jvm.MethodName)) ∈ lw_all := lw_g (lw_at lw_m4 94 rfl) rfl
theorem q946 : (Jvm.Cond.code ({ cls := "WindingSquare$Reader", name := "step", desc := "()LWindingSquare$Step;" } : Jvm.MethodName) prog_9_method_25_code (2 : Nat) (Option.some (Jvm.ClassFile.FieldType.object "WindingSquare$Step"))) ∈ lw_all := lw_g (lw_at lw_m4 95 rfl) rfl
theorem q947 : (Jvm.Cond.classLink "WindingSquare$Reader" (239 : Nat) "WindingSquare$Step") ∈ lw_all := lw_g (lw_at lw_m4 96 rfl) rfl
theorem q948 : (Jvm.Cond.methodLink "WindingSquare$Reader" (241 : Nat) ({ cls := "WindingSquare$Step", name := "<init>", desc := "(ZII)V" } : Jvm.MethodName)) ∈ lw_all := lw_g (lw_at lw_m4 97 rfl) rfl
theorem q949 : (Jvm.Cond.methodLink "WindingSquare$Reader" (261 : Nat) ({ cls := "java/util/ArrayList", name := "set", desc := "(ILjava/lang/Object;)Ljava/lang/Object;" } : Jvm.MethodName)) ∈ lw_all := lw_g (lw_at lw_m4 98 rfl) rfl
theorem q963 : (Jvm.Cond.instanceMethod ({ cls := "WindingSquare$Reader", name := "watches", desc := "()Ljava/util/ArrayList;" } : Jvm.MethodName)) ∈ lw_all := lw_g (lw_at lw_m4 112 rfl) rfl
theorem q964 : (Jvm.Cond.selects "WindingSquare$Reader" ({ cls := "WindingSquare$Reader", name := "watches", desc := "()Ljava/util/ArrayList;" } : Jvm.MethodName) ({ cls := "WindingSquare$Reader", name := "watches", desc := "()Ljava/util/ArrayList;" } : Jvm.MethodName)) ∈ lw_all := lw_g (lw_at lw_m4 113 rfl) rfl
theorem q965 : (Jvm.Cond.code ({ cls := "WindingSquare$Reader", name := "watches", desc := "()Ljava/util/ArrayList;" } : Jvm.MethodName) prog_9_method_28_code (4 : Nat) (Option.some (Jvm.ClassFile.FieldType.object "java/util/ArrayList"))) ∈ lw_all := lw_g (lw_at lw_m4 114 rfl) rfl
theorem q966 : (Jvm.Cond.classLink "WindingSquare$Reader" (265 : Nat) "WindingSquare$Watch") ∈ lw_all := lw_g (lw_at lw_m4 115 rfl) rfl
theorem q968 : (Jvm.Cond.methodLink "WindingSquare$Reader" (267 : Nat) ({ cls := "WindingSquare$Watch", name := "<init>", desc := "(II)V" } : Jvm.MethodName)) ∈ lw_all := lw_g (lw_at lw_m4 117 rfl) rfl
theorem q2060 : (Jvm.Cond.castable "WindingSquare$Reader" "java/lang/Object") ∈ lw_tbl := lw_at lw_m9 9 rfl
theorem in_X6 : ∀ w ∈ wsX60, w ∈ lw_all := lw_in wsX60 [596, 598, 600, 602, 604, 606, 608, 610, 612, 614] (by decide +kernel) (by decide +kernel)

