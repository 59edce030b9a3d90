set_option maxRecDepth 100000
abbrev cX0_look : ByteArray := prog_1_method_74_code
def yX0_look : MethodName := ⟨RX0, "look", "(I)I"⟩
def dkwX0_look_8 : List UInt8 := [180, 0, 203, 172, 2, 172]
abbrev dktX0_look_8 : List UInt8 := dkwX0_look_8 ++ []
def dkwX0_look_7 : List UInt8 := [180, 0, 161, 172, 42, 180, 0, 20, 180, 0, 170, 172, 42, 180, 0, 20, 180, 0, 183, 182, 0, 144, 172, 42]
abbrev dktX0_look_7 : List UInt8 := dkwX0_look_7 ++ dktX0_look_8
def dkwX0_look_6 : List UInt8 := [180, 0, 20, 180, 0, 222, 172, 42, 180, 0, 20, 180, 0, 141, 182, 0, 144, 172, 42, 180, 0, 20]
abbrev dktX0_look_6 : List UInt8 := dkwX0_look_6 ++ dktX0_look_7
def dkwX0_look_5 : List UInt8 := [167, 0, 4, 3, 96, 61, 132, 5, 1, 167, 255, 226, 28, 172, 42, 180, 0, 20, 180, 1, 32, 172, 42]
abbrev dktX0_look_5 : List UInt8 := dkwX0_look_5 ++ dktX0_look_6
def dkwX0_look_4 : List UInt8 := [54, 5, 21, 5, 21, 4, 162, 0, 29, 45, 21, 5, 46, 54, 6, 28, 21, 6, 4, 160, 0, 7, 4]
abbrev dktX0_look_4 : List UInt8 := dkwX0_look_4 ++ dktX0_look_5
def dkwX0_look_3 : List UInt8 := [42, 180, 0, 20, 180, 1, 50, 172, 3, 61, 42, 180, 0, 20, 180, 0, 219, 78, 45, 190, 54, 4, 3]
abbrev dktX0_look_3 : List UInt8 := dkwX0_look_3 ++ dktX0_look_4
def dkwX0_look_2 : List UInt8 := [42, 180, 0, 20, 180, 0, 210, 172, 42, 180, 0, 20, 182, 1, 42, 172, 42, 180, 0, 20, 180, 0, 247, 172]
abbrev dktX0_look_2 : List UInt8 := dkwX0_look_2 ++ dktX0_look_3
def dkwX0_look_1 : List UInt8 := [170, 0, 0, 0, 0, 0, 206, 0, 0, 0, 0, 0, 0, 0, 11, 0, 0, 0, 63, 0, 0, 0, 71, 0, 0, 0, 79, 0, 0, 0, 87, 0, 0, 0, 95, 0, 0, 0, 147, 0, 0, 0, 155, 0, 0, 0, 163, 0, 0, 0, 174, 0, 0, 0, 182, 0, 0, 0, 190, 0, 0, 0, 201]
abbrev dktX0_look_1 : List UInt8 := dkwX0_look_1 ++ dktX0_look_2
def dkwX0_look_0 : List UInt8 := [27]
abbrev dktX0_look_0 : List UInt8 := dkwX0_look_0 ++ dktX0_look_1
theorem dksX0_look_0 : cX0_look.data.toList.drop 0 = dktX0_look_0 := by decide +kernel
theorem dksX0_look_1 : cX0_look.data.toList.drop 1 = dktX0_look_1 := dk_seg dksX0_look_0 1 rfl rfl
theorem dksX0_look_2 : cX0_look.data.toList.drop 64 = dktX0_look_2 := dk_seg dksX0_look_1 63 rfl rfl
theorem dksX0_look_3 : cX0_look.data.toList.drop 88 = dktX0_look_3 := dk_seg dksX0_look_2 24 rfl rfl
theorem dksX0_look_4 : cX0_look.data.toList.drop 111 = dktX0_look_4 := dk_seg dksX0_look_3 23 rfl rfl
theorem dksX0_look_5 : cX0_look.data.toList.drop 134 = dktX0_look_5 := dk_seg dksX0_look_4 23 rfl rfl
theorem dksX0_look_6 : cX0_look.data.toList.drop 157 = dktX0_look_6 := dk_seg dksX0_look_5 23 rfl rfl
theorem dksX0_look_7 : cX0_look.data.toList.drop 179 = dktX0_look_7 := dk_seg dksX0_look_6 22 rfl rfl
theorem dksX0_look_8 : cX0_look.data.toList.drop 203 = dktX0_look_8 := dk_seg dksX0_look_7 24 rfl rfl
theorem dX0_look_0 : decode cX0_look 0 = .ok (.iload_n 1, 1) := dk_27 (dk_at dksX0_look_0 0 rfl rfl)
theorem dX0_look_1 : decode cX0_look 1 = .ok (.tableswitch 206 0 11 #[63, 71, 79, 87, 95, 147, 155, 163, 174, 182, 190, 201], 63) := by decide +kernel
theorem dX0_look_64 : decode cX0_look 64 = .ok (.aload_n 0, 1) := dk_42 (dk_at dksX0_look_2 0 rfl rfl)
theorem dX0_look_65 : decode cX0_look 65 = .ok (.getfield 20, 3) := dk_180 0 20 (dk_at dksX0_look_2 1 rfl rfl)
theorem dX0_look_68 : decode cX0_look 68 = .ok (.getfield 210, 3) := dk_180 0 210 (dk_at dksX0_look_2 4 rfl rfl)
theorem dX0_look_71 : decode cX0_look 71 = .ok (.ireturn, 1) := dk_172 (dk_at dksX0_look_2 7 rfl rfl)
theorem dX0_look_72 : decode cX0_look 72 = .ok (.aload_n 0, 1) := dk_42 (dk_at dksX0_look_2 8 rfl rfl)
theorem dX0_look_73 : decode cX0_look 73 = .ok (.getfield 20, 3) := dk_180 0 20 (dk_at dksX0_look_2 9 rfl rfl)
theorem dX0_look_76 : decode cX0_look 76 = .ok (.invokevirtual 298, 3) := dk_182 1 42 (dk_at dksX0_look_2 12 rfl rfl)
theorem dX0_look_79 : decode cX0_look 79 = .ok (.ireturn, 1) := dk_172 (dk_at dksX0_look_2 15 rfl rfl)
theorem dX0_look_80 : decode cX0_look 80 = .ok (.aload_n 0, 1) := dk_42 (dk_at dksX0_look_2 16 rfl rfl)
theorem dX0_look_81 : decode cX0_look 81 = .ok (.getfield 20, 3) := dk_180 0 20 (dk_at dksX0_look_2 17 rfl rfl)
theorem dX0_look_84 : decode cX0_look 84 = .ok (.getfield 247, 3) := dk_180 0 247 (dk_at dksX0_look_2 20 rfl rfl)
theorem dX0_look_87 : decode cX0_look 87 = .ok (.ireturn, 1) := dk_172 (dk_at dksX0_look_2 23 rfl rfl)
theorem dX0_look_88 : decode cX0_look 88 = .ok (.aload_n 0, 1) := dk_42 (dk_at dksX0_look_3 0 rfl rfl)
theorem dX0_look_89 : decode cX0_look 89 = .ok (.getfield 20, 3) := dk_180 0 20 (dk_at dksX0_look_3 1 rfl rfl)
theorem dX0_look_92 : decode cX0_look 92 = .ok (.getfield 306, 3) := dk_180 1 50 (dk_at dksX0_look_3 4 rfl rfl)
theorem dX0_look_95 : decode cX0_look 95 = .ok (.ireturn, 1) := dk_172 (dk_at dksX0_look_3 7 rfl rfl)
theorem dX0_look_96 : decode cX0_look 96 = .ok (.iconst 0, 1) := dk_3 (dk_at dksX0_look_3 8 rfl rfl)
theorem dX0_look_97 : decode cX0_look 97 = .ok (.istore_n 2, 1) := dk_61 (dk_at dksX0_look_3 9 rfl rfl)
theorem dX0_look_98 : decode cX0_look 98 = .ok (.aload_n 0, 1) := dk_42 (dk_at dksX0_look_3 10 rfl rfl)
theorem dX0_look_99 : decode cX0_look 99 = .ok (.getfield 20, 3) := dk_180 0 20 (dk_at dksX0_look_3 11 rfl rfl)
theorem dX0_look_102 : decode cX0_look 102 = .ok (.getfield 219, 3) := dk_180 0 219 (dk_at dksX0_look_3 14 rfl rfl)
theorem dX0_look_105 : decode cX0_look 105 = .ok (.astore_n 3, 1) := dk_78 (dk_at dksX0_look_3 17 rfl rfl)
theorem dX0_look_106 : decode cX0_look 106 = .ok (.aload_n 3, 1) := dk_45 (dk_at dksX0_look_3 18 rfl rfl)
theorem dX0_look_107 : decode cX0_look 107 = .ok (.arraylength, 1) := dk_190 (dk_at dksX0_look_3 19 rfl rfl)
theorem dX0_look_108 : decode cX0_look 108 = .ok (.istore 4, 2) := dk_54 4 (dk_at dksX0_look_3 20 rfl rfl)
theorem dX0_look_110 : decode cX0_look 110 = .ok (.iconst 0, 1) := dk_3 (dk_at dksX0_look_3 22 rfl rfl)
theorem dX0_look_111 : decode cX0_look 111 = .ok (.istore 5, 2) := dk_54 5 (dk_at dksX0_look_4 0 rfl rfl)
theorem dX0_look_113 : decode cX0_look 113 = .ok (.iload 5, 2) := dk_21 5 (dk_at dksX0_look_4 2 rfl rfl)
theorem dX0_look_115 : decode cX0_look 115 = .ok (.iload 4, 2) := dk_21 4 (dk_at dksX0_look_4 4 rfl rfl)
theorem dX0_look_117 : decode cX0_look 117 = .ok (.if_icmp .ge 29, 3) := dk_162 0 29 (dk_at dksX0_look_4 6 rfl rfl)
theorem dX0_look_120 : decode cX0_look 120 = .ok (.aload_n 3, 1) := dk_45 (dk_at dksX0_look_4 9 rfl rfl)
theorem dX0_look_121 : decode cX0_look 121 = .ok (.iload 5, 2) := dk_21 5 (dk_at dksX0_look_4 10 rfl rfl)
theorem dX0_look_123 : decode cX0_look 123 = .ok (.iaload, 1) := dk_46 (dk_at dksX0_look_4 12 rfl rfl)
theorem dX0_look_124 : decode cX0_look 124 = .ok (.istore 6, 2) := dk_54 6 (dk_at dksX0_look_4 13 rfl rfl)
theorem dX0_look_126 : decode cX0_look 126 = .ok (.iload_n 2, 1) := dk_28 (dk_at dksX0_look_4 15 rfl rfl)
theorem dX0_look_127 : decode cX0_look 127 = .ok (.iload 6, 2) := dk_21 6 (dk_at dksX0_look_4 16 rfl rfl)
theorem dX0_look_129 : decode cX0_look 129 = .ok (.iconst 1, 1) := dk_4 (dk_at dksX0_look_4 18 rfl rfl)
theorem dX0_look_130 : decode cX0_look 130 = .ok (.if_icmp .ne 7, 3) := dk_160 0 7 (dk_at dksX0_look_4 19 rfl rfl)
theorem dX0_look_133 : decode cX0_look 133 = .ok (.iconst 1, 1) := dk_4 (dk_at dksX0_look_4 22 rfl rfl)
theorem dX0_look_134 : decode cX0_look 134 = .ok (.goto 4, 3) := dk_167 0 4 (dk_at dksX0_look_5 0 rfl rfl)
theorem dX0_look_137 : decode cX0_look 137 = .ok (.iconst 0, 1) := dk_3 (dk_at dksX0_look_5 3 rfl rfl)
theorem dX0_look_138 : decode cX0_look 138 = .ok (.iadd, 1) := dk_96 (dk_at dksX0_look_5 4 rfl rfl)
theorem dX0_look_139 : decode cX0_look 139 = .ok (.istore_n 2, 1) := dk_61 (dk_at dksX0_look_5 5 rfl rfl)
theorem dX0_look_140 : decode cX0_look 140 = .ok (.iinc 5 1, 3) := dk_132 5 1 (dk_at dksX0_look_5 6 rfl rfl)
theorem dX0_look_143 : decode cX0_look 143 = .ok (.goto (-30), 3) := dk_167 255 226 (dk_at dksX0_look_5 9 rfl rfl)
theorem dX0_look_146 : decode cX0_look 146 = .ok (.iload_n 2, 1) := dk_28 (dk_at dksX0_look_5 12 rfl rfl)
theorem dX0_look_147 : decode cX0_look 147 = .ok (.ireturn, 1) := dk_172 (dk_at dksX0_look_5 13 rfl rfl)
theorem dX0_look_148 : decode cX0_look 148 = .ok (.aload_n 0, 1) := dk_42 (dk_at dksX0_look_5 14 rfl rfl)
theorem dX0_look_149 : decode cX0_look 149 = .ok (.getfield 20, 3) := dk_180 0 20 (dk_at dksX0_look_5 15 rfl rfl)
theorem dX0_look_152 : decode cX0_look 152 = .ok (.getfield 288, 3) := dk_180 1 32 (dk_at dksX0_look_5 18 rfl rfl)
theorem dX0_look_155 : decode cX0_look 155 = .ok (.ireturn, 1) := dk_172 (dk_at dksX0_look_5 21 rfl rfl)
theorem dX0_look_156 : decode cX0_look 156 = .ok (.aload_n 0, 1) := dk_42 (dk_at dksX0_look_5 22 rfl rfl)
theorem dX0_look_157 : decode cX0_look 157 = .ok (.getfield 20, 3) := dk_180 0 20 (dk_at dksX0_look_6 0 rfl rfl)
theorem dX0_look_160 : decode cX0_look 160 = .ok (.getfield 222, 3) := dk_180 0 222 (dk_at dksX0_look_6 3 rfl rfl)
theorem dX0_look_163 : decode cX0_look 163 = .ok (.ireturn, 1) := dk_172 (dk_at dksX0_look_6 6 rfl rfl)
theorem dX0_look_164 : decode cX0_look 164 = .ok (.aload_n 0, 1) := dk_42 (dk_at dksX0_look_6 7 rfl rfl)
theorem dX0_look_165 : decode cX0_look 165 = .ok (.getfield 20, 3) := dk_180 0 20 (dk_at dksX0_look_6 8 rfl rfl)
theorem dX0_look_168 : decode cX0_look 168 = .ok (.getfield 141, 3) := dk_180 0 141 (dk_at dksX0_look_6 11 rfl rfl)
theorem dX0_look_171 : decode cX0_look 171 = .ok (.invokevirtual 144, 3) := dk_182 0 144 (dk_at dksX0_look_6 14 rfl rfl)
theorem dX0_look_174 : decode cX0_look 174 = .ok (.ireturn, 1) := dk_172 (dk_at dksX0_look_6 17 rfl rfl)
theorem dX0_look_175 : decode cX0_look 175 = .ok (.aload_n 0, 1) := dk_42 (dk_at dksX0_look_6 18 rfl rfl)
theorem dX0_look_176 : decode cX0_look 176 = .ok (.getfield 20, 3) := dk_180 0 20 (dk_at dksX0_look_6 19 rfl rfl)
theorem dX0_look_179 : decode cX0_look 179 = .ok (.getfield 161, 3) := dk_180 0 161 (dk_at dksX0_look_7 0 rfl rfl)
theorem dX0_look_182 : decode cX0_look 182 = .ok (.ireturn, 1) := dk_172 (dk_at dksX0_look_7 3 rfl rfl)
theorem dX0_look_183 : decode cX0_look 183 = .ok (.aload_n 0, 1) := dk_42 (dk_at dksX0_look_7 4 rfl rfl)
theorem dX0_look_184 : decode cX0_look 184 = .ok (.getfield 20, 3) := dk_180 0 20 (dk_at dksX0_look_7 5 rfl rfl)
theorem dX0_look_187 : decode cX0_look 187 = .ok (.getfield 170, 3) := dk_180 0 170 (dk_at dksX0_look_7 8 rfl rfl)
theorem dX0_look_190 : decode cX0_look 190 = .ok (.ireturn, 1) := dk_172 (dk_at dksX0_look_7 11 rfl rfl)
theorem dX0_look_191 : decode cX0_look 191 = .ok (.aload_n 0, 1) := dk_42 (dk_at dksX0_look_7 12 rfl rfl)
theorem dX0_look_192 : decode cX0_look 192 = .ok (.getfield 20, 3) := dk_180 0 20 (dk_at dksX0_look_7 13 rfl rfl)
theorem dX0_look_195 : decode cX0_look 195 = .ok (.getfield 183, 3) := dk_180 0 183 (dk_at dksX0_look_7 16 rfl rfl)
theorem dX0_look_198 : decode cX0_look 198 = .ok (.invokevirtual 144, 3) := dk_182 0 144 (dk_at dksX0_look_7 19 rfl rfl)
theorem dX0_look_201 : decode cX0_look 201 = .ok (.ireturn, 1) := dk_172 (dk_at dksX0_look_7 22 rfl rfl)
theorem dX0_look_202 : decode cX0_look 202 = .ok (.aload_n 0, 1) := dk_42 (dk_at dksX0_look_7 23 rfl rfl)
theorem dX0_look_203 : decode cX0_look 203 = .ok (.getfield 203, 3) := dk_180 0 203 (dk_at dksX0_look_8 0 rfl rfl)
theorem dX0_look_206 : decode cX0_look 206 = .ok (.ireturn, 1) := dk_172 (dk_at dksX0_look_8 3 rfl rfl)
theorem dX0_look_207 : decode cX0_look 207 = .ok (.iconst (-1), 1) := dk_2 (dk_at dksX0_look_8 4 rfl rfl)
theorem dX0_look_208 : decode cX0_look 208 = .ok (.ireturn, 1) := dk_172 (dk_at dksX0_look_8 5 rfl rfl)
theorem q132 : (Jvm.Cond.initialized "WindingSquare") ∈ lw_all := lw_g (lw_at lw_m1 1 rfl) rfl
theorem q163 : (Jvm.Cond.instantiable "WindingSquare" (30 : Nat)) ∈ lw_all := lw_g (lw_at lw_m1 32 rfl) rfl
theorem q165 : (Jvm.Cond.instanceMethod ({ cls := "WindingSquare", name := "<init>", desc := "()V" } : Jvm.MethodName)) ∈ lw_all := lw_g (lw_at lw_m1 34 rfl) rfl
theorem q166 : (Jvm.Cond.code ({ cls := "WindingSquare", name := "<init>", desc := "()V" } : Jvm.MethodName) prog_1_method_1_code (2 : Nat) (Option.none : Option Jvm.ClassFile.FieldType)) ∈ lw_all := lw_g (lw_at lw_m1 35 rfl) rfl
theorem q167 : (Jvm.Cond.methodLink "WindingSquare" (1 : Nat) ({ cls := "java/lang/Object", name := "<init>", desc := "()V" } : Jvm.MethodName)) ∈ lw_all := lw_g (lw_at lw_m1 36 rfl) rfl
theorem q170 : (Jvm.Cond.classLink "WindingSquare" (17 : Nat) "WindingSquare$Square") ∈ lw_all := lw_g (lw_at lw_m1 39 rfl) rfl
theorem q172 : (Jvm.Cond.methodLink "WindingSquare" (19 : Nat) ({ cls := "WindingSquare$Square", name := "<init>", desc := "()V" } : Jvm.MethodName)) ∈ lw_all := lw_g (lw_at lw_m1 41 rfl) rfl
theorem q186 : (Jvm.Cond.fieldLinkNest "WindingSquare" (460 : Nat) "WindingSquare$Step" "goes" "Z" "WindingSquare") ∈ lw_tbl := lw_at lw_m1 55 rfl
theorem q189 : (Jvm.Cond.fieldLinkNest "WindingSquare" (448 : Nat) "WindingSquare$Step" "minutes" "I" "WindingSquare") ∈ lw_tbl := lw_at lw_m1 58 rfl
theorem q192 : (Jvm.Cond.fieldLinkNest "WindingSquare" (454 : Nat) "WindingSquare$Step" "quarters" "I" "WindingSquare") ∈ lw_tbl := lw_at lw_m1 61 rfl
theorem q214 : (Jvm.Cond.fieldLinkNest "WindingSquare" (364 : Nat) "WindingSquare$Rows" "many" "I" "WindingSquare") ∈ lw_tbl := lw_at lw_m1 83 rfl
theorem q253 : (Jvm.Cond.fieldLinkNest "WindingSquare" (253 : Nat) "WindingSquare$Walker" "haste" "I" "WindingSquare") ∈ lw_tbl := lw_at lw_m1 122 rfl
theorem q256 : (Jvm.Cond.fieldLinkNest "WindingSquare" (256 : Nat) "WindingSquare$Walker" "cell" "I" "WindingSquare") ∈ lw_tbl := lw_at lw_m1 125 rfl
theorem q259 : (Jvm.Cond.fieldLinkNest "WindingSquare" (258 : Nat) "WindingSquare$Walker" "facing" "I" "WindingSquare") ∈ lw_tbl := lw_at lw_m1 128 rfl
theorem q262 : (Jvm.Cond.fieldLinkNest "WindingSquare" (261 : Nat) "WindingSquare$Walker" "turns" "I" "WindingSquare") ∈ lw_tbl := lw_at lw_m1 131 rfl
theorem q265 : (Jvm.Cond.fieldLinkNest "WindingSquare" (263 : Nat) "WindingSquare$Walker" "signs" "I" "WindingSquare") ∈ lw_tbl := lw_at lw_m1 134 rfl
theorem q268 : (Jvm.Cond.fieldLinkNest "WindingSquare" (266 : Nat) "WindingSquare$Walker" "side" "I" "WindingSquare") ∈ lw_tbl := lw_at lw_m1 137 rfl
theorem q271 : (Jvm.Cond.fieldLinkNest "WindingSquare" (439 : Nat) "WindingSquare$Walker" "step" "I" "WindingSquare") ∈ lw_tbl := lw_at lw_m1 140 rfl
theorem q275 : (Jvm.Cond.fieldLinkNest "WindingSquare" (269 : Nat) "WindingSquare$Walker" "crossed" "I" "WindingSquare") ∈ lw_tbl := lw_at lw_m1 144 rfl
theorem q278 : (Jvm.Cond.fieldLinkNest "WindingSquare" (272 : Nat) "WindingSquare$Walker" "caught" "I" "WindingSquare") ∈ lw_tbl := lw_at lw_m1 147 rfl
theorem q281 : (Jvm.Cond.fieldLinkNest "WindingSquare" (275 : Nat) "WindingSquare$Walker" "slipped" "I" "WindingSquare") ∈ lw_tbl := lw_at lw_m1 150 rfl
theorem q345 : (Jvm.Cond.selects "WindingSquare" ({ cls := "java/lang/Object", name := "getClass", desc := "()Ljava/lang/Class;" } : Jvm.MethodName) ({ cls := "java/lang/Object", name := "getClass", desc := "()Ljava/lang/Class;" } : Jvm.MethodName)) ∈ lw_all := lw_g (lw_at lw_m1 214 rfl) rfl
theorem q376 : (Jvm.Cond.fieldLinkNest "WindingSquare" (219 : Nat) "WindingSquare$Square" "cell" "[I" "WindingSquare") ∈ lw_tbl := lw_at lw_m2 5 rfl
theorem q378 : (Jvm.Cond.fieldLinkNest "WindingSquare" (173 : Nat) "WindingSquare$Square" "walker" "[LWindingSquare$Walker;" "WindingSquare") ∈ lw_tbl := lw_at lw_m2 7 rfl
theorem q380 : (Jvm.Cond.fieldLinkNest "WindingSquare" (444 : Nat) "WindingSquare$Square" "ahead" "LWindingSquare$Step;" "WindingSquare") ∈ lw_tbl := lw_at lw_m2 9 rfl
theorem q382 : (Jvm.Cond.fieldLinkNest "WindingSquare" (291 : Nat) "WindingSquare$Square" "book" "[[I" "WindingSquare") ∈ lw_tbl := lw_at lw_m2 11 rfl
theorem q384 : (Jvm.Cond.fieldLinkNest "WindingSquare" (352 : Nat) "WindingSquare$Square" "known" "[LWindingSquare$Rows;" "WindingSquare") ∈ lw_tbl := lw_at lw_m2 13 rfl
theorem q386 : (Jvm.Cond.fieldLinkNest "WindingSquare" (385 : Nat) "WindingSquare$Square" "moved" "LWindingSquare$Rows;" "WindingSquare") ∈ lw_tbl := lw_at lw_m2 15 rfl
theorem q388 : (Jvm.Cond.fieldLinkNest "WindingSquare" (426 : Nat) "WindingSquare$Square" "gaps" "LWindingSquare$Rows;" "WindingSquare") ∈ lw_tbl := lw_at lw_m2 17 rfl
theorem q390 : (Jvm.Cond.fieldLinkNest "WindingSquare" (141 : Nat) "WindingSquare$Square" "law" "Ljava/util/ArrayList;" "WindingSquare") ∈ lw_tbl := lw_at lw_m2 19 rfl
theorem q392 : (Jvm.Cond.fieldLinkNest "WindingSquare" (167 : Nat) "WindingSquare$Square" "way" "Ljava/util/ArrayList;" "WindingSquare") ∈ lw_tbl := lw_at lw_m2 21 rfl
theorem q394 : (Jvm.Cond.fieldLinkNest "WindingSquare" (183 : Nat) "WindingSquare$Square" "watches" "Ljava/util/ArrayList;" "WindingSquare") ∈ lw_tbl := lw_at lw_m2 23 rfl
theorem q396 : (Jvm.Cond.fieldLinkNest "WindingSquare" (210 : Nat) "WindingSquare$Square" "walkers" "I" "WindingSquare") ∈ lw_tbl := lw_at lw_m2 25 rfl
theorem q399 : (Jvm.Cond.fieldLinkNest "WindingSquare" (247 : Nat) "WindingSquare$Square" "minute" "I" "WindingSquare") ∈ lw_tbl := lw_at lw_m2 28 rfl
theorem q401 : (Jvm.Cond.fieldLinkNest "WindingSquare" (306 : Nat) "WindingSquare$Square" "paid" "I" "WindingSquare") ∈ lw_tbl := lw_at lw_m2 30 rfl
theorem q403 : (Jvm.Cond.fieldLinkNest "WindingSquare" (222 : Nat) "WindingSquare$Square" "state" "I" "WindingSquare") ∈ lw_tbl := lw_at lw_m2 32 rfl
theorem q405 : (Jvm.Cond.fieldLinkNest "WindingSquare" (288 : Nat) "WindingSquare$Square" "lines" "I" "WindingSquare") ∈ lw_tbl := lw_at lw_m2 34 rfl
theorem q407 : (Jvm.Cond.fieldLinkNest "WindingSquare" (161 : Nat) "WindingSquare$Square" "stoneLines" "I" "WindingSquare") ∈ lw_tbl := lw_at lw_m2 36 rfl
theorem q409 : (Jvm.Cond.fieldLinkNest "WindingSquare" (170 : Nat) "WindingSquare$Square" "wayLines" "I" "WindingSquare") ∈ lw_tbl := lw_at lw_m2 38 rfl
theorem q410 : (Jvm.Cond.fieldLinkNest "WindingSquare" (34 : Nat) "WindingSquare$Square" "isThought" "Z" "WindingSquare") ∈ lw_tbl := lw_at lw_m2 39 rfl
theorem q453 : (Jvm.Cond.classLink "WindingSquare" (45 : Nat) "[[[I") ∈ lw_all := lw_g (lw_at lw_m2 82 rfl) rfl
theorem q455 : (Jvm.Cond.classLink "WindingSquare" (88 : Nat) "WindingSquare$Walker") ∈ lw_all := lw_g (lw_at lw_m2 84 rfl) rfl
theorem q456 : (Jvm.Cond.methodLinkNest "WindingSquare" (90 : Nat) ({ cls := "WindingSquare$Walker", name := "<init>", desc := "()V" } : Jvm.MethodName) "WindingSquare") ∈ lw_tbl := lw_at lw_m2 85 rfl
theorem q457 : (Jvm.Cond.fieldLink "WindingSquare" (9 : Nat) "WindingSquare" "tape" "[B") ∈ lw_all := lw_g (lw_at lw_m2 86 rfl) rfl
theorem q460 : (Jvm.Cond.fieldLink "WindingSquare" (125 : Nat) "WindingSquare" "taped" "I") ∈ lw_all := lw_g (lw_at lw_m2 89 rfl) rfl
theorem q461 : (Jvm.Cond.fieldLink "WindingSquare" (189 : Nat) "WindingSquare" "faultKind" "I") ∈ lw_all := lw_g (lw_at lw_m2 90 rfl) rfl
theorem q462 : (Jvm.Cond.fieldLink "WindingSquare" (13 : Nat) "WindingSquare" "faultPlace" "I") ∈ lw_all := lw_g (lw_at lw_m2 91 rfl) rfl
theorem q463 : (Jvm.Cond.fieldLink "WindingSquare" (20 : Nat) "WindingSquare" "square" "LWindingSquare$Square;") ∈ lw_all := lw_g (lw_at lw_m2 92 rfl) rfl
theorem q465 : (Jvm.Cond.fieldLink "WindingSquare" (24 : Nat) "WindingSquare" "kept" "LWindingSquare$Square;") ∈ lw_all := lw_g (lw_at lw_m2 94 rfl) rfl
theorem q466 : (Jvm.Cond.fieldLink "WindingSquare" (27 : Nat) "WindingSquare" "thought" "LWindingSquare$Square;") ∈ lw_all := lw_g (lw_at lw_m2 95 rfl) rfl
theorem q467 : (Jvm.Cond.fieldLink "WindingSquare" (30 : Nat) "WindingSquare" "back" "[LWindingSquare$Square;") ∈ lw_all := lw_g (lw_at lw_m2 96 rfl) rfl
theorem q468 : (Jvm.Cond.fieldLink "WindingSquare" (203 : Nat) "WindingSquare" "backMany" "I") ∈ lw_all := lw_g (lw_at lw_m2 97 rfl) rfl
theorem q469 : (Jvm.Cond.fieldLink "WindingSquare" (487 : Nat) "WindingSquare" "hasImage" "Z") ∈ lw_all := lw_g (lw_at lw_m2 98 rfl) rfl
theorem q470 : (Jvm.Cond.fieldLink "WindingSquare" (38 : Nat) "WindingSquare" "costAt" "[I") ∈ lw_all := lw_g (lw_at lw_m2 99 rfl) rfl
theorem q471 : (Jvm.Cond.fieldLink "WindingSquare" (42 : Nat) "WindingSquare" "queue" "[I") ∈ lw_all := lw_g (lw_at lw_m2 100 rfl) rfl
theorem q472 : (Jvm.Cond.fieldLink "WindingSquare" (309 : Nat) "WindingSquare" "queued" "I") ∈ lw_all := lw_g (lw_at lw_m2 101 rfl) rfl
theorem q473 : (Jvm.Cond.fieldLink "WindingSquare" (47 : Nat) "WindingSquare" "waysAt" "[[[I") ∈ lw_all := lw_g (lw_at lw_m2 102 rfl) rfl
theorem q474 : (Jvm.Cond.fieldLink "WindingSquare" (50 : Nat) "WindingSquare" "waysThen" "[[[I") ∈ lw_all := lw_g (lw_at lw_m2 103 rfl) rfl
theorem q475 : (Jvm.Cond.fieldLink "WindingSquare" (53 : Nat) "WindingSquare" "stoodOn" "[I") ∈ lw_all := lw_g (lw_at lw_m2 104 rfl) rfl
theorem q476 : (Jvm.Cond.fieldLink "WindingSquare" (56 : Nat) "WindingSquare" "pacesTo" "[I") ∈ lw_all := lw_g (lw_at lw_m2 105 rfl) rfl
theorem q477 : (Jvm.Cond.fieldLink "WindingSquare" (59 : Nat) "WindingSquare" "paced" "[I") ∈ lw_all := lw_g (lw_at lw_m2 106 rfl) rfl
theorem q478 : (Jvm.Cond.fieldLink "WindingSquare" (398 : Nat) "WindingSquare" "pacedMany" "I") ∈ lw_all := lw_g (lw_at lw_m2 107 rfl) rfl
theorem q479 : (Jvm.Cond.fieldLink "WindingSquare" (62 : Nat) "WindingSquare" "laid" "[Z") ∈ lw_all := lw_g (lw_at lw_m2 108 rfl) rfl
theorem q480 : (Jvm.Cond.fieldLink "WindingSquare" (66 : Nat) "WindingSquare" "laidUp" "[J") ∈ lw_all := lw_g (lw_at lw_m2 109 rfl) rfl
theorem q481 : (Jvm.Cond.fieldLink "WindingSquare" (70 : Nat) "WindingSquare" "cameFrom" "[I") ∈ lw_all := lw_g (lw_at lw_m2 110 rfl) rfl
theorem q482 : (Jvm.Cond.fieldLink "WindingSquare" (73 : Nat) "WindingSquare" "wentTo" "[I") ∈ lw_all := lw_g (lw_at lw_m2 111 rfl) rfl
theorem q483 : (Jvm.Cond.fieldLink "WindingSquare" (76 : Nat) "WindingSquare" "triedIn" "[Z") ∈ lw_all := lw_g (lw_at lw_m2 112 rfl) rfl
theorem q484 : (Jvm.Cond.fieldLink "WindingSquare" (79 : Nat) "WindingSquare" "triedOut" "[Z") ∈ lw_all := lw_g (lw_at lw_m2 113 rfl) rfl
theorem q485 : (Jvm.Cond.fieldLink "WindingSquare" (82 : Nat) "WindingSquare" "hedgeTo" "[I") ∈ lw_all := lw_g (lw_at lw_m2 114 rfl) rfl
theorem q486 : (Jvm.Cond.fieldLink "WindingSquare" (85 : Nat) "WindingSquare" "hedgeThen" "[I") ∈ lw_all := lw_g (lw_at lw_m2 115 rfl) rfl
theorem q487 : (Jvm.Cond.fieldLink "WindingSquare" (91 : Nat) "WindingSquare" "one" "LWindingSquare$Walker;") ∈ lw_all := lw_g (lw_at lw_m2 116 rfl) rfl
theorem q488 : (Jvm.Cond.fieldLink "WindingSquare" (95 : Nat) "WindingSquare" "other" "LWindingSquare$Walker;") ∈ lw_all := lw_g (lw_at lw_m2 117 rfl) rfl
theorem q489 : (Jvm.Cond.fieldLink "WindingSquare" (98 : Nat) "WindingSquare" "nims" "[I") ∈ lw_all := lw_g (lw_at lw_m2 118 rfl) rfl
theorem q490 : (Jvm.Cond.laysFinal "WindingSquare" "WindingSquare" "tape" "[B") ∈ lw_all := lw_g (lw_at lw_m2 119 rfl) rfl
theorem q491 : (Jvm.Cond.soleField "WindingSquare" "tape") ∈ lw_all := lw_g (lw_at lw_m2 120 rfl) rfl
theorem q492 : (Jvm.Cond.lays "WindingSquare" "WindingSquare" "taped" "I") ∈ lw_all := lw_g (lw_at lw_m2 121 rfl) rfl
theorem q493 : (Jvm.Cond.soleField "WindingSquare" "taped") ∈ lw_all := lw_g (lw_at lw_m2 122 rfl) rfl
theorem q494 : (Jvm.Cond.lays "WindingSquare" "WindingSquare" "faultKind" "I") ∈ lw_all := lw_g (lw_at lw_m2 123 rfl) rfl
theorem q495 : (Jvm.Cond.soleField "WindingSquare" "faultKind") ∈ lw_all := lw_g (lw_at lw_m2 124 rfl) rfl
theorem q496 : (Jvm.Cond.lays "WindingSquare" "WindingSquare" "faultPlace" "I") ∈ lw_all := lw_g (lw_at lw_m2 125 rfl) rfl
theorem q497 : (Jvm.Cond.soleField "WindingSquare" "faultPlace") ∈ lw_all := lw_g (lw_at lw_m2 126 rfl) rfl
theorem q498 : (Jvm.Cond.laysFinal "WindingSquare" "WindingSquare" "square" "LWindingSquare$Square;") ∈ lw_all := lw_g (lw_at lw_m2 127 rfl) rfl
theorem q499 : (Jvm.Cond.soleField "WindingSquare" "square") ∈ lw_all := lw_g (lw_at lw_m2 128 rfl) rfl
theorem q500 : (Jvm.Cond.laysFinal "WindingSquare" "WindingSquare" "kept" "LWindingSquare$Square;") ∈ lw_all := lw_g (lw_at lw_m2 129 rfl) rfl
theorem q501 : (Jvm.Cond.soleField "WindingSquare" "kept") ∈ lw_all := lw_g (lw_at lw_m2 130 rfl) rfl
theorem q502 : (Jvm.Cond.laysFinal "WindingSquare" "WindingSquare" "thought" "LWindingSquare$Square;") ∈ lw_all := lw_g (lw_at lw_m2 131 rfl) rfl
theorem q503 : (Jvm.Cond.soleField "WindingSquare" "thought") ∈ lw_all := lw_g (lw_at lw_m2 132 rfl) rfl
theorem q504 : (Jvm.Cond.laysFinal "WindingSquare" "WindingSquare" "back" "[LWindingSquare$Square;") ∈ lw_all := lw_g (lw_at lw_m2 133 rfl) rfl
theorem q505 : (Jvm.Cond.soleField "WindingSquare" "back") ∈ lw_all := lw_g (lw_at lw_m2 134 rfl) rfl
theorem q506 : (Jvm.Cond.lays "WindingSquare" "WindingSquare" "backMany" "I") ∈ lw_all := lw_g (lw_at lw_m2 135 rfl) rfl
theorem q507 : (Jvm.Cond.soleField "WindingSquare" "backMany") ∈ lw_all := lw_g (lw_at lw_m2 136 rfl) rfl
theorem q508 : (Jvm.Cond.lays "WindingSquare" "WindingSquare" "hasImage" "Z") ∈ lw_all := lw_g (lw_at lw_m2 137 rfl) rfl
theorem q509 : (Jvm.Cond.soleField "WindingSquare" "hasImage") ∈ lw_all := lw_g (lw_at lw_m2 138 rfl) rfl
theorem q510 : (Jvm.Cond.laysFinal "WindingSquare" "WindingSquare" "costAt" "[I") ∈ lw_all := lw_g (lw_at lw_m2 139 rfl) rfl
theorem q511 : (Jvm.Cond.soleField "WindingSquare" "costAt") ∈ lw_all := lw_g (lw_at lw_m2 140 rfl) rfl
theorem q512 : (Jvm.Cond.laysFinal "WindingSquare" "WindingSquare" "queue" "[I") ∈ lw_all := lw_g (lw_at lw_m2 141 rfl) rfl
theorem q513 : (Jvm.Cond.soleField "WindingSquare" "queue") ∈ lw_all := lw_g (lw_at lw_m2 142 rfl) rfl
theorem q514 : (Jvm.Cond.lays "WindingSquare" "WindingSquare" "queued" "I") ∈ lw_all := lw_g (lw_at lw_m2 143 rfl) rfl
theorem q515 : (Jvm.Cond.soleField "WindingSquare" "queued") ∈ lw_all := lw_g (lw_at lw_m2 144 rfl) rfl
theorem q516 : (Jvm.Cond.lays "WindingSquare" "WindingSquare" "waysAt" "[[[I") ∈ lw_all := lw_g (lw_at lw_m2 145 rfl) rfl
theorem q517 : (Jvm.Cond.soleField "WindingSquare" "waysAt") ∈ lw_all := lw_g (lw_at lw_m2 146 rfl) rfl
theorem q518 : (Jvm.Cond.lays "WindingSquare" "WindingSquare" "waysThen" "[[[I") ∈ lw_all := lw_g (lw_at lw_m2 147 rfl) rfl
theorem q519 : (Jvm.Cond.soleField "WindingSquare" "waysThen") ∈ lw_all := lw_g (lw_at lw_m2 148 rfl) rfl
theorem q520 : (Jvm.Cond.laysFinal "WindingSquare" "WindingSquare" "stoodOn" "[I") ∈ lw_all := lw_g (lw_at lw_m2 149 rfl) rfl
theorem q521 : (Jvm.Cond.soleField "WindingSquare" "stoodOn") ∈ lw_all := lw_g (lw_at lw_m2 150 rfl) rfl
theorem q522 : (Jvm.Cond.laysFinal "WindingSquare" "WindingSquare" "pacesTo" "[I") ∈ lw_all := lw_g (lw_at lw_m2 151 rfl) rfl
theorem q523 : (Jvm.Cond.soleField "WindingSquare" "pacesTo") ∈ lw_all := lw_g (lw_at lw_m2 152 rfl) rfl
theorem q524 : (Jvm.Cond.laysFinal "WindingSquare" "WindingSquare" "paced" "[I") ∈ lw_all := lw_g (lw_at lw_m2 153 rfl) rfl
theorem q525 : (Jvm.Cond.soleField "WindingSquare" "paced") ∈ lw_all := lw_g (lw_at lw_m2 154 rfl) rfl
theorem q526 : (Jvm.Cond.lays "WindingSquare" "WindingSquare" "pacedMany" "I") ∈ lw_all := lw_g (lw_at lw_m2 155 rfl) rfl
theorem q527 : (Jvm.Cond.soleField "WindingSquare" "pacedMany") ∈ lw_all := lw_g (lw_at lw_m2 156 rfl) rfl
theorem q528 : (Jvm.Cond.laysFinal "WindingSquare" "WindingSquare" "laid" "[Z") ∈ lw_all := lw_g (lw_at lw_m2 157 rfl) rfl
theorem q529 : (Jvm.Cond.soleField "WindingSquare" "laid") ∈ lw_all := lw_g (lw_at lw_m2 158 rfl) rfl
theorem q530 : (Jvm.Cond.laysFinal "WindingSquare" "WindingSquare" "laidUp" "[J") ∈ lw_all := lw_g (lw_at lw_m2 159 rfl) rfl
theorem q531 : (Jvm.Cond.soleField "WindingSquare" "laidUp") ∈ lw_all := lw_g (lw_at lw_m2 160 rfl) rfl
theorem q532 : (Jvm.Cond.laysFinal "WindingSquare" "WindingSquare" "cameFrom" "[I") ∈ lw_all := lw_g (lw_at lw_m2 161 rfl) rfl
theorem q533 : (Jvm.Cond.soleField "WindingSquare" "cameFrom") ∈ lw_all := lw_g (lw_at lw_m2 162 rfl) rfl
theorem q534 : (Jvm.Cond.laysFinal "WindingSquare" "WindingSquare" "wentTo" "[I") ∈ lw_all := lw_g (lw_at lw_m2 163 rfl) rfl
theorem q535 : (Jvm.Cond.soleField "WindingSquare" "wentTo") ∈ lw_all := lw_g (lw_at lw_m2 164 rfl) rfl
theorem q536 : (Jvm.Cond.laysFinal "WindingSquare" "WindingSquare" "triedIn" "[Z") ∈ lw_all := lw_g (lw_at lw_m2 165 rfl) rfl
theorem q537 : (Jvm.Cond.soleField "WindingSquare" "triedIn") ∈ lw_all := lw_g (lw_at lw_m2 166 rfl) rfl
theorem q538 : (Jvm.Cond.laysFinal "WindingSquare" "WindingSquare" "triedOut" "[Z") ∈ lw_all := lw_g (lw_at lw_m2 167 rfl) rfl
theorem q539 : (Jvm.Cond.soleField "WindingSquare" "triedOut") ∈ lw_all := lw_g (lw_at lw_m2 168 rfl) rfl
theorem q540 : (Jvm.Cond.laysFinal "WindingSquare" "WindingSquare" "hedgeTo" "[I") ∈ lw_all := lw_g (lw_at lw_m2 169 rfl) rfl
theorem q541 : (Jvm.Cond.soleField "WindingSquare" "hedgeTo") ∈ lw_all := lw_g (lw_at lw_m2 170 rfl) rfl
theorem q542 : (Jvm.Cond.laysFinal "WindingSquare" "WindingSquare" "hedgeThen" "[I") ∈ lw_all := lw_g (lw_at lw_m2 171 rfl) rfl
theorem q543 : (Jvm.Cond.soleField "WindingSquare" "hedgeThen") ∈ lw_all := lw_g (lw_at lw_m2 172 rfl) rfl
theorem q544 : (Jvm.Cond.laysFinal "WindingSquare" "WindingSquare" "one" "LWindingSquare$Walker;") ∈ lw_all := lw_g (lw_at lw_m2 173 rfl) rfl
theorem q545 : (Jvm.Cond.soleField "WindingSquare" "one") ∈ lw_all := lw_g (lw_at lw_m2 174 rfl) rfl
theorem q546 : (Jvm.Cond.laysFinal "WindingSquare" "WindingSquare" "other" "LWindingSquare$Walker;") ∈ lw_all := lw_g (lw_at lw_m2 175 rfl) rfl
theorem q547 : (Jvm.Cond.soleField "WindingSquare" "other") ∈ lw_all := lw_g (lw_at lw_m2 176 rfl) rfl
theorem q548 : (Jvm.Cond.laysFinal "WindingSquare" "WindingSquare" "nims" "[I") ∈ lw_all := lw_g (lw_at lw_m2 177 rfl) rfl
theorem q549 : (Jvm.Cond.soleField "WindingSquare" "nims") ∈ lw_all := lw_g (lw_at lw_m2 178 rfl) rfl
theorem q550 : (Jvm.Cond.superclass "WindingSquare" "java/lang/Object") ∈ lw_all := lw_g (lw_at lw_m2 179 rfl) rfl
theorem q554 : (Jvm.Cond.instanceMethod ({ cls := "WindingSquare", name := "feed", desc := "(IIIII)I" } : Jvm.MethodName)) ∈ lw_all := lw_g (lw_at lw_m2 183 rfl) rfl
theorem q555 : (Jvm.Cond.selects "WindingSquare" ({ cls := "WindingSquare", name := "feed", desc := "(IIIII)I" } : Jvm.MethodName) ({ cls := "WindingSquare", name := "feed", desc := "(IIIII)I" } : Jvm.MethodName)) ∈ lw_all := lw_g (lw_at lw_m2 184 rfl) rfl
theorem q556 : (Jvm.Cond.code ({ cls := "WindingSquare", name := "feed", desc := "(IIIII)I" } : Jvm.MethodName) prog_1_method_8_code (6 : Nat) (Option.some Jvm.ClassFile.FieldType.int)) ∈ lw_all := lw_g (lw_at lw_m2 185 rfl) rfl
theorem q557 : (Jvm.Cond.methodLink "WindingSquare" (128 : Nat) ({ cls := "WindingSquare", name := "word", desc := "(I)V" } : Jvm.MethodName)) ∈ lw_all := lw_g (lw_at lw_m2 186 rfl) rfl
theorem q558 : (Jvm.Cond.privateMethod ({ cls := "WindingSquare", name := "word", desc := "(I)V" } : Jvm.MethodName)) ∈ lw_tbl := lw_at lw_m2 187 rfl
theorem q559 : (Jvm.Cond.instanceMethod ({ cls := "WindingSquare", name := "word", desc := "(I)V" } : Jvm.MethodName)) ∈ lw_all := lw_g (lw_at lw_m2 188 rfl) rfl
theorem q560 : (Jvm.Cond.code ({ cls := "WindingSquare", name := "word", desc := "(I)V" } : Jvm.MethodName) prog_1_method_9_code (3 : Nat) (Option.none : Option Jvm.ClassFile.FieldType)) ∈ lw_all := lw_g (lw_at lw_m2 189 rfl) rfl
theorem q562 : (Jvm.Cond.instanceMethod ({ cls := "WindingSquare", name := "end", desc := "(I)Z" } : Jvm.MethodName)) ∈ lw_all := lw_g (lw_at lw_m2 191 rfl) rfl
theorem q563 : (Jvm.Cond.selects "WindingSquare" ({ cls := "WindingSquare", name := "end", desc := "(I)Z" } : Jvm.MethodName) ({ cls := "WindingSquare", name := "end", desc := "(I)Z" } : Jvm.MethodName)) ∈ lw_all := lw_g (lw_at lw_m2 192 rfl) rfl
theorem q564 : (Jvm.Cond.code ({ cls := "WindingSquare", name := "end", desc := "(I)Z" } : Jvm.MethodName) prog_1_method_10_code (2 : Nat) (Option.some Jvm.ClassFile.FieldType.boolean)) ∈ lw_all := lw_g (lw_at lw_m2 193 rfl) rfl
theorem q565 : (Jvm.Cond.methodLink "WindingSquare" (110 : Nat) ({ cls := "WindingSquare", name := "isIn", desc := "(III)Z" } : Jvm.MethodName)) ∈ lw_all := lw_g (lw_at lw_m2 194 rfl) rfl
theorem q566 : (Jvm.Cond.static ({ cls := "WindingSquare", name := "isIn", desc := "(III)Z" } : Jvm.MethodName)) ∈ lw_all := lw_g (lw_at lw_m2 195 rfl) rfl
theorem q567 : (Jvm.Cond.code ({ cls := "WindingSquare", name := "isIn", desc := "(III)Z" } : Jvm.MethodName) prog_1_method_2_code (3 : Nat) (Option.some Jvm.ClassFile.FieldType.boolean)) ∈ lw_all := lw_g (lw_at lw_m2 196 rfl) rfl
theorem q569 : (Jvm.Cond.instanceMethod ({ cls := "WindingSquare", name := "text", desc := "(I)I" } : Jvm.MethodName)) ∈ lw_all := lw_g (lw_at lw_m2 198 rfl) rfl
theorem q570 : (Jvm.Cond.selects "WindingSquare" ({ cls := "WindingSquare", name := "text", desc := "(I)I" } : Jvm.MethodName) ({ cls := "WindingSquare", name := "text", desc := "(I)I" } : Jvm.MethodName)) ∈ lw_all := lw_g (lw_at lw_m2 199 rfl) rfl
theorem q571 : (Jvm.Cond.codeWith ({ cls := "WindingSquare", name := "text", desc := "(I)I" } : Jvm.MethodName) prog_1_method_12_code (5 : Nat) (Option.some Jvm.ClassFile.FieldType.int) [((10 : Nat), (29 : Nat), (36 : Nat), (195 : Nat)), ((10 : Nat), (29 : Nat), (62 : Nat), (0 : Nat)), ((36 : Nat), (55 : Nat), (62 : Nat), (0 : Nat)), ((62 : Nat), (64 : Nat), (62 : Nat), (0 : Nat))]) ∈ lw_all := lw_g (lw_at lw_m2 200 rfl) rfl
theorem q572 : (Jvm.Cond.classLink "WindingSquare" (195 : Nat) "WindingSquare$Fault") ∈ lw_all := lw_g (lw_at lw_m2 201 rfl) rfl
theorem q573 : (Jvm.Cond.methodLink "WindingSquare" (192 : Nat) ({ cls := "WindingSquare", name := "reads", desc := "(I)I" } : Jvm.MethodName)) ∈ lw_all := lw_g (lw_at lw_m2 202 rfl) rfl
theorem q574 : (Jvm.Cond.privateMethod ({ cls := "WindingSquare", name := "reads", desc := "(I)I" } : Jvm.MethodName)) ∈ lw_tbl := lw_at lw_m2 203 rfl
theorem q575 : (Jvm.Cond.instanceMethod ({ cls := "WindingSquare", name := "reads", desc := "(I)I" } : Jvm.MethodName)) ∈ lw_all := lw_g (lw_at lw_m2 204 rfl) rfl
theorem q576 : (Jvm.Cond.code ({ cls := "WindingSquare", name := "reads", desc := "(I)I" } : Jvm.MethodName) prog_1_method_11_code (5 : Nat) (Option.some Jvm.ClassFile.FieldType.int)) ∈ lw_all := lw_g (lw_at lw_m2 205 rfl) rfl
theorem q577 : (Jvm.Cond.classLink "WindingSquare" (132 : Nat) "WindingSquare$Reader") ∈ lw_all := lw_g (lw_at lw_m2 206 rfl) rfl
theorem q579 : (Jvm.Cond.methodLink "WindingSquare" (134 : Nat) ({ cls := "WindingSquare$Reader", name := "<init>", desc := "(LWindingSquare;I)V" } : Jvm.MethodName)) ∈ lw_all := lw_g (lw_at lw_m2 208 rfl) rfl
theorem q593 : (Jvm.Cond.fieldLinkNest "WindingSquare" (158 : Nat) "WindingSquare$Reader" "told" "I" "WindingSquare") ∈ lw_tbl := lw_at lw_m2 222 rfl
theorem q617 : (Jvm.Cond.methodLink "WindingSquare" (137 : Nat) ({ cls := "WindingSquare$Reader", name := "law", desc := "()Ljava/util/ArrayList;" } : Jvm.MethodName)) ∈ lw_all := lw_g (lw_at lw_m3 6 rfl) rfl
theorem q788 : (Jvm.Cond.fieldLinkNest "WindingSquare" (197 : Nat) "WindingSquare$Fault" "kind" "I" "WindingSquare") ∈ lw_tbl := lw_at lw_m3 177 rfl
theorem q790 : (Jvm.Cond.fieldLinkNest "WindingSquare" (200 : Nat) "WindingSquare$Fault" "place" "I" "WindingSquare") ∈ lw_tbl := lw_at lw_m3 179 rfl
theorem q916 : (Jvm.Cond.methodLink "WindingSquare" (144 : Nat) ({ cls := "java/util/ArrayList", name := "size", desc := "()I" } : Jvm.MethodName)) ∈ lw_all := lw_g (lw_at lw_m4 65 rfl) rfl
theorem q917 : (Jvm.Cond.methodLink "WindingSquare" (150 : Nat) ({ cls := "WindingSquare$Reader", name := "stones", desc := "()[I" } : Jvm.MethodName)) ∈ lw_all := lw_g (lw_at lw_m4 66 rfl) rfl
theorem q927 : (Jvm.Cond.methodLink "WindingSquare" (154 : Nat) ({ cls := "WindingSquare$Square", name := "isLaid", desc := "([I)V" } : Jvm.MethodName)) ∈ lw_all := lw_g (lw_at lw_m4 76 rfl) rfl
theorem q935 : (Jvm.Cond.methodLink "WindingSquare" (164 : Nat) ({ cls := "WindingSquare$Reader", name := "ways", desc := "()Ljava/util/ArrayList;" } : Jvm.MethodName)) ∈ lw_all := lw_g (lw_at lw_m4 84 rfl) rfl
theorem q961 : (Jvm.Cond.methodLink "WindingSquare" (177 : Nat) ({ cls := "WindingSquare$Walker", name := "begins", desc := "()V" } : Jvm.MethodName)) ∈ lw_all := lw_g (lw_at lw_m4 110 rfl) rfl
theorem q962 : (Jvm.Cond.methodLink "WindingSquare" (180 : Nat) ({ cls := "WindingSquare$Reader", name := "watches", desc := "()Ljava/util/ArrayList;" } : Jvm.MethodName)) ∈ lw_all := lw_g (lw_at lw_m4 111 rfl) rfl
theorem q981 : (Jvm.Cond.methodLink "WindingSquare" (185 : Nat) ({ cls := "WindingSquare", name := "forgets", desc := "()Z" } : Jvm.MethodName)) ∈ lw_all := lw_g (lw_at lw_m4 130 rfl) rfl
theorem q982 : (Jvm.Cond.privateMethod ({ cls := "WindingSquare", name := "forgets", desc := "()Z" } : Jvm.MethodName)) ∈ lw_tbl := lw_at lw_m4 131 rfl
theorem q983 : (Jvm.Cond.instanceMethod ({ cls := "WindingSquare", name := "forgets", desc := "()Z" } : Jvm.MethodName)) ∈ lw_all := lw_g (lw_at lw_m4 132 rfl) rfl
theorem q984 : (Jvm.Cond.code ({ cls := "WindingSquare", name := "forgets", desc := "()Z" } : Jvm.MethodName) prog_1_method_14_code (1 : Nat) (Option.some Jvm.ClassFile.FieldType.boolean)) ∈ lw_all := lw_g (lw_at lw_m4 133 rfl) rfl
theorem q986 : (Jvm.Cond.instanceMethod ({ cls := "WindingSquare", name := "fault", desc := "(I)I" } : Jvm.MethodName)) ∈ lw_all := lw_g (lw_at lw_m4 135 rfl) rfl
theorem q987 : (Jvm.Cond.selects "WindingSquare" ({ cls := "WindingSquare", name := "fault", desc := "(I)I" } : Jvm.MethodName) ({ cls := "WindingSquare", name := "fault", desc := "(I)I" } : Jvm.MethodName)) ∈ lw_all := lw_g (lw_at lw_m4 136 rfl) rfl
theorem q988 : (Jvm.Cond.code ({ cls := "WindingSquare", name := "fault", desc := "(I)I" } : Jvm.MethodName) prog_1_method_13_code (2 : Nat) (Option.some Jvm.ClassFile.FieldType.int)) ∈ lw_all := lw_g (lw_at lw_m4 137 rfl) rfl
theorem q990 : (Jvm.Cond.instanceMethod ({ cls := "WindingSquare", name := "undo", desc := "()Z" } : Jvm.MethodName)) ∈ lw_all := lw_g (lw_at lw_m4 139 rfl) rfl
theorem q991 : (Jvm.Cond.selects "WindingSquare" ({ cls := "WindingSquare", name := "undo", desc := "()Z" } : Jvm.MethodName) ({ cls := "WindingSquare", name := "undo", desc := "()Z" } : Jvm.MethodName)) ∈ lw_all := lw_g (lw_at lw_m4 140 rfl) rfl
theorem q992 : (Jvm.Cond.code ({ cls := "WindingSquare", name := "undo", desc := "()Z" } : Jvm.MethodName) prog_1_method_16_code (1 : Nat) (Option.some Jvm.ClassFile.FieldType.boolean)) ∈ lw_all := lw_g (lw_at lw_m4 141 rfl) rfl
theorem q993 : (Jvm.Cond.methodLink "WindingSquare" (206 : Nat) ({ cls := "WindingSquare$Square", name := "moves", desc := "(LWindingSquare$Square;)V" } : Jvm.MethodName)) ∈ lw_all := lw_g (lw_at lw_m4 142 rfl) rfl
theorem q1007 : (Jvm.Cond.instanceMethod ({ cls := "WindingSquare", name := "state", desc := "(I)I" } : Jvm.MethodName)) ∈ lw_all := lw_g (lw_at lw_m4 156 rfl) rfl
theorem q1008 : (Jvm.Cond.selects "WindingSquare" ({ cls := "WindingSquare", name := "state", desc := "(I)I" } : Jvm.MethodName) ({ cls := "WindingSquare", name := "state", desc := "(I)I" } : Jvm.MethodName)) ∈ lw_all := lw_g (lw_at lw_m4 157 rfl) rfl
theorem q1009 : (Jvm.Cond.code ({ cls := "WindingSquare", name := "state", desc := "(I)I" } : Jvm.MethodName) prog_1_method_20_code (3 : Nat) (Option.some Jvm.ClassFile.FieldType.int)) ∈ lw_all := lw_g (lw_at lw_m4 158 rfl) rfl
theorem q1011 : (Jvm.Cond.instanceMethod ({ cls := "WindingSquare", name := "walker", desc := "(I)I" } : Jvm.MethodName)) ∈ lw_all := lw_g (lw_at lw_m4 160 rfl) rfl
theorem q1012 : (Jvm.Cond.selects "WindingSquare" ({ cls := "WindingSquare", name := "walker", desc := "(I)I" } : Jvm.MethodName) ({ cls := "WindingSquare", name := "walker", desc := "(I)I" } : Jvm.MethodName)) ∈ lw_all := lw_g (lw_at lw_m4 161 rfl) rfl
theorem q1013 : (Jvm.Cond.code ({ cls := "WindingSquare", name := "walker", desc := "(I)I" } : Jvm.MethodName) prog_1_method_21_code (2 : Nat) (Option.some Jvm.ClassFile.FieldType.int)) ∈ lw_all := lw_g (lw_at lw_m4 162 rfl) rfl
theorem q1014 : (Jvm.Cond.methodLink "WindingSquare" (225 : Nat) ({ cls := "WindingSquare$Walker", name := "begins", desc := "(I)V" } : Jvm.MethodName)) ∈ lw_all := lw_g (lw_at lw_m4 163 rfl) rfl
theorem q1016 : (Jvm.Cond.instanceMethod ({ cls := "WindingSquare", name := "comes", desc := "(III)Z" } : Jvm.MethodName)) ∈ lw_all := lw_g (lw_at lw_m4 165 rfl) rfl
theorem q1017 : (Jvm.Cond.selects "WindingSquare" ({ cls := "WindingSquare", name := "comes", desc := "(III)Z" } : Jvm.MethodName) ({ cls := "WindingSquare", name := "comes", desc := "(III)Z" } : Jvm.MethodName)) ∈ lw_all := lw_g (lw_at lw_m4 166 rfl) rfl
theorem q1018 : (Jvm.Cond.code ({ cls := "WindingSquare", name := "comes", desc := "(III)Z" } : Jvm.MethodName) prog_1_method_22_code (6 : Nat) (Option.some Jvm.ClassFile.FieldType.boolean)) ∈ lw_all := lw_g (lw_at lw_m4 167 rfl) rfl
theorem q1019 : (Jvm.Cond.methodLink "WindingSquare" (213 : Nat) ({ cls := "WindingSquare", name := "isWalker", desc := "(I)Z" } : Jvm.MethodName)) ∈ lw_all := lw_g (lw_at lw_m4 168 rfl) rfl
theorem q1020 : (Jvm.Cond.privateMethod ({ cls := "WindingSquare", name := "isWalker", desc := "(I)Z" } : Jvm.MethodName)) ∈ lw_tbl := lw_at lw_m4 169 rfl
theorem q1021 : (Jvm.Cond.instanceMethod ({ cls := "WindingSquare", name := "isWalker", desc := "(I)Z" } : Jvm.MethodName)) ∈ lw_all := lw_g (lw_at lw_m4 170 rfl) rfl
theorem q1022 : (Jvm.Cond.code ({ cls := "WindingSquare", name := "isWalker", desc := "(I)Z" } : Jvm.MethodName) prog_1_method_17_code (2 : Nat) (Option.some Jvm.ClassFile.FieldType.boolean)) ∈ lw_all := lw_g (lw_at lw_m4 171 rfl) rfl
theorem q1023 : (Jvm.Cond.methodLink "WindingSquare" (217 : Nat) ({ cls := "WindingSquare$Walker", name := "isIn", desc := "()Z" } : Jvm.MethodName)) ∈ lw_all := lw_g (lw_at lw_m4 172 rfl) rfl
theorem q1024 : (Jvm.Cond.methodLink "WindingSquare" (227 : Nat) ({ cls := "WindingSquare$Square", name := "isFree", desc := "(I)Z" } : Jvm.MethodName)) ∈ lw_all := lw_g (lw_at lw_m4 173 rfl) rfl
theorem q1032 : (Jvm.Cond.methodLink "WindingSquare" (230 : Nat) ({ cls := "WindingSquare", name := "remembers", desc := "()Z" } : Jvm.MethodName)) ∈ lw_all := lw_g (lw_at lw_m4 181 rfl) rfl
theorem q1033 : (Jvm.Cond.privateMethod ({ cls := "WindingSquare", name := "remembers", desc := "()Z" } : Jvm.MethodName)) ∈ lw_tbl := lw_at lw_m4 182 rfl
theorem q1034 : (Jvm.Cond.instanceMethod ({ cls := "WindingSquare", name := "remembers", desc := "()Z" } : Jvm.MethodName)) ∈ lw_all := lw_g (lw_at lw_m4 183 rfl) rfl
theorem q1035 : (Jvm.Cond.code ({ cls := "WindingSquare", name := "remembers", desc := "()Z" } : Jvm.MethodName) prog_1_method_15_code (3 : Nat) (Option.some Jvm.ClassFile.FieldType.boolean)) ∈ lw_all := lw_g (lw_at lw_m4 184 rfl) rfl
theorem q1036 : (Jvm.Cond.methodLink "WindingSquare" (233 : Nat) ({ cls := "WindingSquare$Square", name := "comes", desc := "(III)V" } : Jvm.MethodName)) ∈ lw_all := lw_g (lw_at lw_m4 185 rfl) rfl
theorem q1049 : (Jvm.Cond.instanceMethod ({ cls := "WindingSquare", name := "turn", desc := "(II)Z" } : Jvm.MethodName)) ∈ lw_all := lw_g (lw_at lw_m4 198 rfl) rfl
theorem q1050 : (Jvm.Cond.selects "WindingSquare" ({ cls := "WindingSquare", name := "turn", desc := "(II)Z" } : Jvm.MethodName) ({ cls := "WindingSquare", name := "turn", desc := "(II)Z" } : Jvm.MethodName)) ∈ lw_all := lw_g (lw_at lw_m4 199 rfl) rfl
theorem q1051 : (Jvm.Cond.code ({ cls := "WindingSquare", name := "turn", desc := "(II)Z" } : Jvm.MethodName) prog_1_method_23_code (3 : Nat) (Option.some Jvm.ClassFile.FieldType.boolean)) ∈ lw_all := lw_g (lw_at lw_m4 200 rfl) rfl
theorem q1052 : (Jvm.Cond.methodLink "WindingSquare" (237 : Nat) ({ cls := "WindingSquare", name := "isInside", desc := "(I)Z" } : Jvm.MethodName)) ∈ lw_all := lw_g (lw_at lw_m4 201 rfl) rfl
theorem q1053 : (Jvm.Cond.privateMethod ({ cls := "WindingSquare", name := "isInside", desc := "(I)Z" } : Jvm.MethodName)) ∈ lw_tbl := lw_at lw_m4 202 rfl
theorem q1054 : (Jvm.Cond.instanceMethod ({ cls := "WindingSquare", name := "isInside", desc := "(I)Z" } : Jvm.MethodName)) ∈ lw_all := lw_g (lw_at lw_m4 203 rfl) rfl
theorem q1055 : (Jvm.Cond.code ({ cls := "WindingSquare", name := "isInside", desc := "(I)Z" } : Jvm.MethodName) prog_1_method_18_code (2 : Nat) (Option.some Jvm.ClassFile.FieldType.boolean)) ∈ lw_all := lw_g (lw_at lw_m4 204 rfl) rfl
theorem q1056 : (Jvm.Cond.methodLink "WindingSquare" (240 : Nat) ({ cls := "WindingSquare$Square", name := "turns", desc := "(II)V" } : Jvm.MethodName)) ∈ lw_all := lw_g (lw_at lw_m4 205 rfl) rfl
theorem q1065 : (Jvm.Cond.instanceMethod ({ cls := "WindingSquare", name := "lay", desc := "(III)Z" } : Jvm.MethodName)) ∈ lw_all := lw_g (lw_at lw_m4 214 rfl) rfl
theorem q1066 : (Jvm.Cond.selects "WindingSquare" ({ cls := "WindingSquare", name := "lay", desc := "(III)Z" } : Jvm.MethodName) ({ cls := "WindingSquare", name := "lay", desc := "(III)Z" } : Jvm.MethodName)) ∈ lw_all := lw_g (lw_at lw_m4 215 rfl) rfl
theorem q1067 : (Jvm.Cond.code ({ cls := "WindingSquare", name := "lay", desc := "(III)Z" } : Jvm.MethodName) prog_1_method_24_code (5 : Nat) (Option.some Jvm.ClassFile.FieldType.boolean)) ∈ lw_all := lw_g (lw_at lw_m4 216 rfl) rfl
theorem q1068 : (Jvm.Cond.methodLink "WindingSquare" (121 : Nat) ({ cls := "WindingSquare", name := "isCell", desc := "(II)Z" } : Jvm.MethodName)) ∈ lw_all := lw_g (lw_at lw_m4 217 rfl) rfl
theorem q1069 : (Jvm.Cond.static ({ cls := "WindingSquare", name := "isCell", desc := "(II)Z" } : Jvm.MethodName)) ∈ lw_all := lw_g (lw_at lw_m4 218 rfl) rfl
theorem q1070 : (Jvm.Cond.code ({ cls := "WindingSquare", name := "isCell", desc := "(II)Z" } : Jvm.MethodName) prog_1_method_6_code (2 : Nat) (Option.some Jvm.ClassFile.FieldType.boolean)) ∈ lw_all := lw_g (lw_at lw_m4 219 rfl) rfl
theorem q1071 : (Jvm.Cond.methodLink "WindingSquare" (244 : Nat) ({ cls := "WindingSquare$Square", name := "standing", desc := "(I)I" } : Jvm.MethodName)) ∈ lw_all := lw_g (lw_at lw_m4 220 rfl) rfl
theorem q1073 : (Jvm.Cond.instanceMethod ({ cls := "WindingSquare", name := "minutes", desc := "(I)I" } : Jvm.MethodName)) ∈ lw_all := lw_g (lw_at lw_m4 222 rfl) rfl
theorem q1074 : (Jvm.Cond.selects "WindingSquare" ({ cls := "WindingSquare", name := "minutes", desc := "(I)I" } : Jvm.MethodName) ({ cls := "WindingSquare", name := "minutes", desc := "(I)I" } : Jvm.MethodName)) ∈ lw_all := lw_g (lw_at lw_m4 223 rfl) rfl
theorem q1075 : (Jvm.Cond.code ({ cls := "WindingSquare", name := "minutes", desc := "(I)I" } : Jvm.MethodName) prog_1_method_25_code (4 : Nat) (Option.some Jvm.ClassFile.FieldType.int)) ∈ lw_all := lw_g (lw_at lw_m4 224 rfl) rfl
theorem q1076 : (Jvm.Cond.methodLink "WindingSquare" (250 : Nat) ({ cls := "WindingSquare$Square", name := "passes", desc := "()I" } : Jvm.MethodName)) ∈ lw_all := lw_g (lw_at lw_m4 225 rfl) rfl
theorem q1103 : (Jvm.Cond.static ({ cls := "WindingSquare", name := "on", desc := "(II)I" } : Jvm.MethodName)) ∈ lw_all := lw_g (lw_at lw_m5 12 rfl) rfl
theorem q1104 : (Jvm.Cond.code ({ cls := "WindingSquare", name := "on", desc := "(II)I" } : Jvm.MethodName) prog_1_method_7_code (4 : Nat) (Option.some Jvm.ClassFile.FieldType.int)) ∈ lw_all := lw_g (lw_at lw_m5 13 rfl) rfl
theorem q1105 : (Jvm.Cond.methodLink "WindingSquare" (114 : Nat) ({ cls := "WindingSquare", name := "right", desc := "(I)I" } : Jvm.MethodName)) ∈ lw_all := lw_g (lw_at lw_m5 14 rfl) rfl
theorem q1106 : (Jvm.Cond.static ({ cls := "WindingSquare", name := "right", desc := "(I)I" } : Jvm.MethodName)) ∈ lw_all := lw_g (lw_at lw_m5 15 rfl) rfl
theorem q1107 : (Jvm.Cond.code ({ cls := "WindingSquare", name := "right", desc := "(I)I" } : Jvm.MethodName) prog_1_method_4_code (1 : Nat) (Option.some Jvm.ClassFile.FieldType.int)) ∈ lw_all := lw_g (lw_at lw_m5 16 rfl) rfl
theorem q1108 : (Jvm.Cond.methodLink "WindingSquare" (118 : Nat) ({ cls := "WindingSquare", name := "up", desc := "(I)I" } : Jvm.MethodName)) ∈ lw_all := lw_g (lw_at lw_m5 17 rfl) rfl
theorem q1109 : (Jvm.Cond.static ({ cls := "WindingSquare", name := "up", desc := "(I)I" } : Jvm.MethodName)) ∈ lw_all := lw_g (lw_at lw_m5 18 rfl) rfl
theorem q1110 : (Jvm.Cond.code ({ cls := "WindingSquare", name := "up", desc := "(I)I" } : Jvm.MethodName) prog_1_method_5_code (1 : Nat) (Option.some Jvm.ClassFile.FieldType.int)) ∈ lw_all := lw_g (lw_at lw_m5 19 rfl) rfl
theorem q1167 : (Jvm.Cond.static ({ cls := "WindingSquare", name := "bound", desc := "(III)I" } : Jvm.MethodName)) ∈ lw_all := lw_g (lw_at lw_m5 76 rfl) rfl
theorem q1168 : (Jvm.Cond.code ({ cls := "WindingSquare", name := "bound", desc := "(III)I" } : Jvm.MethodName) prog_1_method_3_code (3 : Nat) (Option.some Jvm.ClassFile.FieldType.int)) ∈ lw_all := lw_g (lw_at lw_m5 77 rfl) rfl
theorem q1169 : (Jvm.Cond.methodLink "WindingSquare" (101 : Nat) ({ cls := "java/lang/Math", name := "min", desc := "(II)I" } : Jvm.MethodName)) ∈ lw_all := lw_g (lw_at lw_m5 78 rfl) rfl
theorem q1170 : (Jvm.Cond.methodLink "WindingSquare" (107 : Nat) ({ cls := "java/lang/Math", name := "max", desc := "(II)I" } : Jvm.MethodName)) ∈ lw_all := lw_g (lw_at lw_m5 79 rfl) rfl
theorem q1191 : (Jvm.Cond.instanceMethod ({ cls := "WindingSquare", name := "of", desc := "(II)I" } : Jvm.MethodName)) ∈ lw_all := lw_g (lw_at lw_m5 100 rfl) rfl
theorem q1192 : (Jvm.Cond.selects "WindingSquare" ({ cls := "WindingSquare", name := "of", desc := "(II)I" } : Jvm.MethodName) ({ cls := "WindingSquare", name := "of", desc := "(II)I" } : Jvm.MethodName)) ∈ lw_all := lw_g (lw_at lw_m5 101 rfl) rfl
theorem q1193 : (Jvm.Cond.code ({ cls := "WindingSquare", name := "of", desc := "(II)I" } : Jvm.MethodName) prog_1_method_26_code (4 : Nat) (Option.some Jvm.ClassFile.FieldType.int)) ∈ lw_all := lw_g (lw_at lw_m5 102 rfl) rfl
theorem q1194 : (Jvm.Cond.methodLink "WindingSquare" (278 : Nat) ({ cls := "WindingSquare$Square", name := "slips", desc := "(LWindingSquare$Walker;)I" } : Jvm.MethodName)) ∈ lw_all := lw_g (lw_at lw_m5 103 rfl) rfl
theorem q1195 : (Jvm.Cond.methodLink "WindingSquare" (282 : Nat) ({ cls := "WindingSquare$Square", name := "sees", desc := "(LWindingSquare$Walker;)I" } : Jvm.MethodName)) ∈ lw_all := lw_g (lw_at lw_m5 104 rfl) rfl
theorem q1196 : (Jvm.Cond.methodLink "WindingSquare" (285 : Nat) ({ cls := "WindingSquare$Square", name := "pays", desc := "(LWindingSquare$Walker;)I" } : Jvm.MethodName)) ∈ lw_all := lw_g (lw_at lw_m5 105 rfl) rfl
theorem q1198 : (Jvm.Cond.instanceMethod ({ cls := "WindingSquare", name := "cell", desc := "(III)I" } : Jvm.MethodName)) ∈ lw_all := lw_g (lw_at lw_m5 107 rfl) rfl
theorem q1199 : (Jvm.Cond.selects "WindingSquare" ({ cls := "WindingSquare", name := "cell", desc := "(III)I" } : Jvm.MethodName) ({ cls := "WindingSquare", name := "cell", desc := "(III)I" } : Jvm.MethodName)) ∈ lw_all := lw_g (lw_at lw_m5 108 rfl) rfl
theorem q1200 : (Jvm.Cond.code ({ cls := "WindingSquare", name := "cell", desc := "(III)I" } : Jvm.MethodName) prog_1_method_27_code (4 : Nat) (Option.some Jvm.ClassFile.FieldType.int)) ∈ lw_all := lw_g (lw_at lw_m5 109 rfl) rfl
theorem q1202 : (Jvm.Cond.instanceMethod ({ cls := "WindingSquare", name := "book", desc := "(II)I" } : Jvm.MethodName)) ∈ lw_all := lw_g (lw_at lw_m5 111 rfl) rfl
theorem q1203 : (Jvm.Cond.selects "WindingSquare" ({ cls := "WindingSquare", name := "book", desc := "(II)I" } : Jvm.MethodName) ({ cls := "WindingSquare", name := "book", desc := "(II)I" } : Jvm.MethodName)) ∈ lw_all := lw_g (lw_at lw_m5 112 rfl) rfl
theorem q1204 : (Jvm.Cond.code ({ cls := "WindingSquare", name := "book", desc := "(II)I" } : Jvm.MethodName) prog_1_method_28_code (3 : Nat) (Option.some Jvm.ClassFile.FieldType.int)) ∈ lw_all := lw_g (lw_at lw_m5 113 rfl) rfl
theorem q1206 : (Jvm.Cond.instanceMethod ({ cls := "WindingSquare", name := "goes", desc := "(II)I" } : Jvm.MethodName)) ∈ lw_all := lw_g (lw_at lw_m5 115 rfl) rfl
theorem q1207 : (Jvm.Cond.selects "WindingSquare" ({ cls := "WindingSquare", name := "goes", desc := "(II)I" } : Jvm.MethodName) ({ cls := "WindingSquare", name := "goes", desc := "(II)I" } : Jvm.MethodName)) ∈ lw_all := lw_g (lw_at lw_m5 116 rfl) rfl
theorem q1208 : (Jvm.Cond.code ({ cls := "WindingSquare", name := "goes", desc := "(II)I" } : Jvm.MethodName) prog_1_method_29_code (5 : Nat) (Option.some Jvm.ClassFile.FieldType.int)) ∈ lw_all := lw_g (lw_at lw_m5 117 rfl) rfl
theorem q1209 : (Jvm.Cond.methodLink "WindingSquare" (295 : Nat) ({ cls := "WindingSquare$Square", name := "thinks", desc := "(LWindingSquare$Square;)V" } : Jvm.MethodName)) ∈ lw_all := lw_g (lw_at lw_m5 118 rfl) rfl
theorem q1214 : (Jvm.Cond.methodLink "WindingSquare" (298 : Nat) ({ cls := "WindingSquare$Square", name := "inside", desc := "()I" } : Jvm.MethodName)) ∈ lw_all := lw_g (lw_at lw_m5 123 rfl) rfl
theorem q1215 : (Jvm.Cond.methodLink "WindingSquare" (301 : Nat) ({ cls := "java/lang/Integer", name := "bitCount", desc := "(I)I" } : Jvm.MethodName)) ∈ lw_all := lw_g (lw_at lw_m5 124 rfl) rfl
theorem q1217 : (Jvm.Cond.instanceMethod ({ cls := "WindingSquare", name := "over", desc := "(I)I" } : Jvm.MethodName)) ∈ lw_all := lw_g (lw_at lw_m5 126 rfl) rfl
theorem q1218 : (Jvm.Cond.selects "WindingSquare" ({ cls := "WindingSquare", name := "over", desc := "(I)I" } : Jvm.MethodName) ({ cls := "WindingSquare", name := "over", desc := "(I)I" } : Jvm.MethodName)) ∈ lw_all := lw_g (lw_at lw_m5 127 rfl) rfl
theorem q1219 : (Jvm.Cond.code ({ cls := "WindingSquare", name := "over", desc := "(I)I" } : Jvm.MethodName) prog_1_method_30_code (3 : Nat) (Option.some Jvm.ClassFile.FieldType.int)) ∈ lw_all := lw_g (lw_at lw_m5 128 rfl) rfl
theorem q1221 : (Jvm.Cond.instanceMethod ({ cls := "WindingSquare", name := "far", desc := "(IIII)I" } : Jvm.MethodName)) ∈ lw_all := lw_g (lw_at lw_m5 130 rfl) rfl
theorem q1222 : (Jvm.Cond.selects "WindingSquare" ({ cls := "WindingSquare", name := "far", desc := "(IIII)I" } : Jvm.MethodName) ({ cls := "WindingSquare", name := "far", desc := "(IIII)I" } : Jvm.MethodName)) ∈ lw_all := lw_g (lw_at lw_m5 131 rfl) rfl
theorem q1223 : (Jvm.Cond.code ({ cls := "WindingSquare", name := "far", desc := "(IIII)I" } : Jvm.MethodName) prog_1_method_35_code (7 : Nat) (Option.some Jvm.ClassFile.FieldType.int)) ∈ lw_all := lw_g (lw_at lw_m5 132 rfl) rfl
theorem q1224 : (Jvm.Cond.methodLink "WindingSquare" (322 : Nat) ({ cls := "WindingSquare", name := "canAsk", desc := "(III)Z" } : Jvm.MethodName)) ∈ lw_all := lw_g (lw_at lw_m5 133 rfl) rfl
theorem q1225 : (Jvm.Cond.privateMethod ({ cls := "WindingSquare", name := "canAsk", desc := "(III)Z" } : Jvm.MethodName)) ∈ lw_tbl := lw_at lw_m5 134 rfl
theorem q1226 : (Jvm.Cond.instanceMethod ({ cls := "WindingSquare", name := "canAsk", desc := "(III)Z" } : Jvm.MethodName)) ∈ lw_all := lw_g (lw_at lw_m5 135 rfl) rfl
theorem q1227 : (Jvm.Cond.code ({ cls := "WindingSquare", name := "canAsk", desc := "(III)Z" } : Jvm.MethodName) prog_1_method_34_code (4 : Nat) (Option.some Jvm.ClassFile.FieldType.boolean)) ∈ lw_all := lw_g (lw_at lw_m5 136 rfl) rfl
theorem q1228 : (Jvm.Cond.methodLink "WindingSquare" (316 : Nat) ({ cls := "WindingSquare", name := "isOpen", desc := "(I)Z" } : Jvm.MethodName)) ∈ lw_all := lw_g (lw_at lw_m5 137 rfl) rfl
theorem q1229 : (Jvm.Cond.privateMethod ({ cls := "WindingSquare", name := "isOpen", desc := "(I)Z" } : Jvm.MethodName)) ∈ lw_tbl := lw_at lw_m5 138 rfl
theorem q1230 : (Jvm.Cond.instanceMethod ({ cls := "WindingSquare", name := "isOpen", desc := "(I)Z" } : Jvm.MethodName)) ∈ lw_all := lw_g (lw_at lw_m5 139 rfl) rfl
theorem q1231 : (Jvm.Cond.code ({ cls := "WindingSquare", name := "isOpen", desc := "(I)Z" } : Jvm.MethodName) prog_1_method_19_code (2 : Nat) (Option.some Jvm.ClassFile.FieldType.boolean)) ∈ lw_all := lw_g (lw_at lw_m5 140 rfl) rfl
theorem q1232 : (Jvm.Cond.methodLink "WindingSquare" (325 : Nat) ({ cls := "WindingSquare", name := "least", desc := "(III)I" } : Jvm.MethodName)) ∈ lw_all := lw_g (lw_at lw_m5 141 rfl) rfl
theorem q1233 : (Jvm.Cond.privateMethod ({ cls := "WindingSquare", name := "least", desc := "(III)I" } : Jvm.MethodName)) ∈ lw_tbl := lw_at lw_m5 142 rfl
theorem q1234 : (Jvm.Cond.instanceMethod ({ cls := "WindingSquare", name := "least", desc := "(III)I" } : Jvm.MethodName)) ∈ lw_all := lw_g (lw_at lw_m5 143 rfl) rfl
theorem q1235 : (Jvm.Cond.code ({ cls := "WindingSquare", name := "least", desc := "(III)I" } : Jvm.MethodName) prog_1_method_33_code (8 : Nat) (Option.some Jvm.ClassFile.FieldType.int)) ∈ lw_all := lw_g (lw_at lw_m5 144 rfl) rfl
theorem q1236 : (Jvm.Cond.constant "WindingSquare" (312 : Nat) (1000000 : Int32)) ∈ lw_all := lw_g (lw_at lw_m5 145 rfl) rfl
theorem q1237 : (Jvm.Cond.methodLink "WindingSquare" (319 : Nat) ({ cls := "WindingSquare", name := "reaches", desc := "(II)V" } : Jvm.MethodName)) ∈ lw_all := lw_g (lw_at lw_m5 146 rfl) rfl
theorem q1238 : (Jvm.Cond.privateMethod ({ cls := "WindingSquare", name := "reaches", desc := "(II)V" } : Jvm.MethodName)) ∈ lw_tbl := lw_at lw_m5 147 rfl
theorem q1239 : (Jvm.Cond.instanceMethod ({ cls := "WindingSquare", name := "reaches", desc := "(II)V" } : Jvm.MethodName)) ∈ lw_all := lw_g (lw_at lw_m5 148 rfl) rfl
theorem q1240 : (Jvm.Cond.code ({ cls := "WindingSquare", name := "reaches", desc := "(II)V" } : Jvm.MethodName) prog_1_method_31_code (3 : Nat) (Option.none : Option Jvm.ClassFile.FieldType)) ∈ lw_all := lw_g (lw_at lw_m5 149 rfl) rfl
theorem q1241 : (Jvm.Cond.methodLink "WindingSquare" (313 : Nat) ({ cls := "WindingSquare", name := "on", desc := "(II)I" } : Jvm.MethodName)) ∈ lw_all := lw_g (lw_at lw_m5 150 rfl) rfl
theorem q1242 : (Jvm.Cond.methodLink "WindingSquare" (329 : Nat) ({ cls := "WindingSquare", name := "laysSteps", desc := "(II)V" } : Jvm.MethodName)) ∈ lw_all := lw_g (lw_at lw_m5 151 rfl) rfl
theorem q1243 : (Jvm.Cond.privateMethod ({ cls := "WindingSquare", name := "laysSteps", desc := "(II)V" } : Jvm.MethodName)) ∈ lw_tbl := lw_at lw_m5 152 rfl
theorem q1244 : (Jvm.Cond.instanceMethod ({ cls := "WindingSquare", name := "laysSteps", desc := "(II)V" } : Jvm.MethodName)) ∈ lw_all := lw_g (lw_at lw_m5 153 rfl) rfl
theorem q1245 : (Jvm.Cond.code ({ cls := "WindingSquare", name := "laysSteps", desc := "(II)V" } : Jvm.MethodName) prog_1_method_32_code (8 : Nat) (Option.none : Option Jvm.ClassFile.FieldType)) ∈ lw_all := lw_g (lw_at lw_m5 154 rfl) rfl
theorem q1247 : (Jvm.Cond.instanceMethod ({ cls := "WindingSquare", name := "with", desc := "(IIII)I" } : Jvm.MethodName)) ∈ lw_all := lw_g (lw_at lw_m5 156 rfl) rfl
theorem q1248 : (Jvm.Cond.selects "WindingSquare" ({ cls := "WindingSquare", name := "with", desc := "(IIII)I" } : Jvm.MethodName) ({ cls := "WindingSquare", name := "with", desc := "(IIII)I" } : Jvm.MethodName)) ∈ lw_all := lw_g (lw_at lw_m5 157 rfl) rfl
theorem q1249 : (Jvm.Cond.code ({ cls := "WindingSquare", name := "with", desc := "(IIII)I" } : Jvm.MethodName) prog_1_method_38_code (8 : Nat) (Option.some Jvm.ClassFile.FieldType.int)) ∈ lw_all := lw_g (lw_at lw_m5 158 rfl) rfl
theorem q1250 : (Jvm.Cond.methodLink "WindingSquare" (332 : Nat) ({ cls := "WindingSquare", name := "clears", desc := "([[[I)V" } : Jvm.MethodName)) ∈ lw_all := lw_g (lw_at lw_m5 159 rfl) rfl
theorem q1251 : (Jvm.Cond.privateMethod ({ cls := "WindingSquare", name := "clears", desc := "([[[I)V" } : Jvm.MethodName)) ∈ lw_tbl := lw_at lw_m5 160 rfl
theorem q1252 : (Jvm.Cond.instanceMethod ({ cls := "WindingSquare", name := "clears", desc := "([[[I)V" } : Jvm.MethodName)) ∈ lw_all := lw_g (lw_at lw_m5 161 rfl) rfl
theorem q1253 : (Jvm.Cond.code ({ cls := "WindingSquare", name := "clears", desc := "([[[I)V" } : Jvm.MethodName) prog_1_method_36_code (11 : Nat) (Option.none : Option Jvm.ClassFile.FieldType)) ∈ lw_all := lw_g (lw_at lw_m5 162 rfl) rfl
theorem q1254 : (Jvm.Cond.methodLink "WindingSquare" (337 : Nat) ({ cls := "WindingSquare", name := "oneMore", desc := "(I)V" } : Jvm.MethodName)) ∈ lw_all := lw_g (lw_at lw_m5 163 rfl) rfl
theorem q1255 : (Jvm.Cond.privateMethod ({ cls := "WindingSquare", name := "oneMore", desc := "(I)V" } : Jvm.MethodName)) ∈ lw_tbl := lw_at lw_m5 164 rfl
theorem q1256 : (Jvm.Cond.instanceMethod ({ cls := "WindingSquare", name := "oneMore", desc := "(I)V" } : Jvm.MethodName)) ∈ lw_all := lw_g (lw_at lw_m5 165 rfl) rfl
theorem q1257 : (Jvm.Cond.code ({ cls := "WindingSquare", name := "oneMore", desc := "(I)V" } : Jvm.MethodName) prog_1_method_37_code (7 : Nat) (Option.none : Option Jvm.ClassFile.FieldType)) ∈ lw_all := lw_g (lw_at lw_m5 166 rfl) rfl
theorem q1258 : (Jvm.Cond.constant "WindingSquare" (336 : Nat) (1000000007 : Int32)) ∈ lw_all := lw_g (lw_at lw_m5 167 rfl) rfl
theorem q1260 : (Jvm.Cond.instanceMethod ({ cls := "WindingSquare", name := "seen", desc := "(II)I" } : Jvm.MethodName)) ∈ lw_all := lw_g (lw_at lw_m5 169 rfl) rfl
theorem q1261 : (Jvm.Cond.selects "WindingSquare" ({ cls := "WindingSquare", name := "seen", desc := "(II)I" } : Jvm.MethodName) ({ cls := "WindingSquare", name := "seen", desc := "(II)I" } : Jvm.MethodName)) ∈ lw_all := lw_g (lw_at lw_m5 170 rfl) rfl
theorem q1262 : (Jvm.Cond.code ({ cls := "WindingSquare", name := "seen", desc := "(II)I" } : Jvm.MethodName) prog_1_method_40_code (5 : Nat) (Option.some Jvm.ClassFile.FieldType.int)) ∈ lw_all := lw_g (lw_at lw_m5 171 rfl) rfl
theorem q1263 : (Jvm.Cond.methodLink "WindingSquare" (349 : Nat) ({ cls := "WindingSquare", name := "isSeen", desc := "(II)Z" } : Jvm.MethodName)) ∈ lw_all := lw_g (lw_at lw_m5 172 rfl) rfl
theorem q1264 : (Jvm.Cond.privateMethod ({ cls := "WindingSquare", name := "isSeen", desc := "(II)Z" } : Jvm.MethodName)) ∈ lw_tbl := lw_at lw_m5 173 rfl
theorem q1265 : (Jvm.Cond.instanceMethod ({ cls := "WindingSquare", name := "isSeen", desc := "(II)Z" } : Jvm.MethodName)) ∈ lw_all := lw_g (lw_at lw_m5 174 rfl) rfl
theorem q1266 : (Jvm.Cond.code ({ cls := "WindingSquare", name := "isSeen", desc := "(II)Z" } : Jvm.MethodName) prog_1_method_39_code (10 : Nat) (Option.some Jvm.ClassFile.FieldType.boolean)) ∈ lw_all := lw_g (lw_at lw_m5 175 rfl) rfl
theorem q1267 : (Jvm.Cond.methodLink "WindingSquare" (340 : Nat) ({ cls := "java/lang/Math", name := "abs", desc := "(I)I" } : Jvm.MethodName)) ∈ lw_all := lw_g (lw_at lw_m5 176 rfl) rfl
theorem q1270 : (Jvm.Cond.methodLink "WindingSquare" (343 : Nat) ({ cls := "java/lang/Integer", name := "signum", desc := "(I)I" } : Jvm.MethodName)) ∈ lw_all := lw_g (lw_at lw_m5 179 rfl) rfl
theorem q1273 : (Jvm.Cond.methodLink "WindingSquare" (346 : Nat) ({ cls := "java/lang/Math", name := "floorDiv", desc := "(II)I" } : Jvm.MethodName)) ∈ lw_all := lw_g (lw_at lw_m5 182 rfl) rfl
theorem q1277 : (Jvm.Cond.instanceMethod ({ cls := "WindingSquare", name := "known", desc := "(II)I" } : Jvm.MethodName)) ∈ lw_all := lw_g (lw_at lw_m5 186 rfl) rfl
theorem q1278 : (Jvm.Cond.selects "WindingSquare" ({ cls := "WindingSquare", name := "known", desc := "(II)I" } : Jvm.MethodName) ({ cls := "WindingSquare", name := "known", desc := "(II)I" } : Jvm.MethodName)) ∈ lw_all := lw_g (lw_at lw_m5 187 rfl) rfl
theorem q1279 : (Jvm.Cond.code ({ cls := "WindingSquare", name := "known", desc := "(II)I" } : Jvm.MethodName) prog_1_method_41_code (3 : Nat) (Option.some Jvm.ClassFile.FieldType.int)) ∈ lw_all := lw_g (lw_at lw_m5 188 rfl) rfl
theorem q1280 : (Jvm.Cond.methodLink "WindingSquare" (356 : Nat) ({ cls := "WindingSquare$Rows", name := "ends", desc := "()I" } : Jvm.MethodName)) ∈ lw_all := lw_g (lw_at lw_m5 189 rfl) rfl
theorem q1284 : (Jvm.Cond.methodLink "WindingSquare" (361 : Nat) ({ cls := "WindingSquare$Rows", name := "tells", desc := "(II)I" } : Jvm.MethodName)) ∈ lw_all := lw_g (lw_at lw_m5 193 rfl) rfl
theorem q1289 : (Jvm.Cond.instanceMethod ({ cls := "WindingSquare", name := "one", desc := "(I)I" } : Jvm.MethodName)) ∈ lw_all := lw_g (lw_at lw_m5 198 rfl) rfl
theorem q1290 : (Jvm.Cond.selects "WindingSquare" ({ cls := "WindingSquare", name := "one", desc := "(I)I" } : Jvm.MethodName) ({ cls := "WindingSquare", name := "one", desc := "(I)I" } : Jvm.MethodName)) ∈ lw_all := lw_g (lw_at lw_m5 199 rfl) rfl
theorem q1291 : (Jvm.Cond.code ({ cls := "WindingSquare", name := "one", desc := "(I)I" } : Jvm.MethodName) prog_1_method_46_code (4 : Nat) (Option.some Jvm.ClassFile.FieldType.int)) ∈ lw_all := lw_g (lw_at lw_m5 200 rfl) rfl
theorem q1292 : (Jvm.Cond.methodLink "WindingSquare" (378 : Nat) ({ cls := "WindingSquare", name := "unlikeRows", desc := "()I" } : Jvm.MethodName)) ∈ lw_all := lw_g (lw_at lw_m5 201 rfl) rfl
theorem q1293 : (Jvm.Cond.privateMethod ({ cls := "WindingSquare", name := "unlikeRows", desc := "()I" } : Jvm.MethodName)) ∈ lw_tbl := lw_at lw_m5 202 rfl
theorem q1294 : (Jvm.Cond.instanceMethod ({ cls := "WindingSquare", name := "unlikeRows", desc := "()I" } : Jvm.MethodName)) ∈ lw_all := lw_g (lw_at lw_m5 203 rfl) rfl
theorem q1295 : (Jvm.Cond.code ({ cls := "WindingSquare", name := "unlikeRows", desc := "()I" } : Jvm.MethodName) prog_1_method_45_code (6 : Nat) (Option.some Jvm.ClassFile.FieldType.int)) ∈ lw_all := lw_g (lw_at lw_m5 204 rfl) rfl
theorem q1296 : (Jvm.Cond.methodLink "WindingSquare" (374 : Nat) ({ cls := "WindingSquare", name := "number", desc := "(IZ)I" } : Jvm.MethodName)) ∈ lw_all := lw_g (lw_at lw_m5 205 rfl) rfl
theorem q1297 : (Jvm.Cond.privateMethod ({ cls := "WindingSquare", name := "number", desc := "(IZ)I" } : Jvm.MethodName)) ∈ lw_tbl := lw_at lw_m5 206 rfl
theorem q1298 : (Jvm.Cond.instanceMethod ({ cls := "WindingSquare", name := "number", desc := "(IZ)I" } : Jvm.MethodName)) ∈ lw_all := lw_g (lw_at lw_m5 207 rfl) rfl
theorem q1299 : (Jvm.Cond.code ({ cls := "WindingSquare", name := "number", desc := "(IZ)I" } : Jvm.MethodName) prog_1_method_44_code (5 : Nat) (Option.some Jvm.ClassFile.FieldType.int)) ∈ lw_all := lw_g (lw_at lw_m5 208 rfl) rfl
theorem q1300 : (Jvm.Cond.methodLink "WindingSquare" (370 : Nat) ({ cls := "WindingSquare", name := "asBegun", desc := "(IIZ)I" } : Jvm.MethodName)) ∈ lw_all := lw_g (lw_at lw_m5 209 rfl) rfl
theorem q1301 : (Jvm.Cond.privateMethod ({ cls := "WindingSquare", name := "asBegun", desc := "(IIZ)I" } : Jvm.MethodName)) ∈ lw_tbl := lw_at lw_m5 210 rfl
theorem q1302 : (Jvm.Cond.instanceMethod ({ cls := "WindingSquare", name := "asBegun", desc := "(IIZ)I" } : Jvm.MethodName)) ∈ lw_all := lw_g (lw_at lw_m5 211 rfl) rfl
theorem q1303 : (Jvm.Cond.code ({ cls := "WindingSquare", name := "asBegun", desc := "(IIZ)I" } : Jvm.MethodName) prog_1_method_42_code (5 : Nat) (Option.some Jvm.ClassFile.FieldType.int)) ∈ lw_all := lw_g (lw_at lw_m5 212 rfl) rfl
theorem q1304 : (Jvm.Cond.methodLink "WindingSquare" (367 : Nat) ({ cls := "WindingSquare$Rows", name := "first", desc := "(I)I" } : Jvm.MethodName)) ∈ lw_all := lw_g (lw_at lw_m5 213 rfl) rfl
theorem q1308 : (Jvm.Cond.methodLink "WindingSquare" (381 : Nat) ({ cls := "WindingSquare", name := "isSecond", desc := "(IZ)Z" } : Jvm.MethodName)) ∈ lw_all := lw_g (lw_at lw_m5 217 rfl) rfl
theorem q1309 : (Jvm.Cond.privateMethod ({ cls := "WindingSquare", name := "isSecond", desc := "(IZ)Z" } : Jvm.MethodName)) ∈ lw_tbl := lw_at lw_m5 218 rfl
theorem q1310 : (Jvm.Cond.instanceMethod ({ cls := "WindingSquare", name := "isSecond", desc := "(IZ)Z" } : Jvm.MethodName)) ∈ lw_all := lw_g (lw_at lw_m5 219 rfl) rfl
theorem q1311 : (Jvm.Cond.code ({ cls := "WindingSquare", name := "isSecond", desc := "(IZ)Z" } : Jvm.MethodName) prog_1_method_43_code (5 : Nat) (Option.some Jvm.ClassFile.FieldType.boolean)) ∈ lw_all := lw_g (lw_at lw_m5 220 rfl) rfl
theorem q1313 : (Jvm.Cond.instanceMethod ({ cls := "WindingSquare", name := "move", desc := "(I)I" } : Jvm.MethodName)) ∈ lw_all := lw_g (lw_at lw_m5 222 rfl) rfl
theorem q1314 : (Jvm.Cond.selects "WindingSquare" ({ cls := "WindingSquare", name := "move", desc := "(I)I" } : Jvm.MethodName) ({ cls := "WindingSquare", name := "move", desc := "(I)I" } : Jvm.MethodName)) ∈ lw_all := lw_g (lw_at lw_m5 223 rfl) rfl
theorem q1315 : (Jvm.Cond.code ({ cls := "WindingSquare", name := "move", desc := "(I)I" } : Jvm.MethodName) prog_1_method_47_code (2 : Nat) (Option.some Jvm.ClassFile.FieldType.int)) ∈ lw_all := lw_g (lw_at lw_m5 224 rfl) rfl
theorem q1317 : (Jvm.Cond.instanceMethod ({ cls := "WindingSquare", name := "round", desc := "(I)I" } : Jvm.MethodName)) ∈ lw_all := lw_g (lw_at lw_m5 226 rfl) rfl
theorem q1318 : (Jvm.Cond.selects "WindingSquare" ({ cls := "WindingSquare", name := "round", desc := "(I)I" } : Jvm.MethodName) ({ cls := "WindingSquare", name := "round", desc := "(I)I" } : Jvm.MethodName)) ∈ lw_all := lw_g (lw_at lw_m5 227 rfl) rfl
theorem q1319 : (Jvm.Cond.code ({ cls := "WindingSquare", name := "round", desc := "(I)I" } : Jvm.MethodName) prog_1_method_48_code (11 : Nat) (Option.some Jvm.ClassFile.FieldType.int)) ∈ lw_all := lw_g (lw_at lw_m5 228 rfl) rfl
theorem q1320 : (Jvm.Cond.methodLink "WindingSquare" (389 : Nat) ({ cls := "java/lang/Math", name := "floorMod", desc := "(II)I" } : Jvm.MethodName)) ∈ lw_all := lw_g (lw_at lw_m5 229 rfl) rfl
theorem q1324 : (Jvm.Cond.instanceMethod ({ cls := "WindingSquare", name := "folded", desc := "(III)I" } : Jvm.MethodName)) ∈ lw_all := lw_g (lw_at lw_m5 233 rfl) rfl
theorem q1325 : (Jvm.Cond.selects "WindingSquare" ({ cls := "WindingSquare", name := "folded", desc := "(III)I" } : Jvm.MethodName) ({ cls := "WindingSquare", name := "folded", desc := "(III)I" } : Jvm.MethodName)) ∈ lw_all := lw_g (lw_at lw_m5 234 rfl) rfl
theorem q1326 : (Jvm.Cond.code ({ cls := "WindingSquare", name := "folded", desc := "(III)I" } : Jvm.MethodName) prog_1_method_50_code (8 : Nat) (Option.some Jvm.ClassFile.FieldType.int)) ∈ lw_all := lw_g (lw_at lw_m5 235 rfl) rfl
theorem q1327 : (Jvm.Cond.methodLink "WindingSquare" (395 : Nat) ({ cls := "WindingSquare", name := "fold", desc := "(I)I" } : Jvm.MethodName)) ∈ lw_all := lw_g (lw_at lw_m5 236 rfl) rfl
theorem q1328 : (Jvm.Cond.static ({ cls := "WindingSquare", name := "fold", desc := "(I)I" } : Jvm.MethodName)) ∈ lw_all := lw_g (lw_at lw_m5 237 rfl) rfl
theorem q1329 : (Jvm.Cond.code ({ cls := "WindingSquare", name := "fold", desc := "(I)I" } : Jvm.MethodName) prog_1_method_49_code (1 : Nat) (Option.some Jvm.ClassFile.FieldType.int)) ∈ lw_all := lw_g (lw_at lw_m5 238 rfl) rfl
theorem q1330 : (Jvm.Cond.methodLink "WindingSquare" (392 : Nat) ({ cls := "java/lang/Integer", name := "lowestOneBit", desc := "(I)I" } : Jvm.MethodName)) ∈ lw_all := lw_g (lw_at lw_m5 239 rfl) rfl
theorem q1334 : (Jvm.Cond.instanceMethod ({ cls := "WindingSquare", name := "duel", desc := "(III)I" } : Jvm.MethodName)) ∈ lw_all := lw_g (lw_at lw_m6 3 rfl) rfl
theorem q1335 : (Jvm.Cond.selects "WindingSquare" ({ cls := "WindingSquare", name := "duel", desc := "(III)I" } : Jvm.MethodName) ({ cls := "WindingSquare", name := "duel", desc := "(III)I" } : Jvm.MethodName)) ∈ lw_all := lw_g (lw_at lw_m6 4 rfl) rfl
theorem q1336 : (Jvm.Cond.code ({ cls := "WindingSquare", name := "duel", desc := "(III)I" } : Jvm.MethodName) prog_1_method_52_code (10 : Nat) (Option.some Jvm.ClassFile.FieldType.int)) ∈ lw_all := lw_g (lw_at lw_m6 5 rfl) rfl
theorem q1337 : (Jvm.Cond.methodLink "WindingSquare" (401 : Nat) ({ cls := "WindingSquare", name := "paces", desc := "(III)V" } : Jvm.MethodName)) ∈ lw_all := lw_g (lw_at lw_m6 6 rfl) rfl
theorem q1338 : (Jvm.Cond.privateMethod ({ cls := "WindingSquare", name := "paces", desc := "(III)V" } : Jvm.MethodName)) ∈ lw_tbl := lw_at lw_m6 7 rfl
theorem q1339 : (Jvm.Cond.instanceMethod ({ cls := "WindingSquare", name := "paces", desc := "(III)V" } : Jvm.MethodName)) ∈ lw_all := lw_g (lw_at lw_m6 8 rfl) rfl
theorem q1340 : (Jvm.Cond.code ({ cls := "WindingSquare", name := "paces", desc := "(III)V" } : Jvm.MethodName) prog_1_method_51_code (6 : Nat) (Option.none : Option Jvm.ClassFile.FieldType)) ∈ lw_all := lw_g (lw_at lw_m6 9 rfl) rfl
theorem q1342 : (Jvm.Cond.instanceMethod ({ cls := "WindingSquare", name := "ant", desc := "(II)I" } : Jvm.MethodName)) ∈ lw_all := lw_g (lw_at lw_m6 11 rfl) rfl
theorem q1343 : (Jvm.Cond.selects "WindingSquare" ({ cls := "WindingSquare", name := "ant", desc := "(II)I" } : Jvm.MethodName) ({ cls := "WindingSquare", name := "ant", desc := "(II)I" } : Jvm.MethodName)) ∈ lw_all := lw_g (lw_at lw_m6 12 rfl) rfl
theorem q1344 : (Jvm.Cond.code ({ cls := "WindingSquare", name := "ant", desc := "(II)I" } : Jvm.MethodName) prog_1_method_53_code (10 : Nat) (Option.some Jvm.ClassFile.FieldType.int)) ∈ lw_all := lw_g (lw_at lw_m6 13 rfl) rfl
theorem q1346 : (Jvm.Cond.instanceMethod ({ cls := "WindingSquare", name := "hooks", desc := "(II)I" } : Jvm.MethodName)) ∈ lw_all := lw_g (lw_at lw_m6 15 rfl) rfl
theorem q1347 : (Jvm.Cond.selects "WindingSquare" ({ cls := "WindingSquare", name := "hooks", desc := "(II)I" } : Jvm.MethodName) ({ cls := "WindingSquare", name := "hooks", desc := "(II)I" } : Jvm.MethodName)) ∈ lw_all := lw_g (lw_at lw_m6 16 rfl) rfl
theorem q1348 : (Jvm.Cond.code ({ cls := "WindingSquare", name := "hooks", desc := "(II)I" } : Jvm.MethodName) prog_1_method_54_code (4 : Nat) (Option.some Jvm.ClassFile.FieldType.int)) ∈ lw_all := lw_g (lw_at lw_m6 17 rfl) rfl
theorem q1349 : (Jvm.Cond.constantLong "WindingSquare" (404 : Nat) (2 : Int64)) ∈ lw_all := lw_g (lw_at lw_m6 18 rfl) rfl
theorem q1350 : (Jvm.Cond.constantLong "WindingSquare" (406 : Nat) (1000000007 : Int64)) ∈ lw_all := lw_g (lw_at lw_m6 19 rfl) rfl
theorem q1352 : (Jvm.Cond.instanceMethod ({ cls := "WindingSquare", name := "apart", desc := "(I)I" } : Jvm.MethodName)) ∈ lw_all := lw_g (lw_at lw_m6 21 rfl) rfl
theorem q1353 : (Jvm.Cond.selects "WindingSquare" ({ cls := "WindingSquare", name := "apart", desc := "(I)I" } : Jvm.MethodName) ({ cls := "WindingSquare", name := "apart", desc := "(I)I" } : Jvm.MethodName)) ∈ lw_all := lw_g (lw_at lw_m6 22 rfl) rfl
theorem q1354 : (Jvm.Cond.code ({ cls := "WindingSquare", name := "apart", desc := "(I)I" } : Jvm.MethodName) prog_1_method_61_code (2 : Nat) (Option.some Jvm.ClassFile.FieldType.int)) ∈ lw_all := lw_g (lw_at lw_m6 23 rfl) rfl
theorem q1355 : (Jvm.Cond.methodLink "WindingSquare" (420 : Nat) ({ cls := "WindingSquare", name := "mostApart", desc := "()I" } : Jvm.MethodName)) ∈ lw_all := lw_g (lw_at lw_m6 24 rfl) rfl
theorem q1356 : (Jvm.Cond.privateMethod ({ cls := "WindingSquare", name := "mostApart", desc := "()I" } : Jvm.MethodName)) ∈ lw_tbl := lw_at lw_m6 25 rfl
theorem q1357 : (Jvm.Cond.instanceMethod ({ cls := "WindingSquare", name := "mostApart", desc := "()I" } : Jvm.MethodName)) ∈ lw_all := lw_g (lw_at lw_m6 26 rfl) rfl
theorem q1358 : (Jvm.Cond.code ({ cls := "WindingSquare", name := "mostApart", desc := "()I" } : Jvm.MethodName) prog_1_method_58_code (2 : Nat) (Option.some Jvm.ClassFile.FieldType.int)) ∈ lw_all := lw_g (lw_at lw_m6 27 rfl) rfl
theorem q1359 : (Jvm.Cond.methodLink "WindingSquare" (414 : Nat) ({ cls := "WindingSquare", name := "hasOneMore", desc := "()Z" } : Jvm.MethodName)) ∈ lw_all := lw_g (lw_at lw_m6 28 rfl) rfl
theorem q1360 : (Jvm.Cond.privateMethod ({ cls := "WindingSquare", name := "hasOneMore", desc := "()Z" } : Jvm.MethodName)) ∈ lw_tbl := lw_at lw_m6 29 rfl
theorem q1361 : (Jvm.Cond.instanceMethod ({ cls := "WindingSquare", name := "hasOneMore", desc := "()Z" } : Jvm.MethodName)) ∈ lw_all := lw_g (lw_at lw_m6 30 rfl) rfl
theorem q1362 : (Jvm.Cond.code ({ cls := "WindingSquare", name := "hasOneMore", desc := "()Z" } : Jvm.MethodName) prog_1_method_57_code (2 : Nat) (Option.some Jvm.ClassFile.FieldType.boolean)) ∈ lw_all := lw_g (lw_at lw_m6 31 rfl) rfl
theorem q1363 : (Jvm.Cond.methodLink "WindingSquare" (411 : Nat) ({ cls := "WindingSquare", name := "enters", desc := "(II)Z" } : Jvm.MethodName)) ∈ lw_all := lw_g (lw_at lw_m6 32 rfl) rfl
theorem q1364 : (Jvm.Cond.privateMethod ({ cls := "WindingSquare", name := "enters", desc := "(II)Z" } : Jvm.MethodName)) ∈ lw_tbl := lw_at lw_m6 33 rfl
theorem q1365 : (Jvm.Cond.instanceMethod ({ cls := "WindingSquare", name := "enters", desc := "(II)Z" } : Jvm.MethodName)) ∈ lw_all := lw_g (lw_at lw_m6 34 rfl) rfl
theorem q1366 : (Jvm.Cond.code ({ cls := "WindingSquare", name := "enters", desc := "(II)Z" } : Jvm.MethodName) prog_1_method_55_code (3 : Nat) (Option.some Jvm.ClassFile.FieldType.boolean)) ∈ lw_all := lw_g (lw_at lw_m6 35 rfl) rfl
theorem q1367 : (Jvm.Cond.methodLink "WindingSquare" (408 : Nat) ({ cls := "WindingSquare", name := "leaves", desc := "(I)Z" } : Jvm.MethodName)) ∈ lw_all := lw_g (lw_at lw_m6 36 rfl) rfl
theorem q1368 : (Jvm.Cond.privateMethod ({ cls := "WindingSquare", name := "leaves", desc := "(I)Z" } : Jvm.MethodName)) ∈ lw_tbl := lw_at lw_m6 37 rfl
theorem q1369 : (Jvm.Cond.instanceMethod ({ cls := "WindingSquare", name := "leaves", desc := "(I)Z" } : Jvm.MethodName)) ∈ lw_all := lw_g (lw_at lw_m6 38 rfl) rfl
theorem q1370 : (Jvm.Cond.code ({ cls := "WindingSquare", name := "leaves", desc := "(I)Z" } : Jvm.MethodName) prog_1_method_56_code (5 : Nat) (Option.some Jvm.ClassFile.FieldType.boolean)) ∈ lw_all := lw_g (lw_at lw_m6 39 rfl) rfl
theorem q1371 : (Jvm.Cond.methodLink "WindingSquare" (423 : Nat) ({ cls := "WindingSquare", name := "fewestStones", desc := "()I" } : Jvm.MethodName)) ∈ lw_all := lw_g (lw_at lw_m6 40 rfl) rfl
theorem q1372 : (Jvm.Cond.privateMethod ({ cls := "WindingSquare", name := "fewestStones", desc := "()I" } : Jvm.MethodName)) ∈ lw_tbl := lw_at lw_m6 41 rfl
theorem q1373 : (Jvm.Cond.instanceMethod ({ cls := "WindingSquare", name := "fewestStones", desc := "()I" } : Jvm.MethodName)) ∈ lw_all := lw_g (lw_at lw_m6 42 rfl) rfl
theorem q1374 : (Jvm.Cond.code ({ cls := "WindingSquare", name := "fewestStones", desc := "()I" } : Jvm.MethodName) prog_1_method_60_code (6 : Nat) (Option.some Jvm.ClassFile.FieldType.int)) ∈ lw_all := lw_g (lw_at lw_m6 43 rfl) rfl
theorem q1375 : (Jvm.Cond.methodLink "WindingSquare" (417 : Nat) ({ cls := "WindingSquare", name := "costOf", desc := "(I)I" } : Jvm.MethodName)) ∈ lw_all := lw_g (lw_at lw_m6 44 rfl) rfl
theorem q1376 : (Jvm.Cond.privateMethod ({ cls := "WindingSquare", name := "costOf", desc := "(I)I" } : Jvm.MethodName)) ∈ lw_tbl := lw_at lw_m6 45 rfl
theorem q1377 : (Jvm.Cond.instanceMethod ({ cls := "WindingSquare", name := "costOf", desc := "(I)I" } : Jvm.MethodName)) ∈ lw_all := lw_g (lw_at lw_m6 46 rfl) rfl
theorem q1378 : (Jvm.Cond.code ({ cls := "WindingSquare", name := "costOf", desc := "(I)I" } : Jvm.MethodName) prog_1_method_59_code (2 : Nat) (Option.some Jvm.ClassFile.FieldType.int)) ∈ lw_all := lw_g (lw_at lw_m6 47 rfl) rfl
theorem q1380 : (Jvm.Cond.instanceMethod ({ cls := "WindingSquare", name := "gap", desc := "(II)I" } : Jvm.MethodName)) ∈ lw_all := lw_g (lw_at lw_m6 49 rfl) rfl
theorem q1381 : (Jvm.Cond.selects "WindingSquare" ({ cls := "WindingSquare", name := "gap", desc := "(II)I" } : Jvm.MethodName) ({ cls := "WindingSquare", name := "gap", desc := "(II)I" } : Jvm.MethodName)) ∈ lw_all := lw_g (lw_at lw_m6 50 rfl) rfl
theorem q1382 : (Jvm.Cond.code ({ cls := "WindingSquare", name := "gap", desc := "(II)I" } : Jvm.MethodName) prog_1_method_62_code (3 : Nat) (Option.some Jvm.ClassFile.FieldType.int)) ∈ lw_all := lw_g (lw_at lw_m6 51 rfl) rfl
theorem q1384 : (Jvm.Cond.instanceMethod ({ cls := "WindingSquare", name := "hedge", desc := "()I" } : Jvm.MethodName)) ∈ lw_all := lw_g (lw_at lw_m6 53 rfl) rfl
theorem q1385 : (Jvm.Cond.selects "WindingSquare" ({ cls := "WindingSquare", name := "hedge", desc := "()I" } : Jvm.MethodName) ({ cls := "WindingSquare", name := "hedge", desc := "()I" } : Jvm.MethodName)) ∈ lw_all := lw_g (lw_at lw_m6 54 rfl) rfl
theorem q1386 : (Jvm.Cond.code ({ cls := "WindingSquare", name := "hedge", desc := "()I" } : Jvm.MethodName) prog_1_method_64_code (4 : Nat) (Option.some Jvm.ClassFile.FieldType.int)) ∈ lw_all := lw_g (lw_at lw_m6 55 rfl) rfl
theorem q1387 : (Jvm.Cond.methodLink "WindingSquare" (432 : Nat) ({ cls := "WindingSquare", name := "hasGap", desc := "(II)Z" } : Jvm.MethodName)) ∈ lw_all := lw_g (lw_at lw_m6 56 rfl) rfl
theorem q1388 : (Jvm.Cond.privateMethod ({ cls := "WindingSquare", name := "hasGap", desc := "(II)Z" } : Jvm.MethodName)) ∈ lw_tbl := lw_at lw_m6 57 rfl
theorem q1389 : (Jvm.Cond.instanceMethod ({ cls := "WindingSquare", name := "hasGap", desc := "(II)Z" } : Jvm.MethodName)) ∈ lw_all := lw_g (lw_at lw_m6 58 rfl) rfl
theorem q1390 : (Jvm.Cond.code ({ cls := "WindingSquare", name := "hasGap", desc := "(II)Z" } : Jvm.MethodName) prog_1_method_63_code (4 : Nat) (Option.some Jvm.ClassFile.FieldType.boolean)) ∈ lw_all := lw_g (lw_at lw_m6 59 rfl) rfl
theorem q1391 : (Jvm.Cond.methodLink "WindingSquare" (429 : Nat) ({ cls := "WindingSquare$Rows", name := "second", desc := "(I)I" } : Jvm.MethodName)) ∈ lw_all := lw_g (lw_at lw_m6 60 rfl) rfl
theorem q1396 : (Jvm.Cond.instanceMethod ({ cls := "WindingSquare", name := "meets", desc := "(II)I" } : Jvm.MethodName)) ∈ lw_all := lw_g (lw_at lw_m6 65 rfl) rfl
theorem q1397 : (Jvm.Cond.selects "WindingSquare" ({ cls := "WindingSquare", name := "meets", desc := "(II)I" } : Jvm.MethodName) ({ cls := "WindingSquare", name := "meets", desc := "(II)I" } : Jvm.MethodName)) ∈ lw_all := lw_g (lw_at lw_m6 66 rfl) rfl
theorem q1398 : (Jvm.Cond.code ({ cls := "WindingSquare", name := "meets", desc := "(II)I" } : Jvm.MethodName) prog_1_method_66_code (4 : Nat) (Option.some Jvm.ClassFile.FieldType.int)) ∈ lw_all := lw_g (lw_at lw_m6 67 rfl) rfl
theorem q1399 : (Jvm.Cond.methodLink "WindingSquare" (463 : Nat) ({ cls := "WindingSquare$Walker", name := "takes", desc := "(LWindingSquare$Walker;)V" } : Jvm.MethodName)) ∈ lw_all := lw_g (lw_at lw_m6 68 rfl) rfl
theorem q1400 : (Jvm.Cond.methodLink "WindingSquare" (467 : Nat) ({ cls := "WindingSquare", name := "walksAlone", desc := "(LWindingSquare$Walker;I)V" } : Jvm.MethodName)) ∈ lw_all := lw_g (lw_at lw_m6 69 rfl) rfl
theorem q1401 : (Jvm.Cond.privateMethod ({ cls := "WindingSquare", name := "walksAlone", desc := "(LWindingSquare$Walker;I)V" } : Jvm.MethodName)) ∈ lw_tbl := lw_at lw_m6 70 rfl
theorem q1402 : (Jvm.Cond.instanceMethod ({ cls := "WindingSquare", name := "walksAlone", desc := "(LWindingSquare$Walker;I)V" } : Jvm.MethodName)) ∈ lw_all := lw_g (lw_at lw_m6 71 rfl) rfl
theorem q1403 : (Jvm.Cond.code ({ cls := "WindingSquare", name := "walksAlone", desc := "(LWindingSquare$Walker;I)V" } : Jvm.MethodName) prog_1_method_65_code (6 : Nat) (Option.none : Option Jvm.ClassFile.FieldType)) ∈ lw_all := lw_g (lw_at lw_m6 72 rfl) rfl
theorem q1404 : (Jvm.Cond.methodLink "WindingSquare" (435 : Nat) ({ cls := "java/util/ArrayList", name := "get", desc := "(I)Ljava/lang/Object;" } : Jvm.MethodName)) ∈ lw_all := lw_g (lw_at lw_m6 73 rfl) rfl
theorem q1405 : (Jvm.Cond.classLink "WindingSquare" (145 : Nat) "java/util/ArrayList") ∈ lw_all := lw_g (lw_at lw_m6 74 rfl) rfl
theorem q1406 : (Jvm.Cond.classLink "WindingSquare" (442 : Nat) "WindingSquare$Step") ∈ lw_all := lw_g (lw_at lw_m6 75 rfl) rfl
theorem q1407 : (Jvm.Cond.methodLink "WindingSquare" (451 : Nat) ({ cls := "WindingSquare$Walker", name := "does", desc := "(I)V" } : Jvm.MethodName)) ∈ lw_all := lw_g (lw_at lw_m6 76 rfl) rfl
theorem q1408 : (Jvm.Cond.methodLink "WindingSquare" (457 : Nat) ({ cls := "WindingSquare$Walker", name := "turns", desc := "(IZ)V" } : Jvm.MethodName)) ∈ lw_all := lw_g (lw_at lw_m6 77 rfl) rfl
theorem q1410 : (Jvm.Cond.instanceMethod ({ cls := "WindingSquare", name := "pigeons", desc := "(I)I" } : Jvm.MethodName)) ∈ lw_all := lw_g (lw_at lw_m6 79 rfl) rfl
theorem q1411 : (Jvm.Cond.selects "WindingSquare" ({ cls := "WindingSquare", name := "pigeons", desc := "(I)I" } : Jvm.MethodName) ({ cls := "WindingSquare", name := "pigeons", desc := "(I)I" } : Jvm.MethodName)) ∈ lw_all := lw_g (lw_at lw_m6 80 rfl) rfl
theorem q1412 : (Jvm.Cond.code ({ cls := "WindingSquare", name := "pigeons", desc := "(I)I" } : Jvm.MethodName) prog_1_method_69_code (8 : Nat) (Option.some Jvm.ClassFile.FieldType.int)) ∈ lw_all := lw_g (lw_at lw_m6 81 rfl) rfl
theorem q1413 : (Jvm.Cond.methodLink "WindingSquare" (471 : Nat) ({ cls := "WindingSquare", name := "flock", desc := "(I[Z)I" } : Jvm.MethodName)) ∈ lw_all := lw_g (lw_at lw_m6 82 rfl) rfl
theorem q1414 : (Jvm.Cond.privateMethod ({ cls := "WindingSquare", name := "flock", desc := "(I[Z)I" } : Jvm.MethodName)) ∈ lw_tbl := lw_at lw_m6 83 rfl
theorem q1415 : (Jvm.Cond.instanceMethod ({ cls := "WindingSquare", name := "flock", desc := "(I[Z)I" } : Jvm.MethodName)) ∈ lw_all := lw_g (lw_at lw_m6 84 rfl) rfl
theorem q1416 : (Jvm.Cond.code ({ cls := "WindingSquare", name := "flock", desc := "(I[Z)I" } : Jvm.MethodName) prog_1_method_68_code (7 : Nat) (Option.some Jvm.ClassFile.FieldType.int)) ∈ lw_all := lw_g (lw_at lw_m6 85 rfl) rfl
theorem q1417 : (Jvm.Cond.methodLink "WindingSquare" (475 : Nat) ({ cls := "WindingSquare", name := "beside", desc := "(I)I" } : Jvm.MethodName)) ∈ lw_all := lw_g (lw_at lw_m6 86 rfl) rfl
theorem q1418 : (Jvm.Cond.privateMethod ({ cls := "WindingSquare", name := "beside", desc := "(I)I" } : Jvm.MethodName)) ∈ lw_tbl := lw_at lw_m6 87 rfl
theorem q1419 : (Jvm.Cond.instanceMethod ({ cls := "WindingSquare", name := "beside", desc := "(I)I" } : Jvm.MethodName)) ∈ lw_all := lw_g (lw_at lw_m6 88 rfl) rfl
theorem q1420 : (Jvm.Cond.code ({ cls := "WindingSquare", name := "beside", desc := "(I)I" } : Jvm.MethodName) prog_1_method_67_code (4 : Nat) (Option.some Jvm.ClassFile.FieldType.int)) ∈ lw_all := lw_g (lw_at lw_m6 89 rfl) rfl
theorem q1422 : (Jvm.Cond.instanceMethod ({ cls := "WindingSquare", name := "game", desc := "(III)I" } : Jvm.MethodName)) ∈ lw_all := lw_g (lw_at lw_m6 91 rfl) rfl
theorem q1423 : (Jvm.Cond.selects "WindingSquare" ({ cls := "WindingSquare", name := "game", desc := "(III)I" } : Jvm.MethodName) ({ cls := "WindingSquare", name := "game", desc := "(III)I" } : Jvm.MethodName)) ∈ lw_all := lw_g (lw_at lw_m6 92 rfl) rfl
theorem q1424 : (Jvm.Cond.code ({ cls := "WindingSquare", name := "game", desc := "(III)I" } : Jvm.MethodName) prog_1_method_72_code (7 : Nat) (Option.some Jvm.ClassFile.FieldType.int)) ∈ lw_all := lw_g (lw_at lw_m6 93 rfl) rfl
theorem q1425 : (Jvm.Cond.methodLink "WindingSquare" (484 : Nat) ({ cls := "WindingSquare", name := "laysNims", desc := "(I)V" } : Jvm.MethodName)) ∈ lw_all := lw_g (lw_at lw_m6 94 rfl) rfl
theorem q1426 : (Jvm.Cond.privateMethod ({ cls := "WindingSquare", name := "laysNims", desc := "(I)V" } : Jvm.MethodName)) ∈ lw_tbl := lw_at lw_m6 95 rfl
theorem q1427 : (Jvm.Cond.instanceMethod ({ cls := "WindingSquare", name := "laysNims", desc := "(I)V" } : Jvm.MethodName)) ∈ lw_all := lw_g (lw_at lw_m6 96 rfl) rfl
theorem q1428 : (Jvm.Cond.code ({ cls := "WindingSquare", name := "laysNims", desc := "(I)V" } : Jvm.MethodName) prog_1_method_71_code (6 : Nat) (Option.none : Option Jvm.ClassFile.FieldType)) ∈ lw_all := lw_g (lw_at lw_m6 97 rfl) rfl
theorem q1429 : (Jvm.Cond.methodLink "WindingSquare" (478 : Nat) ({ cls := "WindingSquare", name := "bent", desc := "(III)I" } : Jvm.MethodName)) ∈ lw_all := lw_g (lw_at lw_m6 98 rfl) rfl
theorem q1430 : (Jvm.Cond.static ({ cls := "WindingSquare", name := "bent", desc := "(III)I" } : Jvm.MethodName)) ∈ lw_all := lw_g (lw_at lw_m6 99 rfl) rfl
theorem q1431 : (Jvm.Cond.code ({ cls := "WindingSquare", name := "bent", desc := "(III)I" } : Jvm.MethodName) prog_1_method_70_code (5 : Nat) (Option.some Jvm.ClassFile.FieldType.int)) ∈ lw_all := lw_g (lw_at lw_m6 100 rfl) rfl
theorem q1432 : (Jvm.Cond.methodLink "WindingSquare" (481 : Nat) ({ cls := "java/lang/Integer", name := "numberOfTrailingZeros", desc := "(I)I" } : Jvm.MethodName)) ∈ lw_all := lw_g (lw_at lw_m6 101 rfl) rfl
theorem q1437 : (Jvm.Cond.instanceMethod ({ cls := "WindingSquare", name := "image", desc := "(Z)Z" } : Jvm.MethodName)) ∈ lw_all := lw_g (lw_at lw_m6 106 rfl) rfl
theorem q1438 : (Jvm.Cond.selects "WindingSquare" ({ cls := "WindingSquare", name := "image", desc := "(Z)Z" } : Jvm.MethodName) ({ cls := "WindingSquare", name := "image", desc := "(Z)Z" } : Jvm.MethodName)) ∈ lw_all := lw_g (lw_at lw_m6 107 rfl) rfl
theorem q1439 : (Jvm.Cond.code ({ cls := "WindingSquare", name := "image", desc := "(Z)Z" } : Jvm.MethodName) prog_1_method_73_code (2 : Nat) (Option.some Jvm.ClassFile.FieldType.boolean)) ∈ lw_all := lw_g (lw_at lw_m6 108 rfl) rfl
theorem q1440 : (Jvm.Cond.methodLink "WindingSquare" (490 : Nat) ({ cls := "WindingSquare$Square", name := "takes", desc := "(LWindingSquare$Square;)V" } : Jvm.MethodName)) ∈ lw_all := lw_g (lw_at lw_m6 109 rfl) rfl
theorem q1450 : (Jvm.Cond.instanceMethod ({ cls := "WindingSquare", name := "look", desc := "(I)I" } : Jvm.MethodName)) ∈ lw_all := lw_g (lw_at lw_m6 119 rfl) rfl
theorem q1451 : (Jvm.Cond.selects "WindingSquare" ({ cls := "WindingSquare", name := "look", desc := "(I)I" } : Jvm.MethodName) ({ cls := "WindingSquare", name := "look", desc := "(I)I" } : Jvm.MethodName)) ∈ lw_all := lw_g (lw_at lw_m6 120 rfl) rfl
theorem q1452 : (Jvm.Cond.code ({ cls := "WindingSquare", name := "look", desc := "(I)I" } : Jvm.MethodName) prog_1_method_74_code (7 : Nat) (Option.some Jvm.ClassFile.FieldType.int)) ∈ lw_all := lw_g (lw_at lw_m6 121 rfl) rfl
theorem q2056 : (Jvm.Cond.castable "WindingSquare" "java/lang/Object") ∈ lw_tbl := lw_at lw_m9 5 rfl
theorem in_X0 : ∀ w ∈ wsX00, w ∈ lw_all := lw_in wsX00 [490, 492, 494, 496, 498, 500, 502, 504, 506, 508, 510, 512, 514, 516, 518, 520, 522, 524, 526, 528, 530, 532, 534, 536, 538, 540, 542, 544, 546, 548] (by decide +kernel) (by decide +kernel)

