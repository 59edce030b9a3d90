set_option maxRecDepth 100000
abbrev cX5_ant : ByteArray := prog_17_method_115_code
def yX5_ant : MethodName := ⟨RX5, "ant", "(II)I"⟩
def dkwX5_ant_9 : List UInt8 := [167, 0, 5, 21, 7, 172]
abbrev dktX5_ant_9 : List UInt8 := dkwX5_ant_9 ++ []
def dkwX5_ant_8 : List UInt8 := [154, 0, 8, 21, 6, 167, 0, 24, 28, 4, 160, 0, 7, 29, 167, 0, 15, 28, 5, 160, 0, 8, 21, 4]
abbrev dktX5_ant_8 : List UInt8 := dkwX5_ant_8 ++ dktX5_ant_9
def dkwX5_ant_7 : List UInt8 := [21, 5, 184, 1, 29, 96, 62, 21, 4, 21, 5, 184, 1, 32, 96, 54, 4, 132, 8, 1, 167, 255, 131, 28]
abbrev dktX5_ant_7 : List UInt8 := dkwX5_ant_7 ++ dktX5_ant_8
def dkwX5_ant_6 : List UInt8 := [167, 0, 4, 4, 96, 54, 6, 21, 6, 21, 7, 164, 0, 8, 21, 6, 167, 0, 5, 21, 7, 54, 7, 29]
abbrev dktX5_ant_6 : List UInt8 := dkwX5_ant_6 ++ dktX5_ant_7
def dkwX5_ant_5 : List UInt8 := [42, 180, 0, 68, 21, 9, 4, 42, 180, 0, 68, 21, 9, 46, 100, 79, 21, 6, 21, 10, 153, 0, 7, 2]
abbrev dktX5_ant_5 : List UInt8 := dkwX5_ant_5 ++ dktX5_ant_6
def dkwX5_ant_4 : List UInt8 := [4, 167, 0, 4, 3, 54, 10, 21, 5, 21, 10, 153, 0, 7, 3, 167, 0, 4, 4, 184, 1, 7, 54, 5]
abbrev dktX5_ant_4 : List UInt8 := dkwX5_ant_4 ++ dktX5_ant_5
def dkwX5_ant_3 : List UInt8 := [21, 4, 16, 127, 126, 104, 29, 16, 127, 126, 96, 54, 9, 42, 180, 0, 68, 21, 9, 46, 4, 160, 0, 7]
abbrev dktX5_ant_3 : List UInt8 := dkwX5_ant_3 ++ dktX5_ant_4
def dkwX5_ant_2 : List UInt8 := [3, 54, 4, 3, 54, 5, 3, 54, 6, 3, 54, 7, 3, 54, 8, 21, 8, 27, 162, 0, 125, 17, 0, 128]
abbrev dktX5_ant_2 : List UInt8 := dkwX5_ant_2 ++ dktX5_ant_3
def dkwX5_ant_1 : List UInt8 := [3, 62, 29, 17, 64, 0, 162, 0, 16, 42, 180, 0, 68, 29, 3, 79, 132, 3, 1, 167, 255, 239, 3, 62]
abbrev dktX5_ant_1 : List UInt8 := dkwX5_ant_1 ++ dktX5_ant_2
def dkwX5_ant_0 : List UInt8 := [27, 3, 17, 7, 208, 184, 0, 100, 153, 0, 12, 28, 3, 6, 184, 0, 100, 154, 0, 7, 17, 216, 240, 172]
abbrev dktX5_ant_0 : List UInt8 := dkwX5_ant_0 ++ dktX5_ant_1
theorem dksX5_ant_0 : cX5_ant.data.toList.drop 0 = dktX5_ant_0 := by decide +kernel
theorem dksX5_ant_1 : cX5_ant.data.toList.drop 24 = dktX5_ant_1 := dk_seg dksX5_ant_0 24 rfl rfl
theorem dksX5_ant_2 : cX5_ant.data.toList.drop 48 = dktX5_ant_2 := dk_seg dksX5_ant_1 24 rfl rfl
theorem dksX5_ant_3 : cX5_ant.data.toList.drop 72 = dktX5_ant_3 := dk_seg dksX5_ant_2 24 rfl rfl
theorem dksX5_ant_4 : cX5_ant.data.toList.drop 96 = dktX5_ant_4 := dk_seg dksX5_ant_3 24 rfl rfl
theorem dksX5_ant_5 : cX5_ant.data.toList.drop 120 = dktX5_ant_5 := dk_seg dksX5_ant_4 24 rfl rfl
theorem dksX5_ant_6 : cX5_ant.data.toList.drop 144 = dktX5_ant_6 := dk_seg dksX5_ant_5 24 rfl rfl
theorem dksX5_ant_7 : cX5_ant.data.toList.drop 168 = dktX5_ant_7 := dk_seg dksX5_ant_6 24 rfl rfl
theorem dksX5_ant_8 : cX5_ant.data.toList.drop 192 = dktX5_ant_8 := dk_seg dksX5_ant_7 24 rfl rfl
theorem dksX5_ant_9 : cX5_ant.data.toList.drop 216 = dktX5_ant_9 := dk_seg dksX5_ant_8 24 rfl rfl
theorem dX5_ant_0 : decode cX5_ant 0 = .ok (.iload_n 1, 1) := dk_27 (dk_at dksX5_ant_0 0 rfl rfl)
theorem dX5_ant_1 : decode cX5_ant 1 = .ok (.iconst 0, 1) := dk_3 (dk_at dksX5_ant_0 1 rfl rfl)
theorem dX5_ant_2 : decode cX5_ant 2 = .ok (.sipush 2000, 3) := dk_17 7 208 (dk_at dksX5_ant_0 2 rfl rfl)
theorem dX5_ant_5 : decode cX5_ant 5 = .ok (.invokestatic 100, 3) := dk_184 0 100 (dk_at dksX5_ant_0 5 rfl rfl)
theorem dX5_ant_8 : decode cX5_ant 8 = .ok (.ifCond .eq 12, 3) := dk_153 0 12 (dk_at dksX5_ant_0 8 rfl rfl)
theorem dX5_ant_11 : decode cX5_ant 11 = .ok (.iload_n 2, 1) := dk_28 (dk_at dksX5_ant_0 11 rfl rfl)
theorem dX5_ant_12 : decode cX5_ant 12 = .ok (.iconst 0, 1) := dk_3 (dk_at dksX5_ant_0 12 rfl rfl)
theorem dX5_ant_13 : decode cX5_ant 13 = .ok (.iconst 3, 1) := dk_6 (dk_at dksX5_ant_0 13 rfl rfl)
theorem dX5_ant_14 : decode cX5_ant 14 = .ok (.invokestatic 100, 3) := dk_184 0 100 (dk_at dksX5_ant_0 14 rfl rfl)
theorem dX5_ant_17 : decode cX5_ant 17 = .ok (.ifCond .ne 7, 3) := dk_154 0 7 (dk_at dksX5_ant_0 17 rfl rfl)
theorem dX5_ant_20 : decode cX5_ant 20 = .ok (.sipush (-10000), 3) := dk_17 216 240 (dk_at dksX5_ant_0 20 rfl rfl)
theorem dX5_ant_23 : decode cX5_ant 23 = .ok (.ireturn, 1) := dk_172 (dk_at dksX5_ant_0 23 rfl rfl)
theorem dX5_ant_24 : decode cX5_ant 24 = .ok (.iconst 0, 1) := dk_3 (dk_at dksX5_ant_1 0 rfl rfl)
theorem dX5_ant_25 : decode cX5_ant 25 = .ok (.istore_n 3, 1) := dk_62 (dk_at dksX5_ant_1 1 rfl rfl)
theorem dX5_ant_26 : decode cX5_ant 26 = .ok (.iload_n 3, 1) := dk_29 (dk_at dksX5_ant_1 2 rfl rfl)
theorem dX5_ant_27 : decode cX5_ant 27 = .ok (.sipush 16384, 3) := dk_17 64 0 (dk_at dksX5_ant_1 3 rfl rfl)
theorem dX5_ant_30 : decode cX5_ant 30 = .ok (.if_icmp .ge 16, 3) := dk_162 0 16 (dk_at dksX5_ant_1 6 rfl rfl)
theorem dX5_ant_33 : decode cX5_ant 33 = .ok (.aload_n 0, 1) := dk_42 (dk_at dksX5_ant_1 9 rfl rfl)
theorem dX5_ant_34 : decode cX5_ant 34 = .ok (.getfield 68, 3) := dk_180 0 68 (dk_at dksX5_ant_1 10 rfl rfl)
theorem dX5_ant_37 : decode cX5_ant 37 = .ok (.iload_n 3, 1) := dk_29 (dk_at dksX5_ant_1 13 rfl rfl)
theorem dX5_ant_38 : decode cX5_ant 38 = .ok (.iconst 0, 1) := dk_3 (dk_at dksX5_ant_1 14 rfl rfl)
theorem dX5_ant_39 : decode cX5_ant 39 = .ok (.iastore, 1) := dk_79 (dk_at dksX5_ant_1 15 rfl rfl)
theorem dX5_ant_40 : decode cX5_ant 40 = .ok (.iinc 3 1, 3) := dk_132 3 1 (dk_at dksX5_ant_1 16 rfl rfl)
theorem dX5_ant_43 : decode cX5_ant 43 = .ok (.goto (-17), 3) := dk_167 255 239 (dk_at dksX5_ant_1 19 rfl rfl)
theorem dX5_ant_46 : decode cX5_ant 46 = .ok (.iconst 0, 1) := dk_3 (dk_at dksX5_ant_1 22 rfl rfl)
theorem dX5_ant_47 : decode cX5_ant 47 = .ok (.istore_n 3, 1) := dk_62 (dk_at dksX5_ant_1 23 rfl rfl)
theorem dX5_ant_48 : decode cX5_ant 48 = .ok (.iconst 0, 1) := dk_3 (dk_at dksX5_ant_2 0 rfl rfl)
theorem dX5_ant_49 : decode cX5_ant 49 = .ok (.istore 4, 2) := dk_54 4 (dk_at dksX5_ant_2 1 rfl rfl)
theorem dX5_ant_51 : decode cX5_ant 51 = .ok (.iconst 0, 1) := dk_3 (dk_at dksX5_ant_2 3 rfl rfl)
theorem dX5_ant_52 : decode cX5_ant 52 = .ok (.istore 5, 2) := dk_54 5 (dk_at dksX5_ant_2 4 rfl rfl)
theorem dX5_ant_54 : decode cX5_ant 54 = .ok (.iconst 0, 1) := dk_3 (dk_at dksX5_ant_2 6 rfl rfl)
theorem dX5_ant_55 : decode cX5_ant 55 = .ok (.istore 6, 2) := dk_54 6 (dk_at dksX5_ant_2 7 rfl rfl)
theorem dX5_ant_57 : decode cX5_ant 57 = .ok (.iconst 0, 1) := dk_3 (dk_at dksX5_ant_2 9 rfl rfl)
theorem dX5_ant_58 : decode cX5_ant 58 = .ok (.istore 7, 2) := dk_54 7 (dk_at dksX5_ant_2 10 rfl rfl)
theorem dX5_ant_60 : decode cX5_ant 60 = .ok (.iconst 0, 1) := dk_3 (dk_at dksX5_ant_2 12 rfl rfl)
theorem dX5_ant_61 : decode cX5_ant 61 = .ok (.istore 8, 2) := dk_54 8 (dk_at dksX5_ant_2 13 rfl rfl)
theorem dX5_ant_63 : decode cX5_ant 63 = .ok (.iload 8, 2) := dk_21 8 (dk_at dksX5_ant_2 15 rfl rfl)
theorem dX5_ant_65 : decode cX5_ant 65 = .ok (.iload_n 1, 1) := dk_27 (dk_at dksX5_ant_2 17 rfl rfl)
theorem dX5_ant_66 : decode cX5_ant 66 = .ok (.if_icmp .ge 125, 3) := dk_162 0 125 (dk_at dksX5_ant_2 18 rfl rfl)
theorem dX5_ant_69 : decode cX5_ant 69 = .ok (.sipush 128, 3) := dk_17 0 128 (dk_at dksX5_ant_2 21 rfl rfl)
theorem dX5_ant_72 : decode cX5_ant 72 = .ok (.iload 4, 2) := dk_21 4 (dk_at dksX5_ant_3 0 rfl rfl)
theorem dX5_ant_74 : decode cX5_ant 74 = .ok (.bipush 127, 2) := dk_16 127 (dk_at dksX5_ant_3 2 rfl rfl)
theorem dX5_ant_76 : decode cX5_ant 76 = .ok (.iand, 1) := dk_126 (dk_at dksX5_ant_3 4 rfl rfl)
theorem dX5_ant_77 : decode cX5_ant 77 = .ok (.imul, 1) := dk_104 (dk_at dksX5_ant_3 5 rfl rfl)
theorem dX5_ant_78 : decode cX5_ant 78 = .ok (.iload_n 3, 1) := dk_29 (dk_at dksX5_ant_3 6 rfl rfl)
theorem dX5_ant_79 : decode cX5_ant 79 = .ok (.bipush 127, 2) := dk_16 127 (dk_at dksX5_ant_3 7 rfl rfl)
theorem dX5_ant_81 : decode cX5_ant 81 = .ok (.iand, 1) := dk_126 (dk_at dksX5_ant_3 9 rfl rfl)
theorem dX5_ant_82 : decode cX5_ant 82 = .ok (.iadd, 1) := dk_96 (dk_at dksX5_ant_3 10 rfl rfl)
theorem dX5_ant_83 : decode cX5_ant 83 = .ok (.istore 9, 2) := dk_54 9 (dk_at dksX5_ant_3 11 rfl rfl)
theorem dX5_ant_85 : decode cX5_ant 85 = .ok (.aload_n 0, 1) := dk_42 (dk_at dksX5_ant_3 13 rfl rfl)
theorem dX5_ant_86 : decode cX5_ant 86 = .ok (.getfield 68, 3) := dk_180 0 68 (dk_at dksX5_ant_3 14 rfl rfl)
theorem dX5_ant_89 : decode cX5_ant 89 = .ok (.iload 9, 2) := dk_21 9 (dk_at dksX5_ant_3 17 rfl rfl)
theorem dX5_ant_91 : decode cX5_ant 91 = .ok (.iaload, 1) := dk_46 (dk_at dksX5_ant_3 19 rfl rfl)
theorem dX5_ant_92 : decode cX5_ant 92 = .ok (.iconst 1, 1) := dk_4 (dk_at dksX5_ant_3 20 rfl rfl)
theorem dX5_ant_93 : decode cX5_ant 93 = .ok (.if_icmp .ne 7, 3) := dk_160 0 7 (dk_at dksX5_ant_3 21 rfl rfl)
theorem dX5_ant_96 : decode cX5_ant 96 = .ok (.iconst 1, 1) := dk_4 (dk_at dksX5_ant_4 0 rfl rfl)
theorem dX5_ant_97 : decode cX5_ant 97 = .ok (.goto 4, 3) := dk_167 0 4 (dk_at dksX5_ant_4 1 rfl rfl)
theorem dX5_ant_100 : decode cX5_ant 100 = .ok (.iconst 0, 1) := dk_3 (dk_at dksX5_ant_4 4 rfl rfl)
theorem dX5_ant_101 : decode cX5_ant 101 = .ok (.istore 10, 2) := dk_54 10 (dk_at dksX5_ant_4 5 rfl rfl)
theorem dX5_ant_103 : decode cX5_ant 103 = .ok (.iload 5, 2) := dk_21 5 (dk_at dksX5_ant_4 7 rfl rfl)
theorem dX5_ant_105 : decode cX5_ant 105 = .ok (.iload 10, 2) := dk_21 10 (dk_at dksX5_ant_4 9 rfl rfl)
theorem dX5_ant_107 : decode cX5_ant 107 = .ok (.ifCond .eq 7, 3) := dk_153 0 7 (dk_at dksX5_ant_4 11 rfl rfl)
theorem dX5_ant_110 : decode cX5_ant 110 = .ok (.iconst 0, 1) := dk_3 (dk_at dksX5_ant_4 14 rfl rfl)
theorem dX5_ant_111 : decode cX5_ant 111 = .ok (.goto 4, 3) := dk_167 0 4 (dk_at dksX5_ant_4 15 rfl rfl)
theorem dX5_ant_114 : decode cX5_ant 114 = .ok (.iconst 1, 1) := dk_4 (dk_at dksX5_ant_4 18 rfl rfl)
theorem dX5_ant_115 : decode cX5_ant 115 = .ok (.invokestatic 263, 3) := dk_184 1 7 (dk_at dksX5_ant_4 19 rfl rfl)
theorem dX5_ant_118 : decode cX5_ant 118 = .ok (.istore 5, 2) := dk_54 5 (dk_at dksX5_ant_4 22 rfl rfl)
theorem dX5_ant_120 : decode cX5_ant 120 = .ok (.aload_n 0, 1) := dk_42 (dk_at dksX5_ant_5 0 rfl rfl)
theorem dX5_ant_121 : decode cX5_ant 121 = .ok (.getfield 68, 3) := dk_180 0 68 (dk_at dksX5_ant_5 1 rfl rfl)
theorem dX5_ant_124 : decode cX5_ant 124 = .ok (.iload 9, 2) := dk_21 9 (dk_at dksX5_ant_5 4 rfl rfl)
theorem dX5_ant_126 : decode cX5_ant 126 = .ok (.iconst 1, 1) := dk_4 (dk_at dksX5_ant_5 6 rfl rfl)
theorem dX5_ant_127 : decode cX5_ant 127 = .ok (.aload_n 0, 1) := dk_42 (dk_at dksX5_ant_5 7 rfl rfl)
theorem dX5_ant_128 : decode cX5_ant 128 = .ok (.getfield 68, 3) := dk_180 0 68 (dk_at dksX5_ant_5 8 rfl rfl)
theorem dX5_ant_131 : decode cX5_ant 131 = .ok (.iload 9, 2) := dk_21 9 (dk_at dksX5_ant_5 11 rfl rfl)
theorem dX5_ant_133 : decode cX5_ant 133 = .ok (.iaload, 1) := dk_46 (dk_at dksX5_ant_5 13 rfl rfl)
theorem dX5_ant_134 : decode cX5_ant 134 = .ok (.isub, 1) := dk_100 (dk_at dksX5_ant_5 14 rfl rfl)
theorem dX5_ant_135 : decode cX5_ant 135 = .ok (.iastore, 1) := dk_79 (dk_at dksX5_ant_5 15 rfl rfl)
theorem dX5_ant_136 : decode cX5_ant 136 = .ok (.iload 6, 2) := dk_21 6 (dk_at dksX5_ant_5 16 rfl rfl)
theorem dX5_ant_138 : decode cX5_ant 138 = .ok (.iload 10, 2) := dk_21 10 (dk_at dksX5_ant_5 18 rfl rfl)
theorem dX5_ant_140 : decode cX5_ant 140 = .ok (.ifCond .eq 7, 3) := dk_153 0 7 (dk_at dksX5_ant_5 20 rfl rfl)
theorem dX5_ant_143 : decode cX5_ant 143 = .ok (.iconst (-1), 1) := dk_2 (dk_at dksX5_ant_5 23 rfl rfl)
theorem dX5_ant_144 : decode cX5_ant 144 = .ok (.goto 4, 3) := dk_167 0 4 (dk_at dksX5_ant_6 0 rfl rfl)
theorem dX5_ant_147 : decode cX5_ant 147 = .ok (.iconst 1, 1) := dk_4 (dk_at dksX5_ant_6 3 rfl rfl)
theorem dX5_ant_148 : decode cX5_ant 148 = .ok (.iadd, 1) := dk_96 (dk_at dksX5_ant_6 4 rfl rfl)
theorem dX5_ant_149 : decode cX5_ant 149 = .ok (.istore 6, 2) := dk_54 6 (dk_at dksX5_ant_6 5 rfl rfl)
theorem dX5_ant_151 : decode cX5_ant 151 = .ok (.iload 6, 2) := dk_21 6 (dk_at dksX5_ant_6 7 rfl rfl)
theorem dX5_ant_153 : decode cX5_ant 153 = .ok (.iload 7, 2) := dk_21 7 (dk_at dksX5_ant_6 9 rfl rfl)
theorem dX5_ant_155 : decode cX5_ant 155 = .ok (.if_icmp .le 8, 3) := dk_164 0 8 (dk_at dksX5_ant_6 11 rfl rfl)
theorem dX5_ant_158 : decode cX5_ant 158 = .ok (.iload 6, 2) := dk_21 6 (dk_at dksX5_ant_6 14 rfl rfl)
theorem dX5_ant_160 : decode cX5_ant 160 = .ok (.goto 5, 3) := dk_167 0 5 (dk_at dksX5_ant_6 16 rfl rfl)
theorem dX5_ant_163 : decode cX5_ant 163 = .ok (.iload 7, 2) := dk_21 7 (dk_at dksX5_ant_6 19 rfl rfl)
theorem dX5_ant_165 : decode cX5_ant 165 = .ok (.istore 7, 2) := dk_54 7 (dk_at dksX5_ant_6 21 rfl rfl)
theorem dX5_ant_167 : decode cX5_ant 167 = .ok (.iload_n 3, 1) := dk_29 (dk_at dksX5_ant_6 23 rfl rfl)
theorem dX5_ant_168 : decode cX5_ant 168 = .ok (.iload 5, 2) := dk_21 5 (dk_at dksX5_ant_7 0 rfl rfl)
theorem dX5_ant_170 : decode cX5_ant 170 = .ok (.invokestatic 285, 3) := dk_184 1 29 (dk_at dksX5_ant_7 2 rfl rfl)
theorem dX5_ant_173 : decode cX5_ant 173 = .ok (.iadd, 1) := dk_96 (dk_at dksX5_ant_7 5 rfl rfl)
theorem dX5_ant_174 : decode cX5_ant 174 = .ok (.istore_n 3, 1) := dk_62 (dk_at dksX5_ant_7 6 rfl rfl)
theorem dX5_ant_175 : decode cX5_ant 175 = .ok (.iload 4, 2) := dk_21 4 (dk_at dksX5_ant_7 7 rfl rfl)
theorem dX5_ant_177 : decode cX5_ant 177 = .ok (.iload 5, 2) := dk_21 5 (dk_at dksX5_ant_7 9 rfl rfl)
theorem dX5_ant_179 : decode cX5_ant 179 = .ok (.invokestatic 288, 3) := dk_184 1 32 (dk_at dksX5_ant_7 11 rfl rfl)
theorem dX5_ant_182 : decode cX5_ant 182 = .ok (.iadd, 1) := dk_96 (dk_at dksX5_ant_7 14 rfl rfl)
theorem dX5_ant_183 : decode cX5_ant 183 = .ok (.istore 4, 2) := dk_54 4 (dk_at dksX5_ant_7 15 rfl rfl)
theorem dX5_ant_185 : decode cX5_ant 185 = .ok (.iinc 8 1, 3) := dk_132 8 1 (dk_at dksX5_ant_7 17 rfl rfl)
theorem dX5_ant_188 : decode cX5_ant 188 = .ok (.goto (-125), 3) := dk_167 255 131 (dk_at dksX5_ant_7 20 rfl rfl)
theorem dX5_ant_191 : decode cX5_ant 191 = .ok (.iload_n 2, 1) := dk_28 (dk_at dksX5_ant_7 23 rfl rfl)
theorem dX5_ant_192 : decode cX5_ant 192 = .ok (.ifCond .ne 8, 3) := dk_154 0 8 (dk_at dksX5_ant_8 0 rfl rfl)
theorem dX5_ant_195 : decode cX5_ant 195 = .ok (.iload 6, 2) := dk_21 6 (dk_at dksX5_ant_8 3 rfl rfl)
theorem dX5_ant_197 : decode cX5_ant 197 = .ok (.goto 24, 3) := dk_167 0 24 (dk_at dksX5_ant_8 5 rfl rfl)
theorem dX5_ant_200 : decode cX5_ant 200 = .ok (.iload_n 2, 1) := dk_28 (dk_at dksX5_ant_8 8 rfl rfl)
theorem dX5_ant_201 : decode cX5_ant 201 = .ok (.iconst 1, 1) := dk_4 (dk_at dksX5_ant_8 9 rfl rfl)
theorem dX5_ant_202 : decode cX5_ant 202 = .ok (.if_icmp .ne 7, 3) := dk_160 0 7 (dk_at dksX5_ant_8 10 rfl rfl)
theorem dX5_ant_205 : decode cX5_ant 205 = .ok (.iload_n 3, 1) := dk_29 (dk_at dksX5_ant_8 13 rfl rfl)
theorem dX5_ant_206 : decode cX5_ant 206 = .ok (.goto 15, 3) := dk_167 0 15 (dk_at dksX5_ant_8 14 rfl rfl)
theorem dX5_ant_209 : decode cX5_ant 209 = .ok (.iload_n 2, 1) := dk_28 (dk_at dksX5_ant_8 17 rfl rfl)
theorem dX5_ant_210 : decode cX5_ant 210 = .ok (.iconst 2, 1) := dk_5 (dk_at dksX5_ant_8 18 rfl rfl)
theorem dX5_ant_211 : decode cX5_ant 211 = .ok (.if_icmp .ne 8, 3) := dk_160 0 8 (dk_at dksX5_ant_8 19 rfl rfl)
theorem dX5_ant_214 : decode cX5_ant 214 = .ok (.iload 4, 2) := dk_21 4 (dk_at dksX5_ant_8 22 rfl rfl)
theorem dX5_ant_216 : decode cX5_ant 216 = .ok (.goto 5, 3) := dk_167 0 5 (dk_at dksX5_ant_9 0 rfl rfl)
theorem dX5_ant_219 : decode cX5_ant 219 = .ok (.iload 7, 2) := dk_21 7 (dk_at dksX5_ant_9 3 rfl rfl)
theorem dX5_ant_221 : decode cX5_ant 221 = .ok (.ireturn, 1) := dk_172 (dk_at dksX5_ant_9 5 rfl rfl)
abbrev cX5_hooks : ByteArray := prog_17_method_116_code
def yX5_hooks : MethodName := ⟨RX5, "hooks", "(II)I"⟩
def dkwX5_hooks_8 : List UInt8 := [180, 0, 71, 3, 46, 172]
abbrev dktX5_hooks_8 : List UInt8 := dkwX5_hooks_8 ++ []
def dkwX5_hooks_7 : List UInt8 := [184, 1, 94, 79, 42, 180, 0, 74, 42, 180, 0, 71, 7, 184, 0, 86, 132, 4, 1, 167, 255, 134, 42]
abbrev dktX5_hooks_7 : List UInt8 := dkwX5_hooks_7 ++ dktX5_hooks_8
def dkwX5_hooks_6 : List UInt8 := [180, 0, 71, 4, 46, 42, 180, 0, 71, 5, 46, 184, 1, 94, 29, 42, 180, 0, 71, 3, 46, 104]
abbrev dktX5_hooks_6 : List UInt8 := dkwX5_hooks_6 ++ dktX5_hooks_7
def dkwX5_hooks_5 : List UInt8 := [180, 0, 71, 3, 46, 29, 42, 180, 0, 71, 4, 46, 104, 184, 1, 94, 79, 42, 180, 0, 74, 6, 42]
abbrev dktX5_hooks_5 : List UInt8 := dkwX5_hooks_5 ++ dktX5_hooks_6
def dkwX5_hooks_4 : List UInt8 := [180, 0, 71, 3, 46, 29, 42, 180, 0, 71, 5, 46, 104, 184, 1, 94, 79, 42, 180, 0, 74, 5, 42]
abbrev dktX5_hooks_4 : List UInt8 := dkwX5_hooks_4 ++ dktX5_hooks_5
def dkwX5_hooks_3 : List UInt8 := [180, 0, 71, 6, 46, 29, 42, 180, 0, 71, 3, 46, 104, 184, 1, 94, 79, 42, 180, 0, 74, 4, 42]
abbrev dktX5_hooks_3 : List UInt8 := dkwX5_hooks_3 ++ dktX5_hooks_4
def dkwX5_hooks_2 : List UInt8 := [167, 255, 233, 4, 28, 100, 62, 3, 54, 4, 21, 4, 27, 162, 0, 122, 42, 180, 0, 74, 3, 42]
abbrev dktX5_hooks_2 : List UInt8 := dkwX5_hooks_2 ++ dktX5_hooks_3
def dkwX5_hooks_1 : List UInt8 := [7, 162, 0, 24, 42, 180, 0, 71, 29, 29, 154, 0, 7, 4, 167, 0, 4, 3, 79, 132, 3, 1]
abbrev dktX5_hooks_1 : List UInt8 := dkwX5_hooks_1 ++ dktX5_hooks_2
def dkwX5_hooks_0 : List UInt8 := [27, 3, 16, 40, 184, 0, 100, 153, 0, 12, 28, 3, 4, 184, 0, 100, 154, 0, 5, 2, 172, 3, 62, 29]
abbrev dktX5_hooks_0 : List UInt8 := dkwX5_hooks_0 ++ dktX5_hooks_1
theorem dksX5_hooks_0 : cX5_hooks.data.toList.drop 0 = dktX5_hooks_0 := by decide +kernel
theorem dksX5_hooks_1 : cX5_hooks.data.toList.drop 24 = dktX5_hooks_1 := dk_seg dksX5_hooks_0 24 rfl rfl
theorem dksX5_hooks_2 : cX5_hooks.data.toList.drop 46 = dktX5_hooks_2 := dk_seg dksX5_hooks_1 22 rfl rfl
theorem dksX5_hooks_3 : cX5_hooks.data.toList.drop 68 = dktX5_hooks_3 := dk_seg dksX5_hooks_2 22 rfl rfl
theorem dksX5_hooks_4 : cX5_hooks.data.toList.drop 91 = dktX5_hooks_4 := dk_seg dksX5_hooks_3 23 rfl rfl
theorem dksX5_hooks_5 : cX5_hooks.data.toList.drop 114 = dktX5_hooks_5 := dk_seg dksX5_hooks_4 23 rfl rfl
theorem dksX5_hooks_6 : cX5_hooks.data.toList.drop 137 = dktX5_hooks_6 := dk_seg dksX5_hooks_5 23 rfl rfl
theorem dksX5_hooks_7 : cX5_hooks.data.toList.drop 159 = dktX5_hooks_7 := dk_seg dksX5_hooks_6 22 rfl rfl
theorem dksX5_hooks_8 : cX5_hooks.data.toList.drop 182 = dktX5_hooks_8 := dk_seg dksX5_hooks_7 23 rfl rfl
theorem dX5_hooks_0 : decode cX5_hooks 0 = .ok (.iload_n 1, 1) := dk_27 (dk_at dksX5_hooks_0 0 rfl rfl)
theorem dX5_hooks_1 : decode cX5_hooks 1 = .ok (.iconst 0, 1) := dk_3 (dk_at dksX5_hooks_0 1 rfl rfl)
theorem dX5_hooks_2 : decode cX5_hooks 2 = .ok (.bipush 40, 2) := dk_16 40 (dk_at dksX5_hooks_0 2 rfl rfl)
theorem dX5_hooks_4 : decode cX5_hooks 4 = .ok (.invokestatic 100, 3) := dk_184 0 100 (dk_at dksX5_hooks_0 4 rfl rfl)
theorem dX5_hooks_7 : decode cX5_hooks 7 = .ok (.ifCond .eq 12, 3) := dk_153 0 12 (dk_at dksX5_hooks_0 7 rfl rfl)
theorem dX5_hooks_10 : decode cX5_hooks 10 = .ok (.iload_n 2, 1) := dk_28 (dk_at dksX5_hooks_0 10 rfl rfl)
theorem dX5_hooks_11 : decode cX5_hooks 11 = .ok (.iconst 0, 1) := dk_3 (dk_at dksX5_hooks_0 11 rfl rfl)
theorem dX5_hooks_12 : decode cX5_hooks 12 = .ok (.iconst 1, 1) := dk_4 (dk_at dksX5_hooks_0 12 rfl rfl)
theorem dX5_hooks_13 : decode cX5_hooks 13 = .ok (.invokestatic 100, 3) := dk_184 0 100 (dk_at dksX5_hooks_0 13 rfl rfl)
theorem dX5_hooks_16 : decode cX5_hooks 16 = .ok (.ifCond .ne 5, 3) := dk_154 0 5 (dk_at dksX5_hooks_0 16 rfl rfl)
theorem dX5_hooks_19 : decode cX5_hooks 19 = .ok (.iconst (-1), 1) := dk_2 (dk_at dksX5_hooks_0 19 rfl rfl)
theorem dX5_hooks_20 : decode cX5_hooks 20 = .ok (.ireturn, 1) := dk_172 (dk_at dksX5_hooks_0 20 rfl rfl)
theorem dX5_hooks_21 : decode cX5_hooks 21 = .ok (.iconst 0, 1) := dk_3 (dk_at dksX5_hooks_0 21 rfl rfl)
theorem dX5_hooks_22 : decode cX5_hooks 22 = .ok (.istore_n 3, 1) := dk_62 (dk_at dksX5_hooks_0 22 rfl rfl)
theorem dX5_hooks_23 : decode cX5_hooks 23 = .ok (.iload_n 3, 1) := dk_29 (dk_at dksX5_hooks_0 23 rfl rfl)
theorem dX5_hooks_24 : decode cX5_hooks 24 = .ok (.iconst 4, 1) := dk_7 (dk_at dksX5_hooks_1 0 rfl rfl)
theorem dX5_hooks_25 : decode cX5_hooks 25 = .ok (.if_icmp .ge 24, 3) := dk_162 0 24 (dk_at dksX5_hooks_1 1 rfl rfl)
theorem dX5_hooks_28 : decode cX5_hooks 28 = .ok (.aload_n 0, 1) := dk_42 (dk_at dksX5_hooks_1 4 rfl rfl)
theorem dX5_hooks_29 : decode cX5_hooks 29 = .ok (.getfield 71, 3) := dk_180 0 71 (dk_at dksX5_hooks_1 5 rfl rfl)
theorem dX5_hooks_32 : decode cX5_hooks 32 = .ok (.iload_n 3, 1) := dk_29 (dk_at dksX5_hooks_1 8 rfl rfl)
theorem dX5_hooks_33 : decode cX5_hooks 33 = .ok (.iload_n 3, 1) := dk_29 (dk_at dksX5_hooks_1 9 rfl rfl)
theorem dX5_hooks_34 : decode cX5_hooks 34 = .ok (.ifCond .ne 7, 3) := dk_154 0 7 (dk_at dksX5_hooks_1 10 rfl rfl)
theorem dX5_hooks_37 : decode cX5_hooks 37 = .ok (.iconst 1, 1) := dk_4 (dk_at dksX5_hooks_1 13 rfl rfl)
theorem dX5_hooks_38 : decode cX5_hooks 38 = .ok (.goto 4, 3) := dk_167 0 4 (dk_at dksX5_hooks_1 14 rfl rfl)
theorem dX5_hooks_41 : decode cX5_hooks 41 = .ok (.iconst 0, 1) := dk_3 (dk_at dksX5_hooks_1 17 rfl rfl)
theorem dX5_hooks_42 : decode cX5_hooks 42 = .ok (.iastore, 1) := dk_79 (dk_at dksX5_hooks_1 18 rfl rfl)
theorem dX5_hooks_43 : decode cX5_hooks 43 = .ok (.iinc 3 1, 3) := dk_132 3 1 (dk_at dksX5_hooks_1 19 rfl rfl)
theorem dX5_hooks_46 : decode cX5_hooks 46 = .ok (.goto (-23), 3) := dk_167 255 233 (dk_at dksX5_hooks_2 0 rfl rfl)
theorem dX5_hooks_49 : decode cX5_hooks 49 = .ok (.iconst 1, 1) := dk_4 (dk_at dksX5_hooks_2 3 rfl rfl)
theorem dX5_hooks_50 : decode cX5_hooks 50 = .ok (.iload_n 2, 1) := dk_28 (dk_at dksX5_hooks_2 4 rfl rfl)
theorem dX5_hooks_51 : decode cX5_hooks 51 = .ok (.isub, 1) := dk_100 (dk_at dksX5_hooks_2 5 rfl rfl)
theorem dX5_hooks_52 : decode cX5_hooks 52 = .ok (.istore_n 3, 1) := dk_62 (dk_at dksX5_hooks_2 6 rfl rfl)
theorem dX5_hooks_53 : decode cX5_hooks 53 = .ok (.iconst 0, 1) := dk_3 (dk_at dksX5_hooks_2 7 rfl rfl)
theorem dX5_hooks_54 : decode cX5_hooks 54 = .ok (.istore 4, 2) := dk_54 4 (dk_at dksX5_hooks_2 8 rfl rfl)
theorem dX5_hooks_56 : decode cX5_hooks 56 = .ok (.iload 4, 2) := dk_21 4 (dk_at dksX5_hooks_2 10 rfl rfl)
theorem dX5_hooks_58 : decode cX5_hooks 58 = .ok (.iload_n 1, 1) := dk_27 (dk_at dksX5_hooks_2 12 rfl rfl)
theorem dX5_hooks_59 : decode cX5_hooks 59 = .ok (.if_icmp .ge 122, 3) := dk_162 0 122 (dk_at dksX5_hooks_2 13 rfl rfl)
theorem dX5_hooks_62 : decode cX5_hooks 62 = .ok (.aload_n 0, 1) := dk_42 (dk_at dksX5_hooks_2 16 rfl rfl)
theorem dX5_hooks_63 : decode cX5_hooks 63 = .ok (.getfield 74, 3) := dk_180 0 74 (dk_at dksX5_hooks_2 17 rfl rfl)
theorem dX5_hooks_66 : decode cX5_hooks 66 = .ok (.iconst 0, 1) := dk_3 (dk_at dksX5_hooks_2 20 rfl rfl)
theorem dX5_hooks_67 : decode cX5_hooks 67 = .ok (.aload_n 0, 1) := dk_42 (dk_at dksX5_hooks_2 21 rfl rfl)
theorem dX5_hooks_68 : decode cX5_hooks 68 = .ok (.getfield 71, 3) := dk_180 0 71 (dk_at dksX5_hooks_3 0 rfl rfl)
theorem dX5_hooks_71 : decode cX5_hooks 71 = .ok (.iconst 3, 1) := dk_6 (dk_at dksX5_hooks_3 3 rfl rfl)
theorem dX5_hooks_72 : decode cX5_hooks 72 = .ok (.iaload, 1) := dk_46 (dk_at dksX5_hooks_3 4 rfl rfl)
theorem dX5_hooks_73 : decode cX5_hooks 73 = .ok (.iload_n 3, 1) := dk_29 (dk_at dksX5_hooks_3 5 rfl rfl)
theorem dX5_hooks_74 : decode cX5_hooks 74 = .ok (.aload_n 0, 1) := dk_42 (dk_at dksX5_hooks_3 6 rfl rfl)
theorem dX5_hooks_75 : decode cX5_hooks 75 = .ok (.getfield 71, 3) := dk_180 0 71 (dk_at dksX5_hooks_3 7 rfl rfl)
theorem dX5_hooks_78 : decode cX5_hooks 78 = .ok (.iconst 0, 1) := dk_3 (dk_at dksX5_hooks_3 10 rfl rfl)
theorem dX5_hooks_79 : decode cX5_hooks 79 = .ok (.iaload, 1) := dk_46 (dk_at dksX5_hooks_3 11 rfl rfl)
theorem dX5_hooks_80 : decode cX5_hooks 80 = .ok (.imul, 1) := dk_104 (dk_at dksX5_hooks_3 12 rfl rfl)
theorem dX5_hooks_81 : decode cX5_hooks 81 = .ok (.invokestatic 350, 3) := dk_184 1 94 (dk_at dksX5_hooks_3 13 rfl rfl)
theorem dX5_hooks_84 : decode cX5_hooks 84 = .ok (.iastore, 1) := dk_79 (dk_at dksX5_hooks_3 16 rfl rfl)
theorem dX5_hooks_85 : decode cX5_hooks 85 = .ok (.aload_n 0, 1) := dk_42 (dk_at dksX5_hooks_3 17 rfl rfl)
theorem dX5_hooks_86 : decode cX5_hooks 86 = .ok (.getfield 74, 3) := dk_180 0 74 (dk_at dksX5_hooks_3 18 rfl rfl)
theorem dX5_hooks_89 : decode cX5_hooks 89 = .ok (.iconst 1, 1) := dk_4 (dk_at dksX5_hooks_3 21 rfl rfl)
theorem dX5_hooks_90 : decode cX5_hooks 90 = .ok (.aload_n 0, 1) := dk_42 (dk_at dksX5_hooks_3 22 rfl rfl)
theorem dX5_hooks_91 : decode cX5_hooks 91 = .ok (.getfield 71, 3) := dk_180 0 71 (dk_at dksX5_hooks_4 0 rfl rfl)
theorem dX5_hooks_94 : decode cX5_hooks 94 = .ok (.iconst 0, 1) := dk_3 (dk_at dksX5_hooks_4 3 rfl rfl)
theorem dX5_hooks_95 : decode cX5_hooks 95 = .ok (.iaload, 1) := dk_46 (dk_at dksX5_hooks_4 4 rfl rfl)
theorem dX5_hooks_96 : decode cX5_hooks 96 = .ok (.iload_n 3, 1) := dk_29 (dk_at dksX5_hooks_4 5 rfl rfl)
theorem dX5_hooks_97 : decode cX5_hooks 97 = .ok (.aload_n 0, 1) := dk_42 (dk_at dksX5_hooks_4 6 rfl rfl)
theorem dX5_hooks_98 : decode cX5_hooks 98 = .ok (.getfield 71, 3) := dk_180 0 71 (dk_at dksX5_hooks_4 7 rfl rfl)
theorem dX5_hooks_101 : decode cX5_hooks 101 = .ok (.iconst 2, 1) := dk_5 (dk_at dksX5_hooks_4 10 rfl rfl)
theorem dX5_hooks_102 : decode cX5_hooks 102 = .ok (.iaload, 1) := dk_46 (dk_at dksX5_hooks_4 11 rfl rfl)
theorem dX5_hooks_103 : decode cX5_hooks 103 = .ok (.imul, 1) := dk_104 (dk_at dksX5_hooks_4 12 rfl rfl)
theorem dX5_hooks_104 : decode cX5_hooks 104 = .ok (.invokestatic 350, 3) := dk_184 1 94 (dk_at dksX5_hooks_4 13 rfl rfl)
theorem dX5_hooks_107 : decode cX5_hooks 107 = .ok (.iastore, 1) := dk_79 (dk_at dksX5_hooks_4 16 rfl rfl)
theorem dX5_hooks_108 : decode cX5_hooks 108 = .ok (.aload_n 0, 1) := dk_42 (dk_at dksX5_hooks_4 17 rfl rfl)
theorem dX5_hooks_109 : decode cX5_hooks 109 = .ok (.getfield 74, 3) := dk_180 0 74 (dk_at dksX5_hooks_4 18 rfl rfl)
theorem dX5_hooks_112 : decode cX5_hooks 112 = .ok (.iconst 2, 1) := dk_5 (dk_at dksX5_hooks_4 21 rfl rfl)
theorem dX5_hooks_113 : decode cX5_hooks 113 = .ok (.aload_n 0, 1) := dk_42 (dk_at dksX5_hooks_4 22 rfl rfl)
theorem dX5_hooks_114 : decode cX5_hooks 114 = .ok (.getfield 71, 3) := dk_180 0 71 (dk_at dksX5_hooks_5 0 rfl rfl)
theorem dX5_hooks_117 : decode cX5_hooks 117 = .ok (.iconst 0, 1) := dk_3 (dk_at dksX5_hooks_5 3 rfl rfl)
theorem dX5_hooks_118 : decode cX5_hooks 118 = .ok (.iaload, 1) := dk_46 (dk_at dksX5_hooks_5 4 rfl rfl)
theorem dX5_hooks_119 : decode cX5_hooks 119 = .ok (.iload_n 3, 1) := dk_29 (dk_at dksX5_hooks_5 5 rfl rfl)
theorem dX5_hooks_120 : decode cX5_hooks 120 = .ok (.aload_n 0, 1) := dk_42 (dk_at dksX5_hooks_5 6 rfl rfl)
theorem dX5_hooks_121 : decode cX5_hooks 121 = .ok (.getfield 71, 3) := dk_180 0 71 (dk_at dksX5_hooks_5 7 rfl rfl)
theorem dX5_hooks_124 : decode cX5_hooks 124 = .ok (.iconst 1, 1) := dk_4 (dk_at dksX5_hooks_5 10 rfl rfl)
theorem dX5_hooks_125 : decode cX5_hooks 125 = .ok (.iaload, 1) := dk_46 (dk_at dksX5_hooks_5 11 rfl rfl)
theorem dX5_hooks_126 : decode cX5_hooks 126 = .ok (.imul, 1) := dk_104 (dk_at dksX5_hooks_5 12 rfl rfl)
theorem dX5_hooks_127 : decode cX5_hooks 127 = .ok (.invokestatic 350, 3) := dk_184 1 94 (dk_at dksX5_hooks_5 13 rfl rfl)
theorem dX5_hooks_130 : decode cX5_hooks 130 = .ok (.iastore, 1) := dk_79 (dk_at dksX5_hooks_5 16 rfl rfl)
theorem dX5_hooks_131 : decode cX5_hooks 131 = .ok (.aload_n 0, 1) := dk_42 (dk_at dksX5_hooks_5 17 rfl rfl)
theorem dX5_hooks_132 : decode cX5_hooks 132 = .ok (.getfield 74, 3) := dk_180 0 74 (dk_at dksX5_hooks_5 18 rfl rfl)
theorem dX5_hooks_135 : decode cX5_hooks 135 = .ok (.iconst 3, 1) := dk_6 (dk_at dksX5_hooks_5 21 rfl rfl)
theorem dX5_hooks_136 : decode cX5_hooks 136 = .ok (.aload_n 0, 1) := dk_42 (dk_at dksX5_hooks_5 22 rfl rfl)
theorem dX5_hooks_137 : decode cX5_hooks 137 = .ok (.getfield 71, 3) := dk_180 0 71 (dk_at dksX5_hooks_6 0 rfl rfl)
theorem dX5_hooks_140 : decode cX5_hooks 140 = .ok (.iconst 1, 1) := dk_4 (dk_at dksX5_hooks_6 3 rfl rfl)
theorem dX5_hooks_141 : decode cX5_hooks 141 = .ok (.iaload, 1) := dk_46 (dk_at dksX5_hooks_6 4 rfl rfl)
theorem dX5_hooks_142 : decode cX5_hooks 142 = .ok (.aload_n 0, 1) := dk_42 (dk_at dksX5_hooks_6 5 rfl rfl)
theorem dX5_hooks_143 : decode cX5_hooks 143 = .ok (.getfield 71, 3) := dk_180 0 71 (dk_at dksX5_hooks_6 6 rfl rfl)
theorem dX5_hooks_146 : decode cX5_hooks 146 = .ok (.iconst 2, 1) := dk_5 (dk_at dksX5_hooks_6 9 rfl rfl)
theorem dX5_hooks_147 : decode cX5_hooks 147 = .ok (.iaload, 1) := dk_46 (dk_at dksX5_hooks_6 10 rfl rfl)
theorem dX5_hooks_148 : decode cX5_hooks 148 = .ok (.invokestatic 350, 3) := dk_184 1 94 (dk_at dksX5_hooks_6 11 rfl rfl)
theorem dX5_hooks_151 : decode cX5_hooks 151 = .ok (.iload_n 3, 1) := dk_29 (dk_at dksX5_hooks_6 14 rfl rfl)
theorem dX5_hooks_152 : decode cX5_hooks 152 = .ok (.aload_n 0, 1) := dk_42 (dk_at dksX5_hooks_6 15 rfl rfl)
theorem dX5_hooks_153 : decode cX5_hooks 153 = .ok (.getfield 71, 3) := dk_180 0 71 (dk_at dksX5_hooks_6 16 rfl rfl)
theorem dX5_hooks_156 : decode cX5_hooks 156 = .ok (.iconst 0, 1) := dk_3 (dk_at dksX5_hooks_6 19 rfl rfl)
theorem dX5_hooks_157 : decode cX5_hooks 157 = .ok (.iaload, 1) := dk_46 (dk_at dksX5_hooks_6 20 rfl rfl)
theorem dX5_hooks_158 : decode cX5_hooks 158 = .ok (.imul, 1) := dk_104 (dk_at dksX5_hooks_6 21 rfl rfl)
theorem dX5_hooks_159 : decode cX5_hooks 159 = .ok (.invokestatic 350, 3) := dk_184 1 94 (dk_at dksX5_hooks_7 0 rfl rfl)
theorem dX5_hooks_162 : decode cX5_hooks 162 = .ok (.iastore, 1) := dk_79 (dk_at dksX5_hooks_7 3 rfl rfl)
theorem dX5_hooks_163 : decode cX5_hooks 163 = .ok (.aload_n 0, 1) := dk_42 (dk_at dksX5_hooks_7 4 rfl rfl)
theorem dX5_hooks_164 : decode cX5_hooks 164 = .ok (.getfield 74, 3) := dk_180 0 74 (dk_at dksX5_hooks_7 5 rfl rfl)
theorem dX5_hooks_167 : decode cX5_hooks 167 = .ok (.aload_n 0, 1) := dk_42 (dk_at dksX5_hooks_7 8 rfl rfl)
theorem dX5_hooks_168 : decode cX5_hooks 168 = .ok (.getfield 71, 3) := dk_180 0 71 (dk_at dksX5_hooks_7 9 rfl rfl)
theorem dX5_hooks_171 : decode cX5_hooks 171 = .ok (.iconst 4, 1) := dk_7 (dk_at dksX5_hooks_7 12 rfl rfl)
theorem dX5_hooks_172 : decode cX5_hooks 172 = .ok (.invokestatic 86, 3) := dk_184 0 86 (dk_at dksX5_hooks_7 13 rfl rfl)
theorem dX5_hooks_175 : decode cX5_hooks 175 = .ok (.iinc 4 1, 3) := dk_132 4 1 (dk_at dksX5_hooks_7 16 rfl rfl)
theorem dX5_hooks_178 : decode cX5_hooks 178 = .ok (.goto (-122), 3) := dk_167 255 134 (dk_at dksX5_hooks_7 19 rfl rfl)
theorem dX5_hooks_181 : decode cX5_hooks 181 = .ok (.aload_n 0, 1) := dk_42 (dk_at dksX5_hooks_7 22 rfl rfl)
theorem dX5_hooks_182 : decode cX5_hooks 182 = .ok (.getfield 71, 3) := dk_180 0 71 (dk_at dksX5_hooks_8 0 rfl rfl)
theorem dX5_hooks_185 : decode cX5_hooks 185 = .ok (.iconst 0, 1) := dk_3 (dk_at dksX5_hooks_8 3 rfl rfl)
theorem dX5_hooks_186 : decode cX5_hooks 186 = .ok (.iaload, 1) := dk_46 (dk_at dksX5_hooks_8 4 rfl rfl)
theorem dX5_hooks_187 : decode cX5_hooks 187 = .ok (.ireturn, 1) := dk_172 (dk_at dksX5_hooks_8 5 rfl rfl)
abbrev cX5_apart : ByteArray := prog_17_method_118_code
def yX5_apart : MethodName := ⟨RX5, "apart", "(I)I"⟩
def dkwX5_apart_7 : List UInt8 := [167, 255, 213, 29, 172]
abbrev dktX5_apart_7 : List UInt8 := dkwX5_apart_7 ++ []
def dkwX5_apart_6 : List UInt8 := [162, 0, 18, 42, 180, 0, 77, 16, 11, 21, 4, 184, 0, 108, 46, 167, 0, 4, 29, 62, 132, 4, 1]
abbrev dktX5_apart_6 : List UInt8 := dkwX5_apart_6 ++ dktX5_apart_7
def dkwX5_apart_5 : List UInt8 := [54, 4, 21, 4, 16, 12, 162, 0, 42, 42, 180, 0, 77, 16, 11, 21, 4, 184, 0, 108, 46, 29]
abbrev dktX5_apart_5 : List UInt8 := dkwX5_apart_5 ++ dktX5_apart_6
def dkwX5_apart_4 : List UInt8 := [180, 0, 77, 29, 21, 4, 79, 4, 61, 132, 3, 1, 167, 255, 199, 167, 255, 188, 17, 39, 15, 62, 3]
abbrev dktX5_apart_4 : List UInt8 := dkwX5_apart_4 ++ dktX5_apart_5
def dkwX5_apart_3 : List UInt8 := [167, 0, 4, 4, 96, 54, 4, 21, 4, 42, 180, 0, 77, 29, 46, 161, 0, 6, 167, 0, 13, 42]
abbrev dktX5_apart_3 : List UInt8 := dkwX5_apart_3 ++ dktX5_apart_4
def dkwX5_apart_2 : List UInt8 := [17, 0, 144, 162, 0, 56, 42, 29, 182, 1, 140, 42, 180, 0, 9, 29, 46, 4, 160, 0, 7, 3]
abbrev dktX5_apart_2 : List UInt8 := dkwX5_apart_2 ++ dktX5_apart_3
def dkwX5_apart_1 : List UInt8 := [28, 17, 39, 15, 79, 132, 2, 1, 167, 255, 237, 4, 61, 28, 153, 0, 70, 3, 61, 3, 62, 29]
abbrev dktX5_apart_1 : List UInt8 := dkwX5_apart_1 ++ dktX5_apart_2
def dkwX5_apart_0 : List UInt8 := [27, 3, 4, 184, 0, 100, 154, 0, 5, 2, 172, 3, 61, 28, 17, 0, 144, 162, 0, 18, 42, 180, 0, 77]
abbrev dktX5_apart_0 : List UInt8 := dkwX5_apart_0 ++ dktX5_apart_1
theorem dksX5_apart_0 : cX5_apart.data.toList.drop 0 = dktX5_apart_0 := by decide +kernel
theorem dksX5_apart_1 : cX5_apart.data.toList.drop 24 = dktX5_apart_1 := dk_seg dksX5_apart_0 24 rfl rfl
theorem dksX5_apart_2 : cX5_apart.data.toList.drop 46 = dktX5_apart_2 := dk_seg dksX5_apart_1 22 rfl rfl
theorem dksX5_apart_3 : cX5_apart.data.toList.drop 68 = dktX5_apart_3 := dk_seg dksX5_apart_2 22 rfl rfl
theorem dksX5_apart_4 : cX5_apart.data.toList.drop 90 = dktX5_apart_4 := dk_seg dksX5_apart_3 22 rfl rfl
theorem dksX5_apart_5 : cX5_apart.data.toList.drop 113 = dktX5_apart_5 := dk_seg dksX5_apart_4 23 rfl rfl
theorem dksX5_apart_6 : cX5_apart.data.toList.drop 135 = dktX5_apart_6 := dk_seg dksX5_apart_5 22 rfl rfl
theorem dksX5_apart_7 : cX5_apart.data.toList.drop 158 = dktX5_apart_7 := dk_seg dksX5_apart_6 23 rfl rfl
theorem dX5_apart_0 : decode cX5_apart 0 = .ok (.iload_n 1, 1) := dk_27 (dk_at dksX5_apart_0 0 rfl rfl)
theorem dX5_apart_1 : decode cX5_apart 1 = .ok (.iconst 0, 1) := dk_3 (dk_at dksX5_apart_0 1 rfl rfl)
theorem dX5_apart_2 : decode cX5_apart 2 = .ok (.iconst 1, 1) := dk_4 (dk_at dksX5_apart_0 2 rfl rfl)
theorem dX5_apart_3 : decode cX5_apart 3 = .ok (.invokestatic 100, 3) := dk_184 0 100 (dk_at dksX5_apart_0 3 rfl rfl)
theorem dX5_apart_6 : decode cX5_apart 6 = .ok (.ifCond .ne 5, 3) := dk_154 0 5 (dk_at dksX5_apart_0 6 rfl rfl)
theorem dX5_apart_9 : decode cX5_apart 9 = .ok (.iconst (-1), 1) := dk_2 (dk_at dksX5_apart_0 9 rfl rfl)
theorem dX5_apart_10 : decode cX5_apart 10 = .ok (.ireturn, 1) := dk_172 (dk_at dksX5_apart_0 10 rfl rfl)
theorem dX5_apart_11 : decode cX5_apart 11 = .ok (.iconst 0, 1) := dk_3 (dk_at dksX5_apart_0 11 rfl rfl)
theorem dX5_apart_12 : decode cX5_apart 12 = .ok (.istore_n 2, 1) := dk_61 (dk_at dksX5_apart_0 12 rfl rfl)
theorem dX5_apart_13 : decode cX5_apart 13 = .ok (.iload_n 2, 1) := dk_28 (dk_at dksX5_apart_0 13 rfl rfl)
theorem dX5_apart_14 : decode cX5_apart 14 = .ok (.sipush 144, 3) := dk_17 0 144 (dk_at dksX5_apart_0 14 rfl rfl)
theorem dX5_apart_17 : decode cX5_apart 17 = .ok (.if_icmp .ge 18, 3) := dk_162 0 18 (dk_at dksX5_apart_0 17 rfl rfl)
theorem dX5_apart_20 : decode cX5_apart 20 = .ok (.aload_n 0, 1) := dk_42 (dk_at dksX5_apart_0 20 rfl rfl)
theorem dX5_apart_21 : decode cX5_apart 21 = .ok (.getfield 77, 3) := dk_180 0 77 (dk_at dksX5_apart_0 21 rfl rfl)
theorem dX5_apart_24 : decode cX5_apart 24 = .ok (.iload_n 2, 1) := dk_28 (dk_at dksX5_apart_1 0 rfl rfl)
theorem dX5_apart_25 : decode cX5_apart 25 = .ok (.sipush 9999, 3) := dk_17 39 15 (dk_at dksX5_apart_1 1 rfl rfl)
theorem dX5_apart_28 : decode cX5_apart 28 = .ok (.iastore, 1) := dk_79 (dk_at dksX5_apart_1 4 rfl rfl)
theorem dX5_apart_29 : decode cX5_apart 29 = .ok (.iinc 2 1, 3) := dk_132 2 1 (dk_at dksX5_apart_1 5 rfl rfl)
theorem dX5_apart_32 : decode cX5_apart 32 = .ok (.goto (-19), 3) := dk_167 255 237 (dk_at dksX5_apart_1 8 rfl rfl)
theorem dX5_apart_35 : decode cX5_apart 35 = .ok (.iconst 1, 1) := dk_4 (dk_at dksX5_apart_1 11 rfl rfl)
theorem dX5_apart_36 : decode cX5_apart 36 = .ok (.istore_n 2, 1) := dk_61 (dk_at dksX5_apart_1 12 rfl rfl)
theorem dX5_apart_37 : decode cX5_apart 37 = .ok (.iload_n 2, 1) := dk_28 (dk_at dksX5_apart_1 13 rfl rfl)
theorem dX5_apart_38 : decode cX5_apart 38 = .ok (.ifCond .eq 70, 3) := dk_153 0 70 (dk_at dksX5_apart_1 14 rfl rfl)
theorem dX5_apart_41 : decode cX5_apart 41 = .ok (.iconst 0, 1) := dk_3 (dk_at dksX5_apart_1 17 rfl rfl)
theorem dX5_apart_42 : decode cX5_apart 42 = .ok (.istore_n 2, 1) := dk_61 (dk_at dksX5_apart_1 18 rfl rfl)
theorem dX5_apart_43 : decode cX5_apart 43 = .ok (.iconst 0, 1) := dk_3 (dk_at dksX5_apart_1 19 rfl rfl)
theorem dX5_apart_44 : decode cX5_apart 44 = .ok (.istore_n 3, 1) := dk_62 (dk_at dksX5_apart_1 20 rfl rfl)
theorem dX5_apart_45 : decode cX5_apart 45 = .ok (.iload_n 3, 1) := dk_29 (dk_at dksX5_apart_1 21 rfl rfl)
theorem dX5_apart_46 : decode cX5_apart 46 = .ok (.sipush 144, 3) := dk_17 0 144 (dk_at dksX5_apart_2 0 rfl rfl)
theorem dX5_apart_49 : decode cX5_apart 49 = .ok (.if_icmp .ge 56, 3) := dk_162 0 56 (dk_at dksX5_apart_2 3 rfl rfl)
theorem dX5_apart_52 : decode cX5_apart 52 = .ok (.aload_n 0, 1) := dk_42 (dk_at dksX5_apart_2 6 rfl rfl)
theorem dX5_apart_53 : decode cX5_apart 53 = .ok (.iload_n 3, 1) := dk_29 (dk_at dksX5_apart_2 7 rfl rfl)
theorem dX5_apart_54 : decode cX5_apart 54 = .ok (.invokevirtual 396, 3) := dk_182 1 140 (dk_at dksX5_apart_2 8 rfl rfl)
theorem dX5_apart_57 : decode cX5_apart 57 = .ok (.aload_n 0, 1) := dk_42 (dk_at dksX5_apart_2 11 rfl rfl)
theorem dX5_apart_58 : decode cX5_apart 58 = .ok (.getfield 9, 3) := dk_180 0 9 (dk_at dksX5_apart_2 12 rfl rfl)
theorem dX5_apart_61 : decode cX5_apart 61 = .ok (.iload_n 3, 1) := dk_29 (dk_at dksX5_apart_2 15 rfl rfl)
theorem dX5_apart_62 : decode cX5_apart 62 = .ok (.iaload, 1) := dk_46 (dk_at dksX5_apart_2 16 rfl rfl)
theorem dX5_apart_63 : decode cX5_apart 63 = .ok (.iconst 1, 1) := dk_4 (dk_at dksX5_apart_2 17 rfl rfl)
theorem dX5_apart_64 : decode cX5_apart 64 = .ok (.if_icmp .ne 7, 3) := dk_160 0 7 (dk_at dksX5_apart_2 18 rfl rfl)
theorem dX5_apart_67 : decode cX5_apart 67 = .ok (.iconst 0, 1) := dk_3 (dk_at dksX5_apart_2 21 rfl rfl)
theorem dX5_apart_68 : decode cX5_apart 68 = .ok (.goto 4, 3) := dk_167 0 4 (dk_at dksX5_apart_3 0 rfl rfl)
theorem dX5_apart_71 : decode cX5_apart 71 = .ok (.iconst 1, 1) := dk_4 (dk_at dksX5_apart_3 3 rfl rfl)
theorem dX5_apart_72 : decode cX5_apart 72 = .ok (.iadd, 1) := dk_96 (dk_at dksX5_apart_3 4 rfl rfl)
theorem dX5_apart_73 : decode cX5_apart 73 = .ok (.istore 4, 2) := dk_54 4 (dk_at dksX5_apart_3 5 rfl rfl)
theorem dX5_apart_75 : decode cX5_apart 75 = .ok (.iload 4, 2) := dk_21 4 (dk_at dksX5_apart_3 7 rfl rfl)
theorem dX5_apart_77 : decode cX5_apart 77 = .ok (.aload_n 0, 1) := dk_42 (dk_at dksX5_apart_3 9 rfl rfl)
theorem dX5_apart_78 : decode cX5_apart 78 = .ok (.getfield 77, 3) := dk_180 0 77 (dk_at dksX5_apart_3 10 rfl rfl)
theorem dX5_apart_81 : decode cX5_apart 81 = .ok (.iload_n 3, 1) := dk_29 (dk_at dksX5_apart_3 13 rfl rfl)
theorem dX5_apart_82 : decode cX5_apart 82 = .ok (.iaload, 1) := dk_46 (dk_at dksX5_apart_3 14 rfl rfl)
theorem dX5_apart_83 : decode cX5_apart 83 = .ok (.if_icmp .lt 6, 3) := dk_161 0 6 (dk_at dksX5_apart_3 15 rfl rfl)
theorem dX5_apart_86 : decode cX5_apart 86 = .ok (.goto 13, 3) := dk_167 0 13 (dk_at dksX5_apart_3 18 rfl rfl)
theorem dX5_apart_89 : decode cX5_apart 89 = .ok (.aload_n 0, 1) := dk_42 (dk_at dksX5_apart_3 21 rfl rfl)
theorem dX5_apart_90 : decode cX5_apart 90 = .ok (.getfield 77, 3) := dk_180 0 77 (dk_at dksX5_apart_4 0 rfl rfl)
theorem dX5_apart_93 : decode cX5_apart 93 = .ok (.iload_n 3, 1) := dk_29 (dk_at dksX5_apart_4 3 rfl rfl)
theorem dX5_apart_94 : decode cX5_apart 94 = .ok (.iload 4, 2) := dk_21 4 (dk_at dksX5_apart_4 4 rfl rfl)
theorem dX5_apart_96 : decode cX5_apart 96 = .ok (.iastore, 1) := dk_79 (dk_at dksX5_apart_4 6 rfl rfl)
theorem dX5_apart_97 : decode cX5_apart 97 = .ok (.iconst 1, 1) := dk_4 (dk_at dksX5_apart_4 7 rfl rfl)
theorem dX5_apart_98 : decode cX5_apart 98 = .ok (.istore_n 2, 1) := dk_61 (dk_at dksX5_apart_4 8 rfl rfl)
theorem dX5_apart_99 : decode cX5_apart 99 = .ok (.iinc 3 1, 3) := dk_132 3 1 (dk_at dksX5_apart_4 9 rfl rfl)
theorem dX5_apart_102 : decode cX5_apart 102 = .ok (.goto (-57), 3) := dk_167 255 199 (dk_at dksX5_apart_4 12 rfl rfl)
theorem dX5_apart_105 : decode cX5_apart 105 = .ok (.goto (-68), 3) := dk_167 255 188 (dk_at dksX5_apart_4 15 rfl rfl)
theorem dX5_apart_108 : decode cX5_apart 108 = .ok (.sipush 9999, 3) := dk_17 39 15 (dk_at dksX5_apart_4 18 rfl rfl)
theorem dX5_apart_111 : decode cX5_apart 111 = .ok (.istore_n 3, 1) := dk_62 (dk_at dksX5_apart_4 21 rfl rfl)
theorem dX5_apart_112 : decode cX5_apart 112 = .ok (.iconst 0, 1) := dk_3 (dk_at dksX5_apart_4 22 rfl rfl)
theorem dX5_apart_113 : decode cX5_apart 113 = .ok (.istore 4, 2) := dk_54 4 (dk_at dksX5_apart_5 0 rfl rfl)
theorem dX5_apart_115 : decode cX5_apart 115 = .ok (.iload 4, 2) := dk_21 4 (dk_at dksX5_apart_5 2 rfl rfl)
theorem dX5_apart_117 : decode cX5_apart 117 = .ok (.bipush 12, 2) := dk_16 12 (dk_at dksX5_apart_5 4 rfl rfl)
theorem dX5_apart_119 : decode cX5_apart 119 = .ok (.if_icmp .ge 42, 3) := dk_162 0 42 (dk_at dksX5_apart_5 6 rfl rfl)
theorem dX5_apart_122 : decode cX5_apart 122 = .ok (.aload_n 0, 1) := dk_42 (dk_at dksX5_apart_5 9 rfl rfl)
theorem dX5_apart_123 : decode cX5_apart 123 = .ok (.getfield 77, 3) := dk_180 0 77 (dk_at dksX5_apart_5 10 rfl rfl)
theorem dX5_apart_126 : decode cX5_apart 126 = .ok (.bipush 11, 2) := dk_16 11 (dk_at dksX5_apart_5 13 rfl rfl)
theorem dX5_apart_128 : decode cX5_apart 128 = .ok (.iload 4, 2) := dk_21 4 (dk_at dksX5_apart_5 15 rfl rfl)
theorem dX5_apart_130 : decode cX5_apart 130 = .ok (.invokestatic 108, 3) := dk_184 0 108 (dk_at dksX5_apart_5 17 rfl rfl)
theorem dX5_apart_133 : decode cX5_apart 133 = .ok (.iaload, 1) := dk_46 (dk_at dksX5_apart_5 20 rfl rfl)
theorem dX5_apart_134 : decode cX5_apart 134 = .ok (.iload_n 3, 1) := dk_29 (dk_at dksX5_apart_5 21 rfl rfl)
theorem dX5_apart_135 : decode cX5_apart 135 = .ok (.if_icmp .ge 18, 3) := dk_162 0 18 (dk_at dksX5_apart_6 0 rfl rfl)
theorem dX5_apart_138 : decode cX5_apart 138 = .ok (.aload_n 0, 1) := dk_42 (dk_at dksX5_apart_6 3 rfl rfl)
theorem dX5_apart_139 : decode cX5_apart 139 = .ok (.getfield 77, 3) := dk_180 0 77 (dk_at dksX5_apart_6 4 rfl rfl)
theorem dX5_apart_142 : decode cX5_apart 142 = .ok (.bipush 11, 2) := dk_16 11 (dk_at dksX5_apart_6 7 rfl rfl)
theorem dX5_apart_144 : decode cX5_apart 144 = .ok (.iload 4, 2) := dk_21 4 (dk_at dksX5_apart_6 9 rfl rfl)
theorem dX5_apart_146 : decode cX5_apart 146 = .ok (.invokestatic 108, 3) := dk_184 0 108 (dk_at dksX5_apart_6 11 rfl rfl)
theorem dX5_apart_149 : decode cX5_apart 149 = .ok (.iaload, 1) := dk_46 (dk_at dksX5_apart_6 14 rfl rfl)
theorem dX5_apart_150 : decode cX5_apart 150 = .ok (.goto 4, 3) := dk_167 0 4 (dk_at dksX5_apart_6 15 rfl rfl)
theorem dX5_apart_153 : decode cX5_apart 153 = .ok (.iload_n 3, 1) := dk_29 (dk_at dksX5_apart_6 18 rfl rfl)
theorem dX5_apart_154 : decode cX5_apart 154 = .ok (.istore_n 3, 1) := dk_62 (dk_at dksX5_apart_6 19 rfl rfl)
theorem dX5_apart_155 : decode cX5_apart 155 = .ok (.iinc 4 1, 3) := dk_132 4 1 (dk_at dksX5_apart_6 20 rfl rfl)
theorem dX5_apart_158 : decode cX5_apart 158 = .ok (.goto (-43), 3) := dk_167 255 213 (dk_at dksX5_apart_7 0 rfl rfl)
theorem dX5_apart_161 : decode cX5_apart 161 = .ok (.iload_n 3, 1) := dk_29 (dk_at dksX5_apart_7 3 rfl rfl)
theorem dX5_apart_162 : decode cX5_apart 162 = .ok (.ireturn, 1) := dk_172 (dk_at dksX5_apart_7 4 rfl rfl)
abbrev cX5_besides : ByteArray := prog_17_method_117_code
def yX5_besides : MethodName := ⟨RX5, "besides", "(I)I"⟩
def dkwX5_besides_3 : List UInt8 := [162, 0, 16, 42, 180, 0, 77, 21, 4, 21, 5, 184, 0, 108, 46, 61, 132, 3, 1, 167, 255, 184, 28, 172]
abbrev dktX5_besides_3 : List UInt8 := dkwX5_besides_3 ++ []
def dkwX5_besides_2 : List UInt8 := [21, 4, 21, 5, 184, 1, 35, 153, 0, 32, 42, 180, 0, 77, 21, 4, 21, 5, 184, 0, 108, 46, 28]
abbrev dktX5_besides_2 : List UInt8 := dkwX5_besides_2 ++ dktX5_besides_3
def dkwX5_besides_1 : List UInt8 := [16, 12, 112, 29, 6, 112, 96, 4, 100, 54, 4, 27, 16, 12, 108, 29, 6, 108, 96, 4, 100, 54, 5]
abbrev dktX5_besides_1 : List UInt8 := dkwX5_besides_1 ++ dktX5_besides_2
def dkwX5_besides_0 : List UInt8 := [27, 16, 12, 112, 154, 0, 7, 3, 167, 0, 6, 17, 39, 15, 61, 3, 62, 29, 16, 9, 162, 0, 72, 27]
abbrev dktX5_besides_0 : List UInt8 := dkwX5_besides_0 ++ dktX5_besides_1
theorem dksX5_besides_0 : cX5_besides.data.toList.drop 0 = dktX5_besides_0 := by decide +kernel
theorem dksX5_besides_1 : cX5_besides.data.toList.drop 24 = dktX5_besides_1 := dk_seg dksX5_besides_0 24 rfl rfl
theorem dksX5_besides_2 : cX5_besides.data.toList.drop 47 = dktX5_besides_2 := dk_seg dksX5_besides_1 23 rfl rfl
theorem dksX5_besides_3 : cX5_besides.data.toList.drop 70 = dktX5_besides_3 := dk_seg dksX5_besides_2 23 rfl rfl
theorem dX5_besides_0 : decode cX5_besides 0 = .ok (.iload_n 1, 1) := dk_27 (dk_at dksX5_besides_0 0 rfl rfl)
theorem dX5_besides_1 : decode cX5_besides 1 = .ok (.bipush 12, 2) := dk_16 12 (dk_at dksX5_besides_0 1 rfl rfl)
theorem dX5_besides_3 : decode cX5_besides 3 = .ok (.irem, 1) := dk_112 (dk_at dksX5_besides_0 3 rfl rfl)
theorem dX5_besides_4 : decode cX5_besides 4 = .ok (.ifCond .ne 7, 3) := dk_154 0 7 (dk_at dksX5_besides_0 4 rfl rfl)
theorem dX5_besides_7 : decode cX5_besides 7 = .ok (.iconst 0, 1) := dk_3 (dk_at dksX5_besides_0 7 rfl rfl)
theorem dX5_besides_8 : decode cX5_besides 8 = .ok (.goto 6, 3) := dk_167 0 6 (dk_at dksX5_besides_0 8 rfl rfl)
theorem dX5_besides_11 : decode cX5_besides 11 = .ok (.sipush 9999, 3) := dk_17 39 15 (dk_at dksX5_besides_0 11 rfl rfl)
theorem dX5_besides_14 : decode cX5_besides 14 = .ok (.istore_n 2, 1) := dk_61 (dk_at dksX5_besides_0 14 rfl rfl)
theorem dX5_besides_15 : decode cX5_besides 15 = .ok (.iconst 0, 1) := dk_3 (dk_at dksX5_besides_0 15 rfl rfl)
theorem dX5_besides_16 : decode cX5_besides 16 = .ok (.istore_n 3, 1) := dk_62 (dk_at dksX5_besides_0 16 rfl rfl)
theorem dX5_besides_17 : decode cX5_besides 17 = .ok (.iload_n 3, 1) := dk_29 (dk_at dksX5_besides_0 17 rfl rfl)
theorem dX5_besides_18 : decode cX5_besides 18 = .ok (.bipush 9, 2) := dk_16 9 (dk_at dksX5_besides_0 18 rfl rfl)
theorem dX5_besides_20 : decode cX5_besides 20 = .ok (.if_icmp .ge 72, 3) := dk_162 0 72 (dk_at dksX5_besides_0 20 rfl rfl)
theorem dX5_besides_23 : decode cX5_besides 23 = .ok (.iload_n 1, 1) := dk_27 (dk_at dksX5_besides_0 23 rfl rfl)
theorem dX5_besides_24 : decode cX5_besides 24 = .ok (.bipush 12, 2) := dk_16 12 (dk_at dksX5_besides_1 0 rfl rfl)
theorem dX5_besides_26 : decode cX5_besides 26 = .ok (.irem, 1) := dk_112 (dk_at dksX5_besides_1 2 rfl rfl)
theorem dX5_besides_27 : decode cX5_besides 27 = .ok (.iload_n 3, 1) := dk_29 (dk_at dksX5_besides_1 3 rfl rfl)
theorem dX5_besides_28 : decode cX5_besides 28 = .ok (.iconst 3, 1) := dk_6 (dk_at dksX5_besides_1 4 rfl rfl)
theorem dX5_besides_29 : decode cX5_besides 29 = .ok (.irem, 1) := dk_112 (dk_at dksX5_besides_1 5 rfl rfl)
theorem dX5_besides_30 : decode cX5_besides 30 = .ok (.iadd, 1) := dk_96 (dk_at dksX5_besides_1 6 rfl rfl)
theorem dX5_besides_31 : decode cX5_besides 31 = .ok (.iconst 1, 1) := dk_4 (dk_at dksX5_besides_1 7 rfl rfl)
theorem dX5_besides_32 : decode cX5_besides 32 = .ok (.isub, 1) := dk_100 (dk_at dksX5_besides_1 8 rfl rfl)
theorem dX5_besides_33 : decode cX5_besides 33 = .ok (.istore 4, 2) := dk_54 4 (dk_at dksX5_besides_1 9 rfl rfl)
theorem dX5_besides_35 : decode cX5_besides 35 = .ok (.iload_n 1, 1) := dk_27 (dk_at dksX5_besides_1 11 rfl rfl)
theorem dX5_besides_36 : decode cX5_besides 36 = .ok (.bipush 12, 2) := dk_16 12 (dk_at dksX5_besides_1 12 rfl rfl)
theorem dX5_besides_38 : decode cX5_besides 38 = .ok (.idiv, 1) := dk_108 (dk_at dksX5_besides_1 14 rfl rfl)
theorem dX5_besides_39 : decode cX5_besides 39 = .ok (.iload_n 3, 1) := dk_29 (dk_at dksX5_besides_1 15 rfl rfl)
theorem dX5_besides_40 : decode cX5_besides 40 = .ok (.iconst 3, 1) := dk_6 (dk_at dksX5_besides_1 16 rfl rfl)
theorem dX5_besides_41 : decode cX5_besides 41 = .ok (.idiv, 1) := dk_108 (dk_at dksX5_besides_1 17 rfl rfl)
theorem dX5_besides_42 : decode cX5_besides 42 = .ok (.iadd, 1) := dk_96 (dk_at dksX5_besides_1 18 rfl rfl)
theorem dX5_besides_43 : decode cX5_besides 43 = .ok (.iconst 1, 1) := dk_4 (dk_at dksX5_besides_1 19 rfl rfl)
theorem dX5_besides_44 : decode cX5_besides 44 = .ok (.isub, 1) := dk_100 (dk_at dksX5_besides_1 20 rfl rfl)
theorem dX5_besides_45 : decode cX5_besides 45 = .ok (.istore 5, 2) := dk_54 5 (dk_at dksX5_besides_1 21 rfl rfl)
theorem dX5_besides_47 : decode cX5_besides 47 = .ok (.iload 4, 2) := dk_21 4 (dk_at dksX5_besides_2 0 rfl rfl)
theorem dX5_besides_49 : decode cX5_besides 49 = .ok (.iload 5, 2) := dk_21 5 (dk_at dksX5_besides_2 2 rfl rfl)
theorem dX5_besides_51 : decode cX5_besides 51 = .ok (.invokestatic 291, 3) := dk_184 1 35 (dk_at dksX5_besides_2 4 rfl rfl)
theorem dX5_besides_54 : decode cX5_besides 54 = .ok (.ifCond .eq 32, 3) := dk_153 0 32 (dk_at dksX5_besides_2 7 rfl rfl)
theorem dX5_besides_57 : decode cX5_besides 57 = .ok (.aload_n 0, 1) := dk_42 (dk_at dksX5_besides_2 10 rfl rfl)
theorem dX5_besides_58 : decode cX5_besides 58 = .ok (.getfield 77, 3) := dk_180 0 77 (dk_at dksX5_besides_2 11 rfl rfl)
theorem dX5_besides_61 : decode cX5_besides 61 = .ok (.iload 4, 2) := dk_21 4 (dk_at dksX5_besides_2 14 rfl rfl)
theorem dX5_besides_63 : decode cX5_besides 63 = .ok (.iload 5, 2) := dk_21 5 (dk_at dksX5_besides_2 16 rfl rfl)
theorem dX5_besides_65 : decode cX5_besides 65 = .ok (.invokestatic 108, 3) := dk_184 0 108 (dk_at dksX5_besides_2 18 rfl rfl)
theorem dX5_besides_68 : decode cX5_besides 68 = .ok (.iaload, 1) := dk_46 (dk_at dksX5_besides_2 21 rfl rfl)
theorem dX5_besides_69 : decode cX5_besides 69 = .ok (.iload_n 2, 1) := dk_28 (dk_at dksX5_besides_2 22 rfl rfl)
theorem dX5_besides_70 : decode cX5_besides 70 = .ok (.if_icmp .ge 16, 3) := dk_162 0 16 (dk_at dksX5_besides_3 0 rfl rfl)
theorem dX5_besides_73 : decode cX5_besides 73 = .ok (.aload_n 0, 1) := dk_42 (dk_at dksX5_besides_3 3 rfl rfl)
theorem dX5_besides_74 : decode cX5_besides 74 = .ok (.getfield 77, 3) := dk_180 0 77 (dk_at dksX5_besides_3 4 rfl rfl)
theorem dX5_besides_77 : decode cX5_besides 77 = .ok (.iload 4, 2) := dk_21 4 (dk_at dksX5_besides_3 7 rfl rfl)
theorem dX5_besides_79 : decode cX5_besides 79 = .ok (.iload 5, 2) := dk_21 5 (dk_at dksX5_besides_3 9 rfl rfl)
theorem dX5_besides_81 : decode cX5_besides 81 = .ok (.invokestatic 108, 3) := dk_184 0 108 (dk_at dksX5_besides_3 11 rfl rfl)
theorem dX5_besides_84 : decode cX5_besides 84 = .ok (.iaload, 1) := dk_46 (dk_at dksX5_besides_3 14 rfl rfl)
theorem dX5_besides_85 : decode cX5_besides 85 = .ok (.istore_n 2, 1) := dk_61 (dk_at dksX5_besides_3 15 rfl rfl)
theorem dX5_besides_86 : decode cX5_besides 86 = .ok (.iinc 3 1, 3) := dk_132 3 1 (dk_at dksX5_besides_3 16 rfl rfl)
theorem dX5_besides_89 : decode cX5_besides 89 = .ok (.goto (-72), 3) := dk_167 255 184 (dk_at dksX5_besides_3 19 rfl rfl)
theorem dX5_besides_92 : decode cX5_besides 92 = .ok (.iload_n 2, 1) := dk_28 (dk_at dksX5_besides_3 22 rfl rfl)
theorem dX5_besides_93 : decode cX5_besides 93 = .ok (.ireturn, 1) := dk_172 (dk_at dksX5_besides_3 23 rfl rfl)
abbrev cX5_pigeons : ByteArray := prog_17_method_121_code
def yX5_pigeons : MethodName := ⟨RX5, "pigeons", "(I)I"⟩
def dkwX5_pigeons_6 : List UInt8 := [167, 255, 143, 27, 154, 0, 7, 28, 167, 0, 14, 27, 4, 160, 0, 7, 29, 167, 0, 5, 21, 4, 172]
abbrev dktX5_pigeons_6 : List UInt8 := dkwX5_pigeons_6 ++ []
def dkwX5_pigeons_5 : List UInt8 := [21, 4, 42, 21, 5, 182, 1, 146, 4, 160, 0, 7, 4, 167, 0, 4, 3, 96, 54, 4, 132, 5, 1]
abbrev dktX5_pigeons_5 : List UInt8 := dkwX5_pigeons_5 ++ dktX5_pigeons_6
def dkwX5_pigeons_4 : List UInt8 := [158, 0, 7, 4, 167, 0, 4, 3, 96, 61, 21, 6, 29, 164, 0, 8, 21, 6, 167, 0, 4, 29, 62]
abbrev dktX5_pigeons_4 : List UInt8 := dkwX5_pigeons_4 ++ dktX5_pigeons_5
def dkwX5_pigeons_3 : List UInt8 := [21, 5, 160, 0, 7, 4, 167, 0, 4, 3, 96, 54, 6, 132, 7, 1, 167, 255, 223, 28, 21, 6]
abbrev dktX5_pigeons_3 : List UInt8 := dkwX5_pigeons_3 ++ dktX5_pigeons_4
def dkwX5_pigeons_2 : List UInt8 := [3, 54, 6, 3, 54, 7, 21, 7, 17, 0, 144, 162, 0, 31, 21, 6, 42, 180, 0, 80, 21, 7, 46]
abbrev dktX5_pigeons_2 : List UInt8 := dkwX5_pigeons_2 ++ dktX5_pigeons_3
def dkwX5_pigeons_1 : List UInt8 := [54, 5, 21, 5, 17, 0, 144, 162, 0, 111, 42, 180, 0, 80, 21, 5, 46, 2, 160, 0, 6, 167, 0, 91]
abbrev dktX5_pigeons_1 : List UInt8 := dkwX5_pigeons_1 ++ dktX5_pigeons_2
def dkwX5_pigeons_0 : List UInt8 := [27, 3, 5, 184, 0, 100, 154, 0, 5, 2, 172, 42, 182, 1, 143, 3, 61, 3, 62, 3, 54, 4, 3]
abbrev dktX5_pigeons_0 : List UInt8 := dkwX5_pigeons_0 ++ dktX5_pigeons_1
theorem dksX5_pigeons_0 : cX5_pigeons.data.toList.drop 0 = dktX5_pigeons_0 := by decide +kernel
theorem dksX5_pigeons_1 : cX5_pigeons.data.toList.drop 23 = dktX5_pigeons_1 := dk_seg dksX5_pigeons_0 23 rfl rfl
theorem dksX5_pigeons_2 : cX5_pigeons.data.toList.drop 47 = dktX5_pigeons_2 := dk_seg dksX5_pigeons_1 24 rfl rfl
theorem dksX5_pigeons_3 : cX5_pigeons.data.toList.drop 70 = dktX5_pigeons_3 := dk_seg dksX5_pigeons_2 23 rfl rfl
theorem dksX5_pigeons_4 : cX5_pigeons.data.toList.drop 92 = dktX5_pigeons_4 := dk_seg dksX5_pigeons_3 22 rfl rfl
theorem dksX5_pigeons_5 : cX5_pigeons.data.toList.drop 115 = dktX5_pigeons_5 := dk_seg dksX5_pigeons_4 23 rfl rfl
theorem dksX5_pigeons_6 : cX5_pigeons.data.toList.drop 138 = dktX5_pigeons_6 := dk_seg dksX5_pigeons_5 23 rfl rfl
theorem dX5_pigeons_0 : decode cX5_pigeons 0 = .ok (.iload_n 1, 1) := dk_27 (dk_at dksX5_pigeons_0 0 rfl rfl)
theorem dX5_pigeons_1 : decode cX5_pigeons 1 = .ok (.iconst 0, 1) := dk_3 (dk_at dksX5_pigeons_0 1 rfl rfl)
theorem dX5_pigeons_2 : decode cX5_pigeons 2 = .ok (.iconst 2, 1) := dk_5 (dk_at dksX5_pigeons_0 2 rfl rfl)
theorem dX5_pigeons_3 : decode cX5_pigeons 3 = .ok (.invokestatic 100, 3) := dk_184 0 100 (dk_at dksX5_pigeons_0 3 rfl rfl)
theorem dX5_pigeons_6 : decode cX5_pigeons 6 = .ok (.ifCond .ne 5, 3) := dk_154 0 5 (dk_at dksX5_pigeons_0 6 rfl rfl)
theorem dX5_pigeons_9 : decode cX5_pigeons 9 = .ok (.iconst (-1), 1) := dk_2 (dk_at dksX5_pigeons_0 9 rfl rfl)
theorem dX5_pigeons_10 : decode cX5_pigeons 10 = .ok (.ireturn, 1) := dk_172 (dk_at dksX5_pigeons_0 10 rfl rfl)
theorem dX5_pigeons_11 : decode cX5_pigeons 11 = .ok (.aload_n 0, 1) := dk_42 (dk_at dksX5_pigeons_0 11 rfl rfl)
theorem dX5_pigeons_12 : decode cX5_pigeons 12 = .ok (.invokevirtual 399, 3) := dk_182 1 143 (dk_at dksX5_pigeons_0 12 rfl rfl)
theorem dX5_pigeons_15 : decode cX5_pigeons 15 = .ok (.iconst 0, 1) := dk_3 (dk_at dksX5_pigeons_0 15 rfl rfl)
theorem dX5_pigeons_16 : decode cX5_pigeons 16 = .ok (.istore_n 2, 1) := dk_61 (dk_at dksX5_pigeons_0 16 rfl rfl)
theorem dX5_pigeons_17 : decode cX5_pigeons 17 = .ok (.iconst 0, 1) := dk_3 (dk_at dksX5_pigeons_0 17 rfl rfl)
theorem dX5_pigeons_18 : decode cX5_pigeons 18 = .ok (.istore_n 3, 1) := dk_62 (dk_at dksX5_pigeons_0 18 rfl rfl)
theorem dX5_pigeons_19 : decode cX5_pigeons 19 = .ok (.iconst 0, 1) := dk_3 (dk_at dksX5_pigeons_0 19 rfl rfl)
theorem dX5_pigeons_20 : decode cX5_pigeons 20 = .ok (.istore 4, 2) := dk_54 4 (dk_at dksX5_pigeons_0 20 rfl rfl)
theorem dX5_pigeons_22 : decode cX5_pigeons 22 = .ok (.iconst 0, 1) := dk_3 (dk_at dksX5_pigeons_0 22 rfl rfl)
theorem dX5_pigeons_23 : decode cX5_pigeons 23 = .ok (.istore 5, 2) := dk_54 5 (dk_at dksX5_pigeons_1 0 rfl rfl)
theorem dX5_pigeons_25 : decode cX5_pigeons 25 = .ok (.iload 5, 2) := dk_21 5 (dk_at dksX5_pigeons_1 2 rfl rfl)
theorem dX5_pigeons_27 : decode cX5_pigeons 27 = .ok (.sipush 144, 3) := dk_17 0 144 (dk_at dksX5_pigeons_1 4 rfl rfl)
theorem dX5_pigeons_30 : decode cX5_pigeons 30 = .ok (.if_icmp .ge 111, 3) := dk_162 0 111 (dk_at dksX5_pigeons_1 7 rfl rfl)
theorem dX5_pigeons_33 : decode cX5_pigeons 33 = .ok (.aload_n 0, 1) := dk_42 (dk_at dksX5_pigeons_1 10 rfl rfl)
theorem dX5_pigeons_34 : decode cX5_pigeons 34 = .ok (.getfield 80, 3) := dk_180 0 80 (dk_at dksX5_pigeons_1 11 rfl rfl)
theorem dX5_pigeons_37 : decode cX5_pigeons 37 = .ok (.iload 5, 2) := dk_21 5 (dk_at dksX5_pigeons_1 14 rfl rfl)
theorem dX5_pigeons_39 : decode cX5_pigeons 39 = .ok (.iaload, 1) := dk_46 (dk_at dksX5_pigeons_1 16 rfl rfl)
theorem dX5_pigeons_40 : decode cX5_pigeons 40 = .ok (.iconst (-1), 1) := dk_2 (dk_at dksX5_pigeons_1 17 rfl rfl)
theorem dX5_pigeons_41 : decode cX5_pigeons 41 = .ok (.if_icmp .ne 6, 3) := dk_160 0 6 (dk_at dksX5_pigeons_1 18 rfl rfl)
theorem dX5_pigeons_44 : decode cX5_pigeons 44 = .ok (.goto 91, 3) := dk_167 0 91 (dk_at dksX5_pigeons_1 21 rfl rfl)
theorem dX5_pigeons_47 : decode cX5_pigeons 47 = .ok (.iconst 0, 1) := dk_3 (dk_at dksX5_pigeons_2 0 rfl rfl)
theorem dX5_pigeons_48 : decode cX5_pigeons 48 = .ok (.istore 6, 2) := dk_54 6 (dk_at dksX5_pigeons_2 1 rfl rfl)
theorem dX5_pigeons_50 : decode cX5_pigeons 50 = .ok (.iconst 0, 1) := dk_3 (dk_at dksX5_pigeons_2 3 rfl rfl)
theorem dX5_pigeons_51 : decode cX5_pigeons 51 = .ok (.istore 7, 2) := dk_54 7 (dk_at dksX5_pigeons_2 4 rfl rfl)
theorem dX5_pigeons_53 : decode cX5_pigeons 53 = .ok (.iload 7, 2) := dk_21 7 (dk_at dksX5_pigeons_2 6 rfl rfl)
theorem dX5_pigeons_55 : decode cX5_pigeons 55 = .ok (.sipush 144, 3) := dk_17 0 144 (dk_at dksX5_pigeons_2 8 rfl rfl)
theorem dX5_pigeons_58 : decode cX5_pigeons 58 = .ok (.if_icmp .ge 31, 3) := dk_162 0 31 (dk_at dksX5_pigeons_2 11 rfl rfl)
theorem dX5_pigeons_61 : decode cX5_pigeons 61 = .ok (.iload 6, 2) := dk_21 6 (dk_at dksX5_pigeons_2 14 rfl rfl)
theorem dX5_pigeons_63 : decode cX5_pigeons 63 = .ok (.aload_n 0, 1) := dk_42 (dk_at dksX5_pigeons_2 16 rfl rfl)
theorem dX5_pigeons_64 : decode cX5_pigeons 64 = .ok (.getfield 80, 3) := dk_180 0 80 (dk_at dksX5_pigeons_2 17 rfl rfl)
theorem dX5_pigeons_67 : decode cX5_pigeons 67 = .ok (.iload 7, 2) := dk_21 7 (dk_at dksX5_pigeons_2 20 rfl rfl)
theorem dX5_pigeons_69 : decode cX5_pigeons 69 = .ok (.iaload, 1) := dk_46 (dk_at dksX5_pigeons_2 22 rfl rfl)
theorem dX5_pigeons_70 : decode cX5_pigeons 70 = .ok (.iload 5, 2) := dk_21 5 (dk_at dksX5_pigeons_3 0 rfl rfl)
theorem dX5_pigeons_72 : decode cX5_pigeons 72 = .ok (.if_icmp .ne 7, 3) := dk_160 0 7 (dk_at dksX5_pigeons_3 2 rfl rfl)
theorem dX5_pigeons_75 : decode cX5_pigeons 75 = .ok (.iconst 1, 1) := dk_4 (dk_at dksX5_pigeons_3 5 rfl rfl)
theorem dX5_pigeons_76 : decode cX5_pigeons 76 = .ok (.goto 4, 3) := dk_167 0 4 (dk_at dksX5_pigeons_3 6 rfl rfl)
theorem dX5_pigeons_79 : decode cX5_pigeons 79 = .ok (.iconst 0, 1) := dk_3 (dk_at dksX5_pigeons_3 9 rfl rfl)
theorem dX5_pigeons_80 : decode cX5_pigeons 80 = .ok (.iadd, 1) := dk_96 (dk_at dksX5_pigeons_3 10 rfl rfl)
theorem dX5_pigeons_81 : decode cX5_pigeons 81 = .ok (.istore 6, 2) := dk_54 6 (dk_at dksX5_pigeons_3 11 rfl rfl)
theorem dX5_pigeons_83 : decode cX5_pigeons 83 = .ok (.iinc 7 1, 3) := dk_132 7 1 (dk_at dksX5_pigeons_3 13 rfl rfl)
theorem dX5_pigeons_86 : decode cX5_pigeons 86 = .ok (.goto (-33), 3) := dk_167 255 223 (dk_at dksX5_pigeons_3 16 rfl rfl)
theorem dX5_pigeons_89 : decode cX5_pigeons 89 = .ok (.iload_n 2, 1) := dk_28 (dk_at dksX5_pigeons_3 19 rfl rfl)
theorem dX5_pigeons_90 : decode cX5_pigeons 90 = .ok (.iload 6, 2) := dk_21 6 (dk_at dksX5_pigeons_3 20 rfl rfl)
theorem dX5_pigeons_92 : decode cX5_pigeons 92 = .ok (.ifCond .le 7, 3) := dk_158 0 7 (dk_at dksX5_pigeons_4 0 rfl rfl)
theorem dX5_pigeons_95 : decode cX5_pigeons 95 = .ok (.iconst 1, 1) := dk_4 (dk_at dksX5_pigeons_4 3 rfl rfl)
theorem dX5_pigeons_96 : decode cX5_pigeons 96 = .ok (.goto 4, 3) := dk_167 0 4 (dk_at dksX5_pigeons_4 4 rfl rfl)
theorem dX5_pigeons_99 : decode cX5_pigeons 99 = .ok (.iconst 0, 1) := dk_3 (dk_at dksX5_pigeons_4 7 rfl rfl)
theorem dX5_pigeons_100 : decode cX5_pigeons 100 = .ok (.iadd, 1) := dk_96 (dk_at dksX5_pigeons_4 8 rfl rfl)
theorem dX5_pigeons_101 : decode cX5_pigeons 101 = .ok (.istore_n 2, 1) := dk_61 (dk_at dksX5_pigeons_4 9 rfl rfl)
theorem dX5_pigeons_102 : decode cX5_pigeons 102 = .ok (.iload 6, 2) := dk_21 6 (dk_at dksX5_pigeons_4 10 rfl rfl)
theorem dX5_pigeons_104 : decode cX5_pigeons 104 = .ok (.iload_n 3, 1) := dk_29 (dk_at dksX5_pigeons_4 12 rfl rfl)
theorem dX5_pigeons_105 : decode cX5_pigeons 105 = .ok (.if_icmp .le 8, 3) := dk_164 0 8 (dk_at dksX5_pigeons_4 13 rfl rfl)
theorem dX5_pigeons_108 : decode cX5_pigeons 108 = .ok (.iload 6, 2) := dk_21 6 (dk_at dksX5_pigeons_4 16 rfl rfl)
theorem dX5_pigeons_110 : decode cX5_pigeons 110 = .ok (.goto 4, 3) := dk_167 0 4 (dk_at dksX5_pigeons_4 18 rfl rfl)
theorem dX5_pigeons_113 : decode cX5_pigeons 113 = .ok (.iload_n 3, 1) := dk_29 (dk_at dksX5_pigeons_4 21 rfl rfl)
theorem dX5_pigeons_114 : decode cX5_pigeons 114 = .ok (.istore_n 3, 1) := dk_62 (dk_at dksX5_pigeons_4 22 rfl rfl)
theorem dX5_pigeons_115 : decode cX5_pigeons 115 = .ok (.iload 4, 2) := dk_21 4 (dk_at dksX5_pigeons_5 0 rfl rfl)
theorem dX5_pigeons_117 : decode cX5_pigeons 117 = .ok (.aload_n 0, 1) := dk_42 (dk_at dksX5_pigeons_5 2 rfl rfl)
theorem dX5_pigeons_118 : decode cX5_pigeons 118 = .ok (.iload 5, 2) := dk_21 5 (dk_at dksX5_pigeons_5 3 rfl rfl)
theorem dX5_pigeons_120 : decode cX5_pigeons 120 = .ok (.invokevirtual 402, 3) := dk_182 1 146 (dk_at dksX5_pigeons_5 5 rfl rfl)
theorem dX5_pigeons_123 : decode cX5_pigeons 123 = .ok (.iconst 1, 1) := dk_4 (dk_at dksX5_pigeons_5 8 rfl rfl)
theorem dX5_pigeons_124 : decode cX5_pigeons 124 = .ok (.if_icmp .ne 7, 3) := dk_160 0 7 (dk_at dksX5_pigeons_5 9 rfl rfl)
theorem dX5_pigeons_127 : decode cX5_pigeons 127 = .ok (.iconst 1, 1) := dk_4 (dk_at dksX5_pigeons_5 12 rfl rfl)
theorem dX5_pigeons_128 : decode cX5_pigeons 128 = .ok (.goto 4, 3) := dk_167 0 4 (dk_at dksX5_pigeons_5 13 rfl rfl)
theorem dX5_pigeons_131 : decode cX5_pigeons 131 = .ok (.iconst 0, 1) := dk_3 (dk_at dksX5_pigeons_5 16 rfl rfl)
theorem dX5_pigeons_132 : decode cX5_pigeons 132 = .ok (.iadd, 1) := dk_96 (dk_at dksX5_pigeons_5 17 rfl rfl)
theorem dX5_pigeons_133 : decode cX5_pigeons 133 = .ok (.istore 4, 2) := dk_54 4 (dk_at dksX5_pigeons_5 18 rfl rfl)
theorem dX5_pigeons_135 : decode cX5_pigeons 135 = .ok (.iinc 5 1, 3) := dk_132 5 1 (dk_at dksX5_pigeons_5 20 rfl rfl)
theorem dX5_pigeons_138 : decode cX5_pigeons 138 = .ok (.goto (-113), 3) := dk_167 255 143 (dk_at dksX5_pigeons_6 0 rfl rfl)
theorem dX5_pigeons_141 : decode cX5_pigeons 141 = .ok (.iload_n 1, 1) := dk_27 (dk_at dksX5_pigeons_6 3 rfl rfl)
theorem dX5_pigeons_142 : decode cX5_pigeons 142 = .ok (.ifCond .ne 7, 3) := dk_154 0 7 (dk_at dksX5_pigeons_6 4 rfl rfl)
theorem dX5_pigeons_145 : decode cX5_pigeons 145 = .ok (.iload_n 2, 1) := dk_28 (dk_at dksX5_pigeons_6 7 rfl rfl)
theorem dX5_pigeons_146 : decode cX5_pigeons 146 = .ok (.goto 14, 3) := dk_167 0 14 (dk_at dksX5_pigeons_6 8 rfl rfl)
theorem dX5_pigeons_149 : decode cX5_pigeons 149 = .ok (.iload_n 1, 1) := dk_27 (dk_at dksX5_pigeons_6 11 rfl rfl)
theorem dX5_pigeons_150 : decode cX5_pigeons 150 = .ok (.iconst 1, 1) := dk_4 (dk_at dksX5_pigeons_6 12 rfl rfl)
theorem dX5_pigeons_151 : decode cX5_pigeons 151 = .ok (.if_icmp .ne 7, 3) := dk_160 0 7 (dk_at dksX5_pigeons_6 13 rfl rfl)
theorem dX5_pigeons_154 : decode cX5_pigeons 154 = .ok (.iload_n 3, 1) := dk_29 (dk_at dksX5_pigeons_6 16 rfl rfl)
theorem dX5_pigeons_155 : decode cX5_pigeons 155 = .ok (.goto 5, 3) := dk_167 0 5 (dk_at dksX5_pigeons_6 17 rfl rfl)
theorem dX5_pigeons_158 : decode cX5_pigeons 158 = .ok (.iload 4, 2) := dk_21 4 (dk_at dksX5_pigeons_6 20 rfl rfl)
theorem dX5_pigeons_160 : decode cX5_pigeons 160 = .ok (.ireturn, 1) := dk_172 (dk_at dksX5_pigeons_6 22 rfl rfl)
abbrev cX5_layFlocks : ByteArray := prog_17_method_120_code
def yX5_layFlocks : MethodName := ⟨RX5, "layFlocks", "()V"⟩
def dkwX5_layFlocks_5 : List UInt8 := [29, 46, 79, 4, 60, 132, 2, 1, 167, 255, 177, 167, 255, 166, 177]
abbrev dktX5_layFlocks_5 : List UInt8 := dkwX5_layFlocks_5 ++ []
def dkwX5_layFlocks_4 : List UInt8 := [180, 0, 80, 28, 7, 108, 46, 161, 0, 6, 167, 0, 19, 42, 180, 0, 80, 28, 7, 108, 42, 180, 0, 80]
abbrev dktX5_layFlocks_4 : List UInt8 := dkwX5_layFlocks_4 ++ dktX5_layFlocks_5
def dkwX5_layFlocks_3 : List UInt8 := [7, 108, 28, 7, 112, 4, 182, 1, 78, 62, 29, 2, 159, 0, 39, 42, 180, 0, 80, 29, 46, 42]
abbrev dktX5_layFlocks_3 : List UInt8 := dkwX5_layFlocks_3 ++ dktX5_layFlocks_4
def dkwX5_layFlocks_2 : List UInt8 := [17, 2, 64, 162, 0, 78, 42, 180, 0, 9, 28, 7, 108, 46, 4, 160, 0, 7, 2, 167, 0, 14, 42, 28]
abbrev dktX5_layFlocks_2 : List UInt8 := dkwX5_layFlocks_2 ++ dktX5_layFlocks_3
def dkwX5_layFlocks_1 : List UInt8 := [2, 167, 0, 4, 27, 79, 132, 1, 1, 167, 255, 225, 4, 60, 27, 153, 0, 92, 3, 60, 3, 61, 28]
abbrev dktX5_layFlocks_1 : List UInt8 := dkwX5_layFlocks_1 ++ dktX5_layFlocks_2
def dkwX5_layFlocks_0 : List UInt8 := [3, 60, 27, 17, 0, 144, 162, 0, 30, 42, 180, 0, 80, 27, 42, 180, 0, 9, 27, 46, 4, 160, 0, 7]
abbrev dktX5_layFlocks_0 : List UInt8 := dkwX5_layFlocks_0 ++ dktX5_layFlocks_1
theorem dksX5_layFlocks_0 : cX5_layFlocks.data.toList.drop 0 = dktX5_layFlocks_0 := by decide +kernel
theorem dksX5_layFlocks_1 : cX5_layFlocks.data.toList.drop 24 = dktX5_layFlocks_1 := dk_seg dksX5_layFlocks_0 24 rfl rfl
theorem dksX5_layFlocks_2 : cX5_layFlocks.data.toList.drop 47 = dktX5_layFlocks_2 := dk_seg dksX5_layFlocks_1 23 rfl rfl
theorem dksX5_layFlocks_3 : cX5_layFlocks.data.toList.drop 71 = dktX5_layFlocks_3 := dk_seg dksX5_layFlocks_2 24 rfl rfl
theorem dksX5_layFlocks_4 : cX5_layFlocks.data.toList.drop 93 = dktX5_layFlocks_4 := dk_seg dksX5_layFlocks_3 22 rfl rfl
theorem dksX5_layFlocks_5 : cX5_layFlocks.data.toList.drop 117 = dktX5_layFlocks_5 := dk_seg dksX5_layFlocks_4 24 rfl rfl
theorem dX5_layFlocks_0 : decode cX5_layFlocks 0 = .ok (.iconst 0, 1) := dk_3 (dk_at dksX5_layFlocks_0 0 rfl rfl)
theorem dX5_layFlocks_1 : decode cX5_layFlocks 1 = .ok (.istore_n 1, 1) := dk_60 (dk_at dksX5_layFlocks_0 1 rfl rfl)
theorem dX5_layFlocks_2 : decode cX5_layFlocks 2 = .ok (.iload_n 1, 1) := dk_27 (dk_at dksX5_layFlocks_0 2 rfl rfl)
theorem dX5_layFlocks_3 : decode cX5_layFlocks 3 = .ok (.sipush 144, 3) := dk_17 0 144 (dk_at dksX5_layFlocks_0 3 rfl rfl)
theorem dX5_layFlocks_6 : decode cX5_layFlocks 6 = .ok (.if_icmp .ge 30, 3) := dk_162 0 30 (dk_at dksX5_layFlocks_0 6 rfl rfl)
theorem dX5_layFlocks_9 : decode cX5_layFlocks 9 = .ok (.aload_n 0, 1) := dk_42 (dk_at dksX5_layFlocks_0 9 rfl rfl)
theorem dX5_layFlocks_10 : decode cX5_layFlocks 10 = .ok (.getfield 80, 3) := dk_180 0 80 (dk_at dksX5_layFlocks_0 10 rfl rfl)
theorem dX5_layFlocks_13 : decode cX5_layFlocks 13 = .ok (.iload_n 1, 1) := dk_27 (dk_at dksX5_layFlocks_0 13 rfl rfl)
theorem dX5_layFlocks_14 : decode cX5_layFlocks 14 = .ok (.aload_n 0, 1) := dk_42 (dk_at dksX5_layFlocks_0 14 rfl rfl)
theorem dX5_layFlocks_15 : decode cX5_layFlocks 15 = .ok (.getfield 9, 3) := dk_180 0 9 (dk_at dksX5_layFlocks_0 15 rfl rfl)
theorem dX5_layFlocks_18 : decode cX5_layFlocks 18 = .ok (.iload_n 1, 1) := dk_27 (dk_at dksX5_layFlocks_0 18 rfl rfl)
theorem dX5_layFlocks_19 : decode cX5_layFlocks 19 = .ok (.iaload, 1) := dk_46 (dk_at dksX5_layFlocks_0 19 rfl rfl)
theorem dX5_layFlocks_20 : decode cX5_layFlocks 20 = .ok (.iconst 1, 1) := dk_4 (dk_at dksX5_layFlocks_0 20 rfl rfl)
theorem dX5_layFlocks_21 : decode cX5_layFlocks 21 = .ok (.if_icmp .ne 7, 3) := dk_160 0 7 (dk_at dksX5_layFlocks_0 21 rfl rfl)
theorem dX5_layFlocks_24 : decode cX5_layFlocks 24 = .ok (.iconst (-1), 1) := dk_2 (dk_at dksX5_layFlocks_1 0 rfl rfl)
theorem dX5_layFlocks_25 : decode cX5_layFlocks 25 = .ok (.goto 4, 3) := dk_167 0 4 (dk_at dksX5_layFlocks_1 1 rfl rfl)
theorem dX5_layFlocks_28 : decode cX5_layFlocks 28 = .ok (.iload_n 1, 1) := dk_27 (dk_at dksX5_layFlocks_1 4 rfl rfl)
theorem dX5_layFlocks_29 : decode cX5_layFlocks 29 = .ok (.iastore, 1) := dk_79 (dk_at dksX5_layFlocks_1 5 rfl rfl)
theorem dX5_layFlocks_30 : decode cX5_layFlocks 30 = .ok (.iinc 1 1, 3) := dk_132 1 1 (dk_at dksX5_layFlocks_1 6 rfl rfl)
theorem dX5_layFlocks_33 : decode cX5_layFlocks 33 = .ok (.goto (-31), 3) := dk_167 255 225 (dk_at dksX5_layFlocks_1 9 rfl rfl)
theorem dX5_layFlocks_36 : decode cX5_layFlocks 36 = .ok (.iconst 1, 1) := dk_4 (dk_at dksX5_layFlocks_1 12 rfl rfl)
theorem dX5_layFlocks_37 : decode cX5_layFlocks 37 = .ok (.istore_n 1, 1) := dk_60 (dk_at dksX5_layFlocks_1 13 rfl rfl)
theorem dX5_layFlocks_38 : decode cX5_layFlocks 38 = .ok (.iload_n 1, 1) := dk_27 (dk_at dksX5_layFlocks_1 14 rfl rfl)
theorem dX5_layFlocks_39 : decode cX5_layFlocks 39 = .ok (.ifCond .eq 92, 3) := dk_153 0 92 (dk_at dksX5_layFlocks_1 15 rfl rfl)
theorem dX5_layFlocks_42 : decode cX5_layFlocks 42 = .ok (.iconst 0, 1) := dk_3 (dk_at dksX5_layFlocks_1 18 rfl rfl)
theorem dX5_layFlocks_43 : decode cX5_layFlocks 43 = .ok (.istore_n 1, 1) := dk_60 (dk_at dksX5_layFlocks_1 19 rfl rfl)
theorem dX5_layFlocks_44 : decode cX5_layFlocks 44 = .ok (.iconst 0, 1) := dk_3 (dk_at dksX5_layFlocks_1 20 rfl rfl)
theorem dX5_layFlocks_45 : decode cX5_layFlocks 45 = .ok (.istore_n 2, 1) := dk_61 (dk_at dksX5_layFlocks_1 21 rfl rfl)
theorem dX5_layFlocks_46 : decode cX5_layFlocks 46 = .ok (.iload_n 2, 1) := dk_28 (dk_at dksX5_layFlocks_1 22 rfl rfl)
theorem dX5_layFlocks_47 : decode cX5_layFlocks 47 = .ok (.sipush 576, 3) := dk_17 2 64 (dk_at dksX5_layFlocks_2 0 rfl rfl)
theorem dX5_layFlocks_50 : decode cX5_layFlocks 50 = .ok (.if_icmp .ge 78, 3) := dk_162 0 78 (dk_at dksX5_layFlocks_2 3 rfl rfl)
theorem dX5_layFlocks_53 : decode cX5_layFlocks 53 = .ok (.aload_n 0, 1) := dk_42 (dk_at dksX5_layFlocks_2 6 rfl rfl)
theorem dX5_layFlocks_54 : decode cX5_layFlocks 54 = .ok (.getfield 9, 3) := dk_180 0 9 (dk_at dksX5_layFlocks_2 7 rfl rfl)
theorem dX5_layFlocks_57 : decode cX5_layFlocks 57 = .ok (.iload_n 2, 1) := dk_28 (dk_at dksX5_layFlocks_2 10 rfl rfl)
theorem dX5_layFlocks_58 : decode cX5_layFlocks 58 = .ok (.iconst 4, 1) := dk_7 (dk_at dksX5_layFlocks_2 11 rfl rfl)
theorem dX5_layFlocks_59 : decode cX5_layFlocks 59 = .ok (.idiv, 1) := dk_108 (dk_at dksX5_layFlocks_2 12 rfl rfl)
theorem dX5_layFlocks_60 : decode cX5_layFlocks 60 = .ok (.iaload, 1) := dk_46 (dk_at dksX5_layFlocks_2 13 rfl rfl)
theorem dX5_layFlocks_61 : decode cX5_layFlocks 61 = .ok (.iconst 1, 1) := dk_4 (dk_at dksX5_layFlocks_2 14 rfl rfl)
theorem dX5_layFlocks_62 : decode cX5_layFlocks 62 = .ok (.if_icmp .ne 7, 3) := dk_160 0 7 (dk_at dksX5_layFlocks_2 15 rfl rfl)
theorem dX5_layFlocks_65 : decode cX5_layFlocks 65 = .ok (.iconst (-1), 1) := dk_2 (dk_at dksX5_layFlocks_2 18 rfl rfl)
theorem dX5_layFlocks_66 : decode cX5_layFlocks 66 = .ok (.goto 14, 3) := dk_167 0 14 (dk_at dksX5_layFlocks_2 19 rfl rfl)
theorem dX5_layFlocks_69 : decode cX5_layFlocks 69 = .ok (.aload_n 0, 1) := dk_42 (dk_at dksX5_layFlocks_2 22 rfl rfl)
theorem dX5_layFlocks_70 : decode cX5_layFlocks 70 = .ok (.iload_n 2, 1) := dk_28 (dk_at dksX5_layFlocks_2 23 rfl rfl)
theorem dX5_layFlocks_71 : decode cX5_layFlocks 71 = .ok (.iconst 4, 1) := dk_7 (dk_at dksX5_layFlocks_3 0 rfl rfl)
theorem dX5_layFlocks_72 : decode cX5_layFlocks 72 = .ok (.idiv, 1) := dk_108 (dk_at dksX5_layFlocks_3 1 rfl rfl)
theorem dX5_layFlocks_73 : decode cX5_layFlocks 73 = .ok (.iload_n 2, 1) := dk_28 (dk_at dksX5_layFlocks_3 2 rfl rfl)
theorem dX5_layFlocks_74 : decode cX5_layFlocks 74 = .ok (.iconst 4, 1) := dk_7 (dk_at dksX5_layFlocks_3 3 rfl rfl)
theorem dX5_layFlocks_75 : decode cX5_layFlocks 75 = .ok (.irem, 1) := dk_112 (dk_at dksX5_layFlocks_3 4 rfl rfl)
theorem dX5_layFlocks_76 : decode cX5_layFlocks 76 = .ok (.iconst 1, 1) := dk_4 (dk_at dksX5_layFlocks_3 5 rfl rfl)
theorem dX5_layFlocks_77 : decode cX5_layFlocks 77 = .ok (.invokevirtual 334, 3) := dk_182 1 78 (dk_at dksX5_layFlocks_3 6 rfl rfl)
theorem dX5_layFlocks_80 : decode cX5_layFlocks 80 = .ok (.istore_n 3, 1) := dk_62 (dk_at dksX5_layFlocks_3 9 rfl rfl)
theorem dX5_layFlocks_81 : decode cX5_layFlocks 81 = .ok (.iload_n 3, 1) := dk_29 (dk_at dksX5_layFlocks_3 10 rfl rfl)
theorem dX5_layFlocks_82 : decode cX5_layFlocks 82 = .ok (.iconst (-1), 1) := dk_2 (dk_at dksX5_layFlocks_3 11 rfl rfl)
theorem dX5_layFlocks_83 : decode cX5_layFlocks 83 = .ok (.if_icmp .eq 39, 3) := dk_159 0 39 (dk_at dksX5_layFlocks_3 12 rfl rfl)
theorem dX5_layFlocks_86 : decode cX5_layFlocks 86 = .ok (.aload_n 0, 1) := dk_42 (dk_at dksX5_layFlocks_3 15 rfl rfl)
theorem dX5_layFlocks_87 : decode cX5_layFlocks 87 = .ok (.getfield 80, 3) := dk_180 0 80 (dk_at dksX5_layFlocks_3 16 rfl rfl)
theorem dX5_layFlocks_90 : decode cX5_layFlocks 90 = .ok (.iload_n 3, 1) := dk_29 (dk_at dksX5_layFlocks_3 19 rfl rfl)
theorem dX5_layFlocks_91 : decode cX5_layFlocks 91 = .ok (.iaload, 1) := dk_46 (dk_at dksX5_layFlocks_3 20 rfl rfl)
theorem dX5_layFlocks_92 : decode cX5_layFlocks 92 = .ok (.aload_n 0, 1) := dk_42 (dk_at dksX5_layFlocks_3 21 rfl rfl)
theorem dX5_layFlocks_93 : decode cX5_layFlocks 93 = .ok (.getfield 80, 3) := dk_180 0 80 (dk_at dksX5_layFlocks_4 0 rfl rfl)
theorem dX5_layFlocks_96 : decode cX5_layFlocks 96 = .ok (.iload_n 2, 1) := dk_28 (dk_at dksX5_layFlocks_4 3 rfl rfl)
theorem dX5_layFlocks_97 : decode cX5_layFlocks 97 = .ok (.iconst 4, 1) := dk_7 (dk_at dksX5_layFlocks_4 4 rfl rfl)
theorem dX5_layFlocks_98 : decode cX5_layFlocks 98 = .ok (.idiv, 1) := dk_108 (dk_at dksX5_layFlocks_4 5 rfl rfl)
theorem dX5_layFlocks_99 : decode cX5_layFlocks 99 = .ok (.iaload, 1) := dk_46 (dk_at dksX5_layFlocks_4 6 rfl rfl)
theorem dX5_layFlocks_100 : decode cX5_layFlocks 100 = .ok (.if_icmp .lt 6, 3) := dk_161 0 6 (dk_at dksX5_layFlocks_4 7 rfl rfl)
theorem dX5_layFlocks_103 : decode cX5_layFlocks 103 = .ok (.goto 19, 3) := dk_167 0 19 (dk_at dksX5_layFlocks_4 10 rfl rfl)
theorem dX5_layFlocks_106 : decode cX5_layFlocks 106 = .ok (.aload_n 0, 1) := dk_42 (dk_at dksX5_layFlocks_4 13 rfl rfl)
theorem dX5_layFlocks_107 : decode cX5_layFlocks 107 = .ok (.getfield 80, 3) := dk_180 0 80 (dk_at dksX5_layFlocks_4 14 rfl rfl)
theorem dX5_layFlocks_110 : decode cX5_layFlocks 110 = .ok (.iload_n 2, 1) := dk_28 (dk_at dksX5_layFlocks_4 17 rfl rfl)
theorem dX5_layFlocks_111 : decode cX5_layFlocks 111 = .ok (.iconst 4, 1) := dk_7 (dk_at dksX5_layFlocks_4 18 rfl rfl)
theorem dX5_layFlocks_112 : decode cX5_layFlocks 112 = .ok (.idiv, 1) := dk_108 (dk_at dksX5_layFlocks_4 19 rfl rfl)
theorem dX5_layFlocks_113 : decode cX5_layFlocks 113 = .ok (.aload_n 0, 1) := dk_42 (dk_at dksX5_layFlocks_4 20 rfl rfl)
theorem dX5_layFlocks_114 : decode cX5_layFlocks 114 = .ok (.getfield 80, 3) := dk_180 0 80 (dk_at dksX5_layFlocks_4 21 rfl rfl)
theorem dX5_layFlocks_117 : decode cX5_layFlocks 117 = .ok (.iload_n 3, 1) := dk_29 (dk_at dksX5_layFlocks_5 0 rfl rfl)
theorem dX5_layFlocks_118 : decode cX5_layFlocks 118 = .ok (.iaload, 1) := dk_46 (dk_at dksX5_layFlocks_5 1 rfl rfl)
theorem dX5_layFlocks_119 : decode cX5_layFlocks 119 = .ok (.iastore, 1) := dk_79 (dk_at dksX5_layFlocks_5 2 rfl rfl)
theorem dX5_layFlocks_120 : decode cX5_layFlocks 120 = .ok (.iconst 1, 1) := dk_4 (dk_at dksX5_layFlocks_5 3 rfl rfl)
theorem dX5_layFlocks_121 : decode cX5_layFlocks 121 = .ok (.istore_n 1, 1) := dk_60 (dk_at dksX5_layFlocks_5 4 rfl rfl)
theorem dX5_layFlocks_122 : decode cX5_layFlocks 122 = .ok (.iinc 2 1, 3) := dk_132 2 1 (dk_at dksX5_layFlocks_5 5 rfl rfl)
theorem dX5_layFlocks_125 : decode cX5_layFlocks 125 = .ok (.goto (-79), 3) := dk_167 255 177 (dk_at dksX5_layFlocks_5 8 rfl rfl)
theorem dX5_layFlocks_128 : decode cX5_layFlocks 128 = .ok (.goto (-90), 3) := dk_167 255 166 (dk_at dksX5_layFlocks_5 11 rfl rfl)
theorem dX5_layFlocks_131 : decode cX5_layFlocks 131 = .ok (.return_, 1) := dk_177 (dk_at dksX5_layFlocks_5 14 rfl rfl)
abbrev cX5_besideOne : ByteArray := prog_17_method_119_code
def yX5_besideOne : MethodName := ⟨RX5, "besideOne", "(I)I"⟩
def dkwX5_besideOne_1 : List UInt8 := [167, 0, 4, 4, 96, 61, 132, 3, 1, 167, 255, 229, 28, 172]
abbrev dktX5_besideOne_1 : List UInt8 := dkwX5_besideOne_1 ++ []
def dkwX5_besideOne_0 : List UInt8 := [3, 61, 3, 62, 29, 7, 162, 0, 28, 28, 42, 27, 29, 4, 182, 1, 78, 2, 160, 0, 7, 3]
abbrev dktX5_besideOne_0 : List UInt8 := dkwX5_besideOne_0 ++ dktX5_besideOne_1
theorem dksX5_besideOne_0 : cX5_besideOne.data.toList.drop 0 = dktX5_besideOne_0 := by decide +kernel
theorem dksX5_besideOne_1 : cX5_besideOne.data.toList.drop 22 = dktX5_besideOne_1 := dk_seg dksX5_besideOne_0 22 rfl rfl
theorem dX5_besideOne_0 : decode cX5_besideOne 0 = .ok (.iconst 0, 1) := dk_3 (dk_at dksX5_besideOne_0 0 rfl rfl)
theorem dX5_besideOne_1 : decode cX5_besideOne 1 = .ok (.istore_n 2, 1) := dk_61 (dk_at dksX5_besideOne_0 1 rfl rfl)
theorem dX5_besideOne_2 : decode cX5_besideOne 2 = .ok (.iconst 0, 1) := dk_3 (dk_at dksX5_besideOne_0 2 rfl rfl)
theorem dX5_besideOne_3 : decode cX5_besideOne 3 = .ok (.istore_n 3, 1) := dk_62 (dk_at dksX5_besideOne_0 3 rfl rfl)
theorem dX5_besideOne_4 : decode cX5_besideOne 4 = .ok (.iload_n 3, 1) := dk_29 (dk_at dksX5_besideOne_0 4 rfl rfl)
theorem dX5_besideOne_5 : decode cX5_besideOne 5 = .ok (.iconst 4, 1) := dk_7 (dk_at dksX5_besideOne_0 5 rfl rfl)
theorem dX5_besideOne_6 : decode cX5_besideOne 6 = .ok (.if_icmp .ge 28, 3) := dk_162 0 28 (dk_at dksX5_besideOne_0 6 rfl rfl)
theorem dX5_besideOne_9 : decode cX5_besideOne 9 = .ok (.iload_n 2, 1) := dk_28 (dk_at dksX5_besideOne_0 9 rfl rfl)
theorem dX5_besideOne_10 : decode cX5_besideOne 10 = .ok (.aload_n 0, 1) := dk_42 (dk_at dksX5_besideOne_0 10 rfl rfl)
theorem dX5_besideOne_11 : decode cX5_besideOne 11 = .ok (.iload_n 1, 1) := dk_27 (dk_at dksX5_besideOne_0 11 rfl rfl)
theorem dX5_besideOne_12 : decode cX5_besideOne 12 = .ok (.iload_n 3, 1) := dk_29 (dk_at dksX5_besideOne_0 12 rfl rfl)
theorem dX5_besideOne_13 : decode cX5_besideOne 13 = .ok (.iconst 1, 1) := dk_4 (dk_at dksX5_besideOne_0 13 rfl rfl)
theorem dX5_besideOne_14 : decode cX5_besideOne 14 = .ok (.invokevirtual 334, 3) := dk_182 1 78 (dk_at dksX5_besideOne_0 14 rfl rfl)
theorem dX5_besideOne_17 : decode cX5_besideOne 17 = .ok (.iconst (-1), 1) := dk_2 (dk_at dksX5_besideOne_0 17 rfl rfl)
theorem dX5_besideOne_18 : decode cX5_besideOne 18 = .ok (.if_icmp .ne 7, 3) := dk_160 0 7 (dk_at dksX5_besideOne_0 18 rfl rfl)
theorem dX5_besideOne_21 : decode cX5_besideOne 21 = .ok (.iconst 0, 1) := dk_3 (dk_at dksX5_besideOne_0 21 rfl rfl)
theorem dX5_besideOne_22 : decode cX5_besideOne 22 = .ok (.goto 4, 3) := dk_167 0 4 (dk_at dksX5_besideOne_1 0 rfl rfl)
theorem dX5_besideOne_25 : decode cX5_besideOne 25 = .ok (.iconst 1, 1) := dk_4 (dk_at dksX5_besideOne_1 3 rfl rfl)
theorem dX5_besideOne_26 : decode cX5_besideOne 26 = .ok (.iadd, 1) := dk_96 (dk_at dksX5_besideOne_1 4 rfl rfl)
theorem dX5_besideOne_27 : decode cX5_besideOne 27 = .ok (.istore_n 2, 1) := dk_61 (dk_at dksX5_besideOne_1 5 rfl rfl)
theorem dX5_besideOne_28 : decode cX5_besideOne 28 = .ok (.iinc 3 1, 3) := dk_132 3 1 (dk_at dksX5_besideOne_1 6 rfl rfl)
theorem dX5_besideOne_31 : decode cX5_besideOne 31 = .ok (.goto (-27), 3) := dk_167 255 229 (dk_at dksX5_besideOne_1 9 rfl rfl)
theorem dX5_besideOne_34 : decode cX5_besideOne 34 = .ok (.iload_n 2, 1) := dk_28 (dk_at dksX5_besideOne_1 12 rfl rfl)
theorem dX5_besideOne_35 : decode cX5_besideOne 35 = .ok (.ireturn, 1) := dk_172 (dk_at dksX5_besideOne_1 13 rfl rfl)
abbrev cX5_game : ByteArray := prog_17_method_124_code
def yX5_game : MethodName := ⟨RX5, "game", "(III)I"⟩
def dkwX5_game_4 : List UInt8 := [159, 0, 10, 21, 6, 21, 4, 162, 0, 7, 21, 6, 54, 4, 132, 5, 1, 167, 255, 205, 21, 4, 172]
abbrev dktX5_game_4 : List UInt8 := dkwX5_game_4 ++ []
def dkwX5_game_3 : List UInt8 := [184, 1, 149, 54, 6, 21, 6, 2, 159, 0, 30, 42, 180, 0, 83, 21, 6, 46, 154, 0, 20, 21, 4, 2]
abbrev dktX5_game_3 : List UInt8 := dkwX5_game_3 ++ dktX5_game_4
def dkwX5_game_2 : List UInt8 := [16, 61, 28, 104, 27, 96, 46, 172, 2, 54, 4, 3, 54, 5, 21, 5, 7, 162, 0, 51, 27, 28, 21, 5]
abbrev dktX5_game_2 : List UInt8 := dkwX5_game_2 ++ dktX5_game_3
def dkwX5_game_1 : List UInt8 := [184, 0, 100, 154, 0, 5, 2, 172, 42, 27, 28, 96, 182, 1, 152, 29, 154, 0, 15, 42, 180, 0, 83]
abbrev dktX5_game_1 : List UInt8 := dkwX5_game_1 ++ dktX5_game_2
def dkwX5_game_0 : List UInt8 := [27, 3, 16, 30, 184, 0, 100, 153, 0, 22, 28, 3, 16, 30, 184, 0, 100, 153, 0, 12, 29, 3, 4]
abbrev dktX5_game_0 : List UInt8 := dkwX5_game_0 ++ dktX5_game_1
theorem dksX5_game_0 : cX5_game.data.toList.drop 0 = dktX5_game_0 := by decide +kernel
theorem dksX5_game_1 : cX5_game.data.toList.drop 23 = dktX5_game_1 := dk_seg dksX5_game_0 23 rfl rfl
theorem dksX5_game_2 : cX5_game.data.toList.drop 46 = dktX5_game_2 := dk_seg dksX5_game_1 23 rfl rfl
theorem dksX5_game_3 : cX5_game.data.toList.drop 70 = dktX5_game_3 := dk_seg dksX5_game_2 24 rfl rfl
theorem dksX5_game_4 : cX5_game.data.toList.drop 94 = dktX5_game_4 := dk_seg dksX5_game_3 24 rfl rfl
theorem dX5_game_0 : decode cX5_game 0 = .ok (.iload_n 1, 1) := dk_27 (dk_at dksX5_game_0 0 rfl rfl)
theorem dX5_game_1 : decode cX5_game 1 = .ok (.iconst 0, 1) := dk_3 (dk_at dksX5_game_0 1 rfl rfl)
theorem dX5_game_2 : decode cX5_game 2 = .ok (.bipush 30, 2) := dk_16 30 (dk_at dksX5_game_0 2 rfl rfl)
theorem dX5_game_4 : decode cX5_game 4 = .ok (.invokestatic 100, 3) := dk_184 0 100 (dk_at dksX5_game_0 4 rfl rfl)
theorem dX5_game_7 : decode cX5_game 7 = .ok (.ifCond .eq 22, 3) := dk_153 0 22 (dk_at dksX5_game_0 7 rfl rfl)
theorem dX5_game_10 : decode cX5_game 10 = .ok (.iload_n 2, 1) := dk_28 (dk_at dksX5_game_0 10 rfl rfl)
theorem dX5_game_11 : decode cX5_game 11 = .ok (.iconst 0, 1) := dk_3 (dk_at dksX5_game_0 11 rfl rfl)
theorem dX5_game_12 : decode cX5_game 12 = .ok (.bipush 30, 2) := dk_16 30 (dk_at dksX5_game_0 12 rfl rfl)
theorem dX5_game_14 : decode cX5_game 14 = .ok (.invokestatic 100, 3) := dk_184 0 100 (dk_at dksX5_game_0 14 rfl rfl)
theorem dX5_game_17 : decode cX5_game 17 = .ok (.ifCond .eq 12, 3) := dk_153 0 12 (dk_at dksX5_game_0 17 rfl rfl)
theorem dX5_game_20 : decode cX5_game 20 = .ok (.iload_n 3, 1) := dk_29 (dk_at dksX5_game_0 20 rfl rfl)
theorem dX5_game_21 : decode cX5_game 21 = .ok (.iconst 0, 1) := dk_3 (dk_at dksX5_game_0 21 rfl rfl)
theorem dX5_game_22 : decode cX5_game 22 = .ok (.iconst 1, 1) := dk_4 (dk_at dksX5_game_0 22 rfl rfl)
theorem dX5_game_23 : decode cX5_game 23 = .ok (.invokestatic 100, 3) := dk_184 0 100 (dk_at dksX5_game_1 0 rfl rfl)
theorem dX5_game_26 : decode cX5_game 26 = .ok (.ifCond .ne 5, 3) := dk_154 0 5 (dk_at dksX5_game_1 3 rfl rfl)
theorem dX5_game_29 : decode cX5_game 29 = .ok (.iconst (-1), 1) := dk_2 (dk_at dksX5_game_1 6 rfl rfl)
theorem dX5_game_30 : decode cX5_game 30 = .ok (.ireturn, 1) := dk_172 (dk_at dksX5_game_1 7 rfl rfl)
theorem dX5_game_31 : decode cX5_game 31 = .ok (.aload_n 0, 1) := dk_42 (dk_at dksX5_game_1 8 rfl rfl)
theorem dX5_game_32 : decode cX5_game 32 = .ok (.iload_n 1, 1) := dk_27 (dk_at dksX5_game_1 9 rfl rfl)
theorem dX5_game_33 : decode cX5_game 33 = .ok (.iload_n 2, 1) := dk_28 (dk_at dksX5_game_1 10 rfl rfl)
theorem dX5_game_34 : decode cX5_game 34 = .ok (.iadd, 1) := dk_96 (dk_at dksX5_game_1 11 rfl rfl)
theorem dX5_game_35 : decode cX5_game 35 = .ok (.invokevirtual 408, 3) := dk_182 1 152 (dk_at dksX5_game_1 12 rfl rfl)
theorem dX5_game_38 : decode cX5_game 38 = .ok (.iload_n 3, 1) := dk_29 (dk_at dksX5_game_1 15 rfl rfl)
theorem dX5_game_39 : decode cX5_game 39 = .ok (.ifCond .ne 15, 3) := dk_154 0 15 (dk_at dksX5_game_1 16 rfl rfl)
theorem dX5_game_42 : decode cX5_game 42 = .ok (.aload_n 0, 1) := dk_42 (dk_at dksX5_game_1 19 rfl rfl)
theorem dX5_game_43 : decode cX5_game 43 = .ok (.getfield 83, 3) := dk_180 0 83 (dk_at dksX5_game_1 20 rfl rfl)
theorem dX5_game_46 : decode cX5_game 46 = .ok (.bipush 61, 2) := dk_16 61 (dk_at dksX5_game_2 0 rfl rfl)
theorem dX5_game_48 : decode cX5_game 48 = .ok (.iload_n 2, 1) := dk_28 (dk_at dksX5_game_2 2 rfl rfl)
theorem dX5_game_49 : decode cX5_game 49 = .ok (.imul, 1) := dk_104 (dk_at dksX5_game_2 3 rfl rfl)
theorem dX5_game_50 : decode cX5_game 50 = .ok (.iload_n 1, 1) := dk_27 (dk_at dksX5_game_2 4 rfl rfl)
theorem dX5_game_51 : decode cX5_game 51 = .ok (.iadd, 1) := dk_96 (dk_at dksX5_game_2 5 rfl rfl)
theorem dX5_game_52 : decode cX5_game 52 = .ok (.iaload, 1) := dk_46 (dk_at dksX5_game_2 6 rfl rfl)
theorem dX5_game_53 : decode cX5_game 53 = .ok (.ireturn, 1) := dk_172 (dk_at dksX5_game_2 7 rfl rfl)
theorem dX5_game_54 : decode cX5_game 54 = .ok (.iconst (-1), 1) := dk_2 (dk_at dksX5_game_2 8 rfl rfl)
theorem dX5_game_55 : decode cX5_game 55 = .ok (.istore 4, 2) := dk_54 4 (dk_at dksX5_game_2 9 rfl rfl)
theorem dX5_game_57 : decode cX5_game 57 = .ok (.iconst 0, 1) := dk_3 (dk_at dksX5_game_2 11 rfl rfl)
theorem dX5_game_58 : decode cX5_game 58 = .ok (.istore 5, 2) := dk_54 5 (dk_at dksX5_game_2 12 rfl rfl)
theorem dX5_game_60 : decode cX5_game 60 = .ok (.iload 5, 2) := dk_21 5 (dk_at dksX5_game_2 14 rfl rfl)
theorem dX5_game_62 : decode cX5_game 62 = .ok (.iconst 4, 1) := dk_7 (dk_at dksX5_game_2 16 rfl rfl)
theorem dX5_game_63 : decode cX5_game 63 = .ok (.if_icmp .ge 51, 3) := dk_162 0 51 (dk_at dksX5_game_2 17 rfl rfl)
theorem dX5_game_66 : decode cX5_game 66 = .ok (.iload_n 1, 1) := dk_27 (dk_at dksX5_game_2 20 rfl rfl)
theorem dX5_game_67 : decode cX5_game 67 = .ok (.iload_n 2, 1) := dk_28 (dk_at dksX5_game_2 21 rfl rfl)
theorem dX5_game_68 : decode cX5_game 68 = .ok (.iload 5, 2) := dk_21 5 (dk_at dksX5_game_2 22 rfl rfl)
theorem dX5_game_70 : decode cX5_game 70 = .ok (.invokestatic 405, 3) := dk_184 1 149 (dk_at dksX5_game_3 0 rfl rfl)
theorem dX5_game_73 : decode cX5_game 73 = .ok (.istore 6, 2) := dk_54 6 (dk_at dksX5_game_3 3 rfl rfl)
theorem dX5_game_75 : decode cX5_game 75 = .ok (.iload 6, 2) := dk_21 6 (dk_at dksX5_game_3 5 rfl rfl)
theorem dX5_game_77 : decode cX5_game 77 = .ok (.iconst (-1), 1) := dk_2 (dk_at dksX5_game_3 7 rfl rfl)
theorem dX5_game_78 : decode cX5_game 78 = .ok (.if_icmp .eq 30, 3) := dk_159 0 30 (dk_at dksX5_game_3 8 rfl rfl)
theorem dX5_game_81 : decode cX5_game 81 = .ok (.aload_n 0, 1) := dk_42 (dk_at dksX5_game_3 11 rfl rfl)
theorem dX5_game_82 : decode cX5_game 82 = .ok (.getfield 83, 3) := dk_180 0 83 (dk_at dksX5_game_3 12 rfl rfl)
theorem dX5_game_85 : decode cX5_game 85 = .ok (.iload 6, 2) := dk_21 6 (dk_at dksX5_game_3 15 rfl rfl)
theorem dX5_game_87 : decode cX5_game 87 = .ok (.iaload, 1) := dk_46 (dk_at dksX5_game_3 17 rfl rfl)
theorem dX5_game_88 : decode cX5_game 88 = .ok (.ifCond .ne 20, 3) := dk_154 0 20 (dk_at dksX5_game_3 18 rfl rfl)
theorem dX5_game_91 : decode cX5_game 91 = .ok (.iload 4, 2) := dk_21 4 (dk_at dksX5_game_3 21 rfl rfl)
theorem dX5_game_93 : decode cX5_game 93 = .ok (.iconst (-1), 1) := dk_2 (dk_at dksX5_game_3 23 rfl rfl)
theorem dX5_game_94 : decode cX5_game 94 = .ok (.if_icmp .eq 10, 3) := dk_159 0 10 (dk_at dksX5_game_4 0 rfl rfl)
theorem dX5_game_97 : decode cX5_game 97 = .ok (.iload 6, 2) := dk_21 6 (dk_at dksX5_game_4 3 rfl rfl)
theorem dX5_game_99 : decode cX5_game 99 = .ok (.iload 4, 2) := dk_21 4 (dk_at dksX5_game_4 5 rfl rfl)
theorem dX5_game_101 : decode cX5_game 101 = .ok (.if_icmp .ge 7, 3) := dk_162 0 7 (dk_at dksX5_game_4 7 rfl rfl)
theorem dX5_game_104 : decode cX5_game 104 = .ok (.iload 6, 2) := dk_21 6 (dk_at dksX5_game_4 10 rfl rfl)
theorem dX5_game_106 : decode cX5_game 106 = .ok (.istore 4, 2) := dk_54 4 (dk_at dksX5_game_4 12 rfl rfl)
theorem dX5_game_108 : decode cX5_game 108 = .ok (.iinc 5 1, 3) := dk_132 5 1 (dk_at dksX5_game_4 14 rfl rfl)
theorem dX5_game_111 : decode cX5_game 111 = .ok (.goto (-51), 3) := dk_167 255 205 (dk_at dksX5_game_4 17 rfl rfl)
theorem dX5_game_114 : decode cX5_game 114 = .ok (.iload 4, 2) := dk_21 4 (dk_at dksX5_game_4 20 rfl rfl)
theorem dX5_game_116 : decode cX5_game 116 = .ok (.ireturn, 1) := dk_172 (dk_at dksX5_game_4 22 rfl rfl)
abbrev cX5_layValues : ByteArray := prog_17_method_123_code
def yX5_layValues : MethodName := ⟨RX5, "layValues", "(I)V"⟩
def dkwX5_layValues_4 : List UInt8 := [104, 28, 96, 29, 100, 21, 5, 79, 132, 3, 1, 167, 255, 160, 132, 2, 1, 167, 255, 147, 177]
abbrev dktX5_layValues_4 : List UInt8 := dkwX5_layValues_4 ++ []
def dkwX5_layValues_3 : List UInt8 := [21, 4, 21, 5, 122, 4, 126, 4, 160, 0, 9, 132, 5, 1, 167, 255, 242, 42, 180, 0, 83, 16, 61, 29]
abbrev dktX5_layValues_3 : List UInt8 := dkwX5_layValues_3 ++ dktX5_layValues_4
def dkwX5_layValues_2 : List UInt8 := [167, 0, 12, 4, 42, 180, 0, 83, 21, 6, 46, 120, 128, 54, 4, 132, 5, 1, 167, 255, 212, 3, 54, 5]
abbrev dktX5_layValues_2 : List UInt8 := dkwX5_layValues_2 ++ dktX5_layValues_3
def dkwX5_layValues_1 : List UInt8 := [162, 0, 44, 28, 29, 100, 29, 21, 5, 184, 1, 149, 54, 6, 21, 4, 21, 6, 2, 160, 0, 7, 3]
abbrev dktX5_layValues_1 : List UInt8 := dkwX5_layValues_1 ++ dktX5_layValues_2
def dkwX5_layValues_0 : List UInt8 := [3, 61, 28, 27, 163, 0, 110, 3, 62, 29, 28, 163, 0, 97, 3, 54, 4, 3, 54, 5, 21, 5, 7]
abbrev dktX5_layValues_0 : List UInt8 := dkwX5_layValues_0 ++ dktX5_layValues_1
theorem dksX5_layValues_0 : cX5_layValues.data.toList.drop 0 = dktX5_layValues_0 := by decide +kernel
theorem dksX5_layValues_1 : cX5_layValues.data.toList.drop 23 = dktX5_layValues_1 := dk_seg dksX5_layValues_0 23 rfl rfl
theorem dksX5_layValues_2 : cX5_layValues.data.toList.drop 46 = dktX5_layValues_2 := dk_seg dksX5_layValues_1 23 rfl rfl
theorem dksX5_layValues_3 : cX5_layValues.data.toList.drop 70 = dktX5_layValues_3 := dk_seg dksX5_layValues_2 24 rfl rfl
theorem dksX5_layValues_4 : cX5_layValues.data.toList.drop 94 = dktX5_layValues_4 := dk_seg dksX5_layValues_3 24 rfl rfl
theorem dX5_layValues_0 : decode cX5_layValues 0 = .ok (.iconst 0, 1) := dk_3 (dk_at dksX5_layValues_0 0 rfl rfl)
theorem dX5_layValues_1 : decode cX5_layValues 1 = .ok (.istore_n 2, 1) := dk_61 (dk_at dksX5_layValues_0 1 rfl rfl)
theorem dX5_layValues_2 : decode cX5_layValues 2 = .ok (.iload_n 2, 1) := dk_28 (dk_at dksX5_layValues_0 2 rfl rfl)
theorem dX5_layValues_3 : decode cX5_layValues 3 = .ok (.iload_n 1, 1) := dk_27 (dk_at dksX5_layValues_0 3 rfl rfl)
theorem dX5_layValues_4 : decode cX5_layValues 4 = .ok (.if_icmp .gt 110, 3) := dk_163 0 110 (dk_at dksX5_layValues_0 4 rfl rfl)
theorem dX5_layValues_7 : decode cX5_layValues 7 = .ok (.iconst 0, 1) := dk_3 (dk_at dksX5_layValues_0 7 rfl rfl)
theorem dX5_layValues_8 : decode cX5_layValues 8 = .ok (.istore_n 3, 1) := dk_62 (dk_at dksX5_layValues_0 8 rfl rfl)
theorem dX5_layValues_9 : decode cX5_layValues 9 = .ok (.iload_n 3, 1) := dk_29 (dk_at dksX5_layValues_0 9 rfl rfl)
theorem dX5_layValues_10 : decode cX5_layValues 10 = .ok (.iload_n 2, 1) := dk_28 (dk_at dksX5_layValues_0 10 rfl rfl)
theorem dX5_layValues_11 : decode cX5_layValues 11 = .ok (.if_icmp .gt 97, 3) := dk_163 0 97 (dk_at dksX5_layValues_0 11 rfl rfl)
theorem dX5_layValues_14 : decode cX5_layValues 14 = .ok (.iconst 0, 1) := dk_3 (dk_at dksX5_layValues_0 14 rfl rfl)
theorem dX5_layValues_15 : decode cX5_layValues 15 = .ok (.istore 4, 2) := dk_54 4 (dk_at dksX5_layValues_0 15 rfl rfl)
theorem dX5_layValues_17 : decode cX5_layValues 17 = .ok (.iconst 0, 1) := dk_3 (dk_at dksX5_layValues_0 17 rfl rfl)
theorem dX5_layValues_18 : decode cX5_layValues 18 = .ok (.istore 5, 2) := dk_54 5 (dk_at dksX5_layValues_0 18 rfl rfl)
theorem dX5_layValues_20 : decode cX5_layValues 20 = .ok (.iload 5, 2) := dk_21 5 (dk_at dksX5_layValues_0 20 rfl rfl)
theorem dX5_layValues_22 : decode cX5_layValues 22 = .ok (.iconst 4, 1) := dk_7 (dk_at dksX5_layValues_0 22 rfl rfl)
theorem dX5_layValues_23 : decode cX5_layValues 23 = .ok (.if_icmp .ge 44, 3) := dk_162 0 44 (dk_at dksX5_layValues_1 0 rfl rfl)
theorem dX5_layValues_26 : decode cX5_layValues 26 = .ok (.iload_n 2, 1) := dk_28 (dk_at dksX5_layValues_1 3 rfl rfl)
theorem dX5_layValues_27 : decode cX5_layValues 27 = .ok (.iload_n 3, 1) := dk_29 (dk_at dksX5_layValues_1 4 rfl rfl)
theorem dX5_layValues_28 : decode cX5_layValues 28 = .ok (.isub, 1) := dk_100 (dk_at dksX5_layValues_1 5 rfl rfl)
theorem dX5_layValues_29 : decode cX5_layValues 29 = .ok (.iload_n 3, 1) := dk_29 (dk_at dksX5_layValues_1 6 rfl rfl)
theorem dX5_layValues_30 : decode cX5_layValues 30 = .ok (.iload 5, 2) := dk_21 5 (dk_at dksX5_layValues_1 7 rfl rfl)
theorem dX5_layValues_32 : decode cX5_layValues 32 = .ok (.invokestatic 405, 3) := dk_184 1 149 (dk_at dksX5_layValues_1 9 rfl rfl)
theorem dX5_layValues_35 : decode cX5_layValues 35 = .ok (.istore 6, 2) := dk_54 6 (dk_at dksX5_layValues_1 12 rfl rfl)
theorem dX5_layValues_37 : decode cX5_layValues 37 = .ok (.iload 4, 2) := dk_21 4 (dk_at dksX5_layValues_1 14 rfl rfl)
theorem dX5_layValues_39 : decode cX5_layValues 39 = .ok (.iload 6, 2) := dk_21 6 (dk_at dksX5_layValues_1 16 rfl rfl)
theorem dX5_layValues_41 : decode cX5_layValues 41 = .ok (.iconst (-1), 1) := dk_2 (dk_at dksX5_layValues_1 18 rfl rfl)
theorem dX5_layValues_42 : decode cX5_layValues 42 = .ok (.if_icmp .ne 7, 3) := dk_160 0 7 (dk_at dksX5_layValues_1 19 rfl rfl)
theorem dX5_layValues_45 : decode cX5_layValues 45 = .ok (.iconst 0, 1) := dk_3 (dk_at dksX5_layValues_1 22 rfl rfl)
theorem dX5_layValues_46 : decode cX5_layValues 46 = .ok (.goto 12, 3) := dk_167 0 12 (dk_at dksX5_layValues_2 0 rfl rfl)
theorem dX5_layValues_49 : decode cX5_layValues 49 = .ok (.iconst 1, 1) := dk_4 (dk_at dksX5_layValues_2 3 rfl rfl)
theorem dX5_layValues_50 : decode cX5_layValues 50 = .ok (.aload_n 0, 1) := dk_42 (dk_at dksX5_layValues_2 4 rfl rfl)
theorem dX5_layValues_51 : decode cX5_layValues 51 = .ok (.getfield 83, 3) := dk_180 0 83 (dk_at dksX5_layValues_2 5 rfl rfl)
theorem dX5_layValues_54 : decode cX5_layValues 54 = .ok (.iload 6, 2) := dk_21 6 (dk_at dksX5_layValues_2 8 rfl rfl)
theorem dX5_layValues_56 : decode cX5_layValues 56 = .ok (.iaload, 1) := dk_46 (dk_at dksX5_layValues_2 10 rfl rfl)
theorem dX5_layValues_57 : decode cX5_layValues 57 = .ok (.ishl, 1) := dk_120 (dk_at dksX5_layValues_2 11 rfl rfl)
theorem dX5_layValues_58 : decode cX5_layValues 58 = .ok (.ior, 1) := dk_128 (dk_at dksX5_layValues_2 12 rfl rfl)
theorem dX5_layValues_59 : decode cX5_layValues 59 = .ok (.istore 4, 2) := dk_54 4 (dk_at dksX5_layValues_2 13 rfl rfl)
theorem dX5_layValues_61 : decode cX5_layValues 61 = .ok (.iinc 5 1, 3) := dk_132 5 1 (dk_at dksX5_layValues_2 15 rfl rfl)
theorem dX5_layValues_64 : decode cX5_layValues 64 = .ok (.goto (-44), 3) := dk_167 255 212 (dk_at dksX5_layValues_2 18 rfl rfl)
theorem dX5_layValues_67 : decode cX5_layValues 67 = .ok (.iconst 0, 1) := dk_3 (dk_at dksX5_layValues_2 21 rfl rfl)
theorem dX5_layValues_68 : decode cX5_layValues 68 = .ok (.istore 5, 2) := dk_54 5 (dk_at dksX5_layValues_2 22 rfl rfl)
theorem dX5_layValues_70 : decode cX5_layValues 70 = .ok (.iload 4, 2) := dk_21 4 (dk_at dksX5_layValues_3 0 rfl rfl)
theorem dX5_layValues_72 : decode cX5_layValues 72 = .ok (.iload 5, 2) := dk_21 5 (dk_at dksX5_layValues_3 2 rfl rfl)
theorem dX5_layValues_74 : decode cX5_layValues 74 = .ok (.ishr, 1) := dk_122 (dk_at dksX5_layValues_3 4 rfl rfl)
theorem dX5_layValues_75 : decode cX5_layValues 75 = .ok (.iconst 1, 1) := dk_4 (dk_at dksX5_layValues_3 5 rfl rfl)
theorem dX5_layValues_76 : decode cX5_layValues 76 = .ok (.iand, 1) := dk_126 (dk_at dksX5_layValues_3 6 rfl rfl)
theorem dX5_layValues_77 : decode cX5_layValues 77 = .ok (.iconst 1, 1) := dk_4 (dk_at dksX5_layValues_3 7 rfl rfl)
theorem dX5_layValues_78 : decode cX5_layValues 78 = .ok (.if_icmp .ne 9, 3) := dk_160 0 9 (dk_at dksX5_layValues_3 8 rfl rfl)
theorem dX5_layValues_81 : decode cX5_layValues 81 = .ok (.iinc 5 1, 3) := dk_132 5 1 (dk_at dksX5_layValues_3 11 rfl rfl)
theorem dX5_layValues_84 : decode cX5_layValues 84 = .ok (.goto (-14), 3) := dk_167 255 242 (dk_at dksX5_layValues_3 14 rfl rfl)
theorem dX5_layValues_87 : decode cX5_layValues 87 = .ok (.aload_n 0, 1) := dk_42 (dk_at dksX5_layValues_3 17 rfl rfl)
theorem dX5_layValues_88 : decode cX5_layValues 88 = .ok (.getfield 83, 3) := dk_180 0 83 (dk_at dksX5_layValues_3 18 rfl rfl)
theorem dX5_layValues_91 : decode cX5_layValues 91 = .ok (.bipush 61, 2) := dk_16 61 (dk_at dksX5_layValues_3 21 rfl rfl)
theorem dX5_layValues_93 : decode cX5_layValues 93 = .ok (.iload_n 3, 1) := dk_29 (dk_at dksX5_layValues_3 23 rfl rfl)
theorem dX5_layValues_94 : decode cX5_layValues 94 = .ok (.imul, 1) := dk_104 (dk_at dksX5_layValues_4 0 rfl rfl)
theorem dX5_layValues_95 : decode cX5_layValues 95 = .ok (.iload_n 2, 1) := dk_28 (dk_at dksX5_layValues_4 1 rfl rfl)
theorem dX5_layValues_96 : decode cX5_layValues 96 = .ok (.iadd, 1) := dk_96 (dk_at dksX5_layValues_4 2 rfl rfl)
theorem dX5_layValues_97 : decode cX5_layValues 97 = .ok (.iload_n 3, 1) := dk_29 (dk_at dksX5_layValues_4 3 rfl rfl)
theorem dX5_layValues_98 : decode cX5_layValues 98 = .ok (.isub, 1) := dk_100 (dk_at dksX5_layValues_4 4 rfl rfl)
theorem dX5_layValues_99 : decode cX5_layValues 99 = .ok (.iload 5, 2) := dk_21 5 (dk_at dksX5_layValues_4 5 rfl rfl)
theorem dX5_layValues_101 : decode cX5_layValues 101 = .ok (.iastore, 1) := dk_79 (dk_at dksX5_layValues_4 7 rfl rfl)
theorem dX5_layValues_102 : decode cX5_layValues 102 = .ok (.iinc 3 1, 3) := dk_132 3 1 (dk_at dksX5_layValues_4 8 rfl rfl)
theorem dX5_layValues_105 : decode cX5_layValues 105 = .ok (.goto (-96), 3) := dk_167 255 160 (dk_at dksX5_layValues_4 11 rfl rfl)
theorem dX5_layValues_108 : decode cX5_layValues 108 = .ok (.iinc 2 1, 3) := dk_132 2 1 (dk_at dksX5_layValues_4 14 rfl rfl)
theorem dX5_layValues_111 : decode cX5_layValues 111 = .ok (.goto (-109), 3) := dk_167 255 147 (dk_at dksX5_layValues_4 17 rfl rfl)
theorem dX5_layValues_114 : decode cX5_layValues 114 = .ok (.return_, 1) := dk_177 (dk_at dksX5_layValues_4 20 rfl rfl)
abbrev cX5_bend : ByteArray := prog_17_method_122_code
def yX5_bend : MethodName := ⟨RX5, "bend", "(III)I"⟩
def dkwX5_bend_3 : List UInt8 := [172]
abbrev dktX5_bend_3 : List UInt8 := dkwX5_bend_3 ++ []
def dkwX5_bend_2 : List UInt8 := [5, 100, 54, 4, 29, 155, 0, 8, 21, 4, 156, 0, 7, 2, 167, 0, 10, 16, 61, 21, 4, 104, 29, 96]
abbrev dktX5_bend_2 : List UInt8 := dkwX5_bend_2 ++ dktX5_bend_3
def dkwX5_bend_1 : List UInt8 := [100, 62, 28, 154, 0, 9, 27, 4, 96, 167, 0, 17, 28, 4, 160, 0, 9, 27, 4, 100, 167, 0, 6, 27]
abbrev dktX5_bend_1 : List UInt8 := dkwX5_bend_1 ++ dktX5_bend_2
def dkwX5_bend_0 : List UInt8 := [28, 5, 162, 0, 9, 26, 5, 100, 167, 0, 17, 28, 5, 160, 0, 9, 26, 4, 96, 167, 0, 6, 26, 4]
abbrev dktX5_bend_0 : List UInt8 := dkwX5_bend_0 ++ dktX5_bend_1
theorem dksX5_bend_0 : cX5_bend.data.toList.drop 0 = dktX5_bend_0 := by decide +kernel
theorem dksX5_bend_1 : cX5_bend.data.toList.drop 24 = dktX5_bend_1 := dk_seg dksX5_bend_0 24 rfl rfl
theorem dksX5_bend_2 : cX5_bend.data.toList.drop 48 = dktX5_bend_2 := dk_seg dksX5_bend_1 24 rfl rfl
theorem dksX5_bend_3 : cX5_bend.data.toList.drop 72 = dktX5_bend_3 := dk_seg dksX5_bend_2 24 rfl rfl
theorem dX5_bend_0 : decode cX5_bend 0 = .ok (.iload_n 2, 1) := dk_28 (dk_at dksX5_bend_0 0 rfl rfl)
theorem dX5_bend_1 : decode cX5_bend 1 = .ok (.iconst 2, 1) := dk_5 (dk_at dksX5_bend_0 1 rfl rfl)
theorem dX5_bend_2 : decode cX5_bend 2 = .ok (.if_icmp .ge 9, 3) := dk_162 0 9 (dk_at dksX5_bend_0 2 rfl rfl)
theorem dX5_bend_5 : decode cX5_bend 5 = .ok (.iload_n 0, 1) := dk_26 (dk_at dksX5_bend_0 5 rfl rfl)
theorem dX5_bend_6 : decode cX5_bend 6 = .ok (.iconst 2, 1) := dk_5 (dk_at dksX5_bend_0 6 rfl rfl)
theorem dX5_bend_7 : decode cX5_bend 7 = .ok (.isub, 1) := dk_100 (dk_at dksX5_bend_0 7 rfl rfl)
theorem dX5_bend_8 : decode cX5_bend 8 = .ok (.goto 17, 3) := dk_167 0 17 (dk_at dksX5_bend_0 8 rfl rfl)
theorem dX5_bend_11 : decode cX5_bend 11 = .ok (.iload_n 2, 1) := dk_28 (dk_at dksX5_bend_0 11 rfl rfl)
theorem dX5_bend_12 : decode cX5_bend 12 = .ok (.iconst 2, 1) := dk_5 (dk_at dksX5_bend_0 12 rfl rfl)
theorem dX5_bend_13 : decode cX5_bend 13 = .ok (.if_icmp .ne 9, 3) := dk_160 0 9 (dk_at dksX5_bend_0 13 rfl rfl)
theorem dX5_bend_16 : decode cX5_bend 16 = .ok (.iload_n 0, 1) := dk_26 (dk_at dksX5_bend_0 16 rfl rfl)
theorem dX5_bend_17 : decode cX5_bend 17 = .ok (.iconst 1, 1) := dk_4 (dk_at dksX5_bend_0 17 rfl rfl)
theorem dX5_bend_18 : decode cX5_bend 18 = .ok (.iadd, 1) := dk_96 (dk_at dksX5_bend_0 18 rfl rfl)
theorem dX5_bend_19 : decode cX5_bend 19 = .ok (.goto 6, 3) := dk_167 0 6 (dk_at dksX5_bend_0 19 rfl rfl)
theorem dX5_bend_22 : decode cX5_bend 22 = .ok (.iload_n 0, 1) := dk_26 (dk_at dksX5_bend_0 22 rfl rfl)
theorem dX5_bend_23 : decode cX5_bend 23 = .ok (.iconst 1, 1) := dk_4 (dk_at dksX5_bend_0 23 rfl rfl)
theorem dX5_bend_24 : decode cX5_bend 24 = .ok (.isub, 1) := dk_100 (dk_at dksX5_bend_1 0 rfl rfl)
theorem dX5_bend_25 : decode cX5_bend 25 = .ok (.istore_n 3, 1) := dk_62 (dk_at dksX5_bend_1 1 rfl rfl)
theorem dX5_bend_26 : decode cX5_bend 26 = .ok (.iload_n 2, 1) := dk_28 (dk_at dksX5_bend_1 2 rfl rfl)
theorem dX5_bend_27 : decode cX5_bend 27 = .ok (.ifCond .ne 9, 3) := dk_154 0 9 (dk_at dksX5_bend_1 3 rfl rfl)
theorem dX5_bend_30 : decode cX5_bend 30 = .ok (.iload_n 1, 1) := dk_27 (dk_at dksX5_bend_1 6 rfl rfl)
theorem dX5_bend_31 : decode cX5_bend 31 = .ok (.iconst 1, 1) := dk_4 (dk_at dksX5_bend_1 7 rfl rfl)
theorem dX5_bend_32 : decode cX5_bend 32 = .ok (.iadd, 1) := dk_96 (dk_at dksX5_bend_1 8 rfl rfl)
theorem dX5_bend_33 : decode cX5_bend 33 = .ok (.goto 17, 3) := dk_167 0 17 (dk_at dksX5_bend_1 9 rfl rfl)
theorem dX5_bend_36 : decode cX5_bend 36 = .ok (.iload_n 2, 1) := dk_28 (dk_at dksX5_bend_1 12 rfl rfl)
theorem dX5_bend_37 : decode cX5_bend 37 = .ok (.iconst 1, 1) := dk_4 (dk_at dksX5_bend_1 13 rfl rfl)
theorem dX5_bend_38 : decode cX5_bend 38 = .ok (.if_icmp .ne 9, 3) := dk_160 0 9 (dk_at dksX5_bend_1 14 rfl rfl)
theorem dX5_bend_41 : decode cX5_bend 41 = .ok (.iload_n 1, 1) := dk_27 (dk_at dksX5_bend_1 17 rfl rfl)
theorem dX5_bend_42 : decode cX5_bend 42 = .ok (.iconst 1, 1) := dk_4 (dk_at dksX5_bend_1 18 rfl rfl)
theorem dX5_bend_43 : decode cX5_bend 43 = .ok (.isub, 1) := dk_100 (dk_at dksX5_bend_1 19 rfl rfl)
theorem dX5_bend_44 : decode cX5_bend 44 = .ok (.goto 6, 3) := dk_167 0 6 (dk_at dksX5_bend_1 20 rfl rfl)
theorem dX5_bend_47 : decode cX5_bend 47 = .ok (.iload_n 1, 1) := dk_27 (dk_at dksX5_bend_1 23 rfl rfl)
theorem dX5_bend_48 : decode cX5_bend 48 = .ok (.iconst 2, 1) := dk_5 (dk_at dksX5_bend_2 0 rfl rfl)
theorem dX5_bend_49 : decode cX5_bend 49 = .ok (.isub, 1) := dk_100 (dk_at dksX5_bend_2 1 rfl rfl)
theorem dX5_bend_50 : decode cX5_bend 50 = .ok (.istore 4, 2) := dk_54 4 (dk_at dksX5_bend_2 2 rfl rfl)
theorem dX5_bend_52 : decode cX5_bend 52 = .ok (.iload_n 3, 1) := dk_29 (dk_at dksX5_bend_2 4 rfl rfl)
theorem dX5_bend_53 : decode cX5_bend 53 = .ok (.ifCond .lt 8, 3) := dk_155 0 8 (dk_at dksX5_bend_2 5 rfl rfl)
theorem dX5_bend_56 : decode cX5_bend 56 = .ok (.iload 4, 2) := dk_21 4 (dk_at dksX5_bend_2 8 rfl rfl)
theorem dX5_bend_58 : decode cX5_bend 58 = .ok (.ifCond .ge 7, 3) := dk_156 0 7 (dk_at dksX5_bend_2 10 rfl rfl)
theorem dX5_bend_61 : decode cX5_bend 61 = .ok (.iconst (-1), 1) := dk_2 (dk_at dksX5_bend_2 13 rfl rfl)
theorem dX5_bend_62 : decode cX5_bend 62 = .ok (.goto 10, 3) := dk_167 0 10 (dk_at dksX5_bend_2 14 rfl rfl)
theorem dX5_bend_65 : decode cX5_bend 65 = .ok (.bipush 61, 2) := dk_16 61 (dk_at dksX5_bend_2 17 rfl rfl)
theorem dX5_bend_67 : decode cX5_bend 67 = .ok (.iload 4, 2) := dk_21 4 (dk_at dksX5_bend_2 19 rfl rfl)
theorem dX5_bend_69 : decode cX5_bend 69 = .ok (.imul, 1) := dk_104 (dk_at dksX5_bend_2 21 rfl rfl)
theorem dX5_bend_70 : decode cX5_bend 70 = .ok (.iload_n 3, 1) := dk_29 (dk_at dksX5_bend_2 22 rfl rfl)
theorem dX5_bend_71 : decode cX5_bend 71 = .ok (.iadd, 1) := dk_96 (dk_at dksX5_bend_2 23 rfl rfl)
theorem dX5_bend_72 : decode cX5_bend 72 = .ok (.ireturn, 1) := dk_172 (dk_at dksX5_bend_3 0 rfl rfl)
theorem q144 : (Jvm.Cond.initialized "WindingSquareModel") ∈ lw_all := lw_g (lw_at lw_m1 13 rfl) rfl
theorem q358 : (Jvm.Cond.selects "WindingSquareModel" ({ cls := "java/lang/Object", name := "getClass", desc := "()Ljava/lang/Class;" } : Jvm.MethodName) ({ cls := "java/lang/Object", name := "getClass", desc := "()Ljava/lang/Class;" } : Jvm.MethodName)) ∈ lw_all := lw_g (lw_at lw_m1 227 rfl) rfl
theorem q1454 : (Jvm.Cond.instantiable "WindingSquareModel" (40 : Nat)) ∈ lw_all := lw_g (lw_at lw_m6 123 rfl) rfl
theorem q1456 : (Jvm.Cond.instanceMethod ({ cls := "WindingSquareModel", name := "<init>", desc := "()V" } : Jvm.MethodName)) ∈ lw_all := lw_g (lw_at lw_m6 125 rfl) rfl
theorem q1457 : (Jvm.Cond.code ({ cls := "WindingSquareModel", name := "<init>", desc := "()V" } : Jvm.MethodName) prog_17_method_2_code (1 : Nat) (Option.none : Option Jvm.ClassFile.FieldType)) ∈ lw_all := lw_g (lw_at lw_m6 126 rfl) rfl
theorem q1458 : (Jvm.Cond.methodLink "WindingSquareModel" (3 : Nat) ({ cls := "java/lang/Object", name := "<init>", desc := "()V" } : Jvm.MethodName)) ∈ lw_all := lw_g (lw_at lw_m6 127 rfl) rfl
theorem q1459 : (Jvm.Cond.fieldLink "WindingSquareModel" (9 : Nat) "WindingSquareModel" "now" "[I") ∈ lw_all := lw_g (lw_at lw_m6 128 rfl) rfl
theorem q1460 : (Jvm.Cond.fieldLink "WindingSquareModel" (13 : Nat) "WindingSquareModel" "s" "[I") ∈ lw_all := lw_g (lw_at lw_m6 129 rfl) rfl
theorem q1461 : (Jvm.Cond.fieldLink "WindingSquareModel" (16 : Nat) "WindingSquareModel" "image" "[I") ∈ lw_all := lw_g (lw_at lw_m6 130 rfl) rfl
theorem q1462 : (Jvm.Cond.fieldLink "WindingSquareModel" (19 : Nat) "WindingSquareModel" "past" "[I") ∈ lw_all := lw_g (lw_at lw_m6 131 rfl) rfl
theorem q1463 : (Jvm.Cond.fieldLink "WindingSquareModel" (94 : Nat) "WindingSquareModel" "pasts" "I") ∈ lw_all := lw_g (lw_at lw_m6 132 rfl) rfl
theorem q1464 : (Jvm.Cond.fieldLink "WindingSquareModel" (325 : Nat) "WindingSquareModel" "imaged" "Z") ∈ lw_all := lw_g (lw_at lw_m6 133 rfl) rfl
theorem q1465 : (Jvm.Cond.fieldLink "WindingSquareModel" (90 : Nat) "WindingSquareModel" "thinking" "Z") ∈ lw_all := lw_g (lw_at lw_m6 134 rfl) rfl
theorem q1466 : (Jvm.Cond.fieldLink "WindingSquareModel" (123 : Nat) "WindingSquareModel" "taped" "I") ∈ lw_all := lw_g (lw_at lw_m6 135 rfl) rfl
theorem q1467 : (Jvm.Cond.fieldLink "WindingSquareModel" (135 : Nat) "WindingSquareModel" "size" "I") ∈ lw_all := lw_g (lw_at lw_m6 136 rfl) rfl
theorem q1468 : (Jvm.Cond.fieldLink "WindingSquareModel" (132 : Nat) "WindingSquareModel" "at" "I") ∈ lw_all := lw_g (lw_at lw_m6 137 rfl) rfl
theorem q1469 : (Jvm.Cond.fieldLink "WindingSquareModel" (126 : Nat) "WindingSquareModel" "bad" "I") ∈ lw_all := lw_g (lw_at lw_m6 138 rfl) rfl
theorem q1470 : (Jvm.Cond.fieldLink "WindingSquareModel" (129 : Nat) "WindingSquareModel" "badKind" "I") ∈ lw_all := lw_g (lw_at lw_m6 139 rfl) rfl
theorem q1471 : (Jvm.Cond.fieldLink "WindingSquareModel" (166 : Nat) "WindingSquareModel" "opens" "I") ∈ lw_all := lw_g (lw_at lw_m6 140 rfl) rfl
theorem q1472 : (Jvm.Cond.fieldLink "WindingSquareModel" (169 : Nat) "WindingSquareModel" "fault0" "I") ∈ lw_all := lw_g (lw_at lw_m6 141 rfl) rfl
theorem q1473 : (Jvm.Cond.fieldLink "WindingSquareModel" (22 : Nat) "WindingSquareModel" "faultAt" "I") ∈ lw_all := lw_g (lw_at lw_m6 142 rfl) rfl
theorem q1474 : (Jvm.Cond.fieldLink "WindingSquareModel" (26 : Nat) "WindingSquareModel" "tape" "[I") ∈ lw_all := lw_g (lw_at lw_m6 143 rfl) rfl
theorem q1475 : (Jvm.Cond.fieldLink "WindingSquareModel" (29 : Nat) "WindingSquareModel" "t" "[I") ∈ lw_all := lw_g (lw_at lw_m6 144 rfl) rfl
theorem q1476 : (Jvm.Cond.fieldLink "WindingSquareModel" (172 : Nat) "WindingSquareModel" "codes" "I") ∈ lw_all := lw_g (lw_at lw_m6 145 rfl) rfl
theorem q1477 : (Jvm.Cond.fieldLink "WindingSquareModel" (32 : Nat) "WindingSquareModel" "waits" "[I") ∈ lw_all := lw_g (lw_at lw_m6 146 rfl) rfl
theorem q1478 : (Jvm.Cond.fieldLink "WindingSquareModel" (214 : Nat) "WindingSquareModel" "waiting" "I") ∈ lw_all := lw_g (lw_at lw_m6 147 rfl) rfl
theorem q1479 : (Jvm.Cond.fieldLink "WindingSquareModel" (35 : Nat) "WindingSquareModel" "facts" "[I") ∈ lw_all := lw_g (lw_at lw_m6 148 rfl) rfl
theorem q1480 : (Jvm.Cond.fieldLink "WindingSquareModel" (38 : Nat) "WindingSquareModel" "stack" "[I") ∈ lw_all := lw_g (lw_at lw_m6 149 rfl) rfl
theorem q1481 : (Jvm.Cond.fieldLink "WindingSquareModel" (41 : Nat) "WindingSquareModel" "stepsBy" "[I") ∈ lw_all := lw_g (lw_at lw_m6 150 rfl) rfl
theorem q1482 : (Jvm.Cond.fieldLink "WindingSquareModel" (44 : Nat) "WindingSquareModel" "farBy" "[I") ∈ lw_all := lw_g (lw_at lw_m6 151 rfl) rfl
theorem q1483 : (Jvm.Cond.fieldLink "WindingSquareModel" (47 : Nat) "WindingSquareModel" "rowsBy" "[I") ∈ lw_all := lw_g (lw_at lw_m6 152 rfl) rfl
theorem q1484 : (Jvm.Cond.fieldLink "WindingSquareModel" (50 : Nat) "WindingSquareModel" "rowsThen" "[I") ∈ lw_all := lw_g (lw_at lw_m6 153 rfl) rfl
theorem q1485 : (Jvm.Cond.fieldLink "WindingSquareModel" (53 : Nat) "WindingSquareModel" "beenX" "[I") ∈ lw_all := lw_g (lw_at lw_m6 154 rfl) rfl
theorem q1486 : (Jvm.Cond.fieldLink "WindingSquareModel" (56 : Nat) "WindingSquareModel" "beenY" "[I") ∈ lw_all := lw_g (lw_at lw_m6 155 rfl) rfl
theorem q1487 : (Jvm.Cond.fieldLink "WindingSquareModel" (374 : Nat) "WindingSquareModel" "been" "I") ∈ lw_all := lw_g (lw_at lw_m6 156 rfl) rfl
theorem q1488 : (Jvm.Cond.fieldLink "WindingSquareModel" (377 : Nat) "WindingSquareModel" "wound" "I") ∈ lw_all := lw_g (lw_at lw_m6 157 rfl) rfl
theorem q1489 : (Jvm.Cond.fieldLink "WindingSquareModel" (380 : Nat) "WindingSquareModel" "twice" "I") ∈ lw_all := lw_g (lw_at lw_m6 158 rfl) rfl
theorem q1490 : (Jvm.Cond.fieldLink "WindingSquareModel" (59 : Nat) "WindingSquareModel" "sideways" "[I") ∈ lw_all := lw_g (lw_at lw_m6 159 rfl) rfl
theorem q1491 : (Jvm.Cond.fieldLink "WindingSquareModel" (62 : Nat) "WindingSquareModel" "sidewaysThen" "[I") ∈ lw_all := lw_g (lw_at lw_m6 160 rfl) rfl
theorem q1492 : (Jvm.Cond.fieldLink "WindingSquareModel" (65 : Nat) "WindingSquareModel" "duelBy" "[I") ∈ lw_all := lw_g (lw_at lw_m6 161 rfl) rfl
theorem q1493 : (Jvm.Cond.fieldLink "WindingSquareModel" (68 : Nat) "WindingSquareModel" "stoneAt" "[I") ∈ lw_all := lw_g (lw_at lw_m6 162 rfl) rfl
theorem q1494 : (Jvm.Cond.fieldLink "WindingSquareModel" (71 : Nat) "WindingSquareModel" "laid" "[I") ∈ lw_all := lw_g (lw_at lw_m6 163 rfl) rfl
theorem q1495 : (Jvm.Cond.fieldLink "WindingSquareModel" (74 : Nat) "WindingSquareModel" "laidThen" "[I") ∈ lw_all := lw_g (lw_at lw_m6 164 rfl) rfl
theorem q1496 : (Jvm.Cond.fieldLink "WindingSquareModel" (77 : Nat) "WindingSquareModel" "partBy" "[I") ∈ lw_all := lw_g (lw_at lw_m6 165 rfl) rfl
theorem q1497 : (Jvm.Cond.fieldLink "WindingSquareModel" (80 : Nat) "WindingSquareModel" "flockOf" "[I") ∈ lw_all := lw_g (lw_at lw_m6 166 rfl) rfl
theorem q1498 : (Jvm.Cond.fieldLink "WindingSquareModel" (83 : Nat) "WindingSquareModel" "valueOf" "[I") ∈ lw_all := lw_g (lw_at lw_m6 167 rfl) rfl
theorem q1499 : (Jvm.Cond.laysFinal "WindingSquareModel" "WindingSquareModel" "now" "[I") ∈ lw_all := lw_g (lw_at lw_m6 168 rfl) rfl
theorem q1500 : (Jvm.Cond.soleField "WindingSquareModel" "now") ∈ lw_all := lw_g (lw_at lw_m6 169 rfl) rfl
theorem q1501 : (Jvm.Cond.laysFinal "WindingSquareModel" "WindingSquareModel" "s" "[I") ∈ lw_all := lw_g (lw_at lw_m6 170 rfl) rfl
theorem q1502 : (Jvm.Cond.soleField "WindingSquareModel" "s") ∈ lw_all := lw_g (lw_at lw_m6 171 rfl) rfl
theorem q1503 : (Jvm.Cond.laysFinal "WindingSquareModel" "WindingSquareModel" "image" "[I") ∈ lw_all := lw_g (lw_at lw_m6 172 rfl) rfl
theorem q1504 : (Jvm.Cond.soleField "WindingSquareModel" "image") ∈ lw_all := lw_g (lw_at lw_m6 173 rfl) rfl
theorem q1505 : (Jvm.Cond.laysFinal "WindingSquareModel" "WindingSquareModel" "past" "[I") ∈ lw_all := lw_g (lw_at lw_m6 174 rfl) rfl
theorem q1506 : (Jvm.Cond.soleField "WindingSquareModel" "past") ∈ lw_all := lw_g (lw_at lw_m6 175 rfl) rfl
theorem q1507 : (Jvm.Cond.lays "WindingSquareModel" "WindingSquareModel" "pasts" "I") ∈ lw_all := lw_g (lw_at lw_m6 176 rfl) rfl
theorem q1508 : (Jvm.Cond.soleField "WindingSquareModel" "pasts") ∈ lw_all := lw_g (lw_at lw_m6 177 rfl) rfl
theorem q1509 : (Jvm.Cond.lays "WindingSquareModel" "WindingSquareModel" "imaged" "Z") ∈ lw_all := lw_g (lw_at lw_m6 178 rfl) rfl
theorem q1510 : (Jvm.Cond.soleField "WindingSquareModel" "imaged") ∈ lw_all := lw_g (lw_at lw_m6 179 rfl) rfl
theorem q1511 : (Jvm.Cond.lays "WindingSquareModel" "WindingSquareModel" "thinking" "Z") ∈ lw_all := lw_g (lw_at lw_m6 180 rfl) rfl
theorem q1512 : (Jvm.Cond.soleField "WindingSquareModel" "thinking") ∈ lw_all := lw_g (lw_at lw_m6 181 rfl) rfl
theorem q1513 : (Jvm.Cond.lays "WindingSquareModel" "WindingSquareModel" "taped" "I") ∈ lw_all := lw_g (lw_at lw_m6 182 rfl) rfl
theorem q1514 : (Jvm.Cond.soleField "WindingSquareModel" "taped") ∈ lw_all := lw_g (lw_at lw_m6 183 rfl) rfl
theorem q1515 : (Jvm.Cond.lays "WindingSquareModel" "WindingSquareModel" "size" "I") ∈ lw_all := lw_g (lw_at lw_m6 184 rfl) rfl
theorem q1516 : (Jvm.Cond.soleField "WindingSquareModel" "size") ∈ lw_all := lw_g (lw_at lw_m6 185 rfl) rfl
theorem q1517 : (Jvm.Cond.lays "WindingSquareModel" "WindingSquareModel" "at" "I") ∈ lw_all := lw_g (lw_at lw_m6 186 rfl) rfl
theorem q1518 : (Jvm.Cond.soleField "WindingSquareModel" "at") ∈ lw_all := lw_g (lw_at lw_m6 187 rfl) rfl
theorem q1519 : (Jvm.Cond.lays "WindingSquareModel" "WindingSquareModel" "bad" "I") ∈ lw_all := lw_g (lw_at lw_m6 188 rfl) rfl
theorem q1520 : (Jvm.Cond.soleField "WindingSquareModel" "bad") ∈ lw_all := lw_g (lw_at lw_m6 189 rfl) rfl
theorem q1521 : (Jvm.Cond.lays "WindingSquareModel" "WindingSquareModel" "badKind" "I") ∈ lw_all := lw_g (lw_at lw_m6 190 rfl) rfl
theorem q1522 : (Jvm.Cond.soleField "WindingSquareModel" "badKind") ∈ lw_all := lw_g (lw_at lw_m6 191 rfl) rfl
theorem q1523 : (Jvm.Cond.lays "WindingSquareModel" "WindingSquareModel" "opens" "I") ∈ lw_all := lw_g (lw_at lw_m6 192 rfl) rfl
theorem q1524 : (Jvm.Cond.soleField "WindingSquareModel" "opens") ∈ lw_all := lw_g (lw_at lw_m6 193 rfl) rfl
theorem q1525 : (Jvm.Cond.lays "WindingSquareModel" "WindingSquareModel" "fault0" "I") ∈ lw_all := lw_g (lw_at lw_m6 194 rfl) rfl
theorem q1526 : (Jvm.Cond.soleField "WindingSquareModel" "fault0") ∈ lw_all := lw_g (lw_at lw_m6 195 rfl) rfl
theorem q1527 : (Jvm.Cond.lays "WindingSquareModel" "WindingSquareModel" "faultAt" "I") ∈ lw_all := lw_g (lw_at lw_m6 196 rfl) rfl
theorem q1528 : (Jvm.Cond.soleField "WindingSquareModel" "faultAt") ∈ lw_all := lw_g (lw_at lw_m6 197 rfl) rfl
theorem q1529 : (Jvm.Cond.laysFinal "WindingSquareModel" "WindingSquareModel" "tape" "[I") ∈ lw_all := lw_g (lw_at lw_m6 198 rfl) rfl
theorem q1530 : (Jvm.Cond.soleField "WindingSquareModel" "tape") ∈ lw_all := lw_g (lw_at lw_m6 199 rfl) rfl
theorem q1531 : (Jvm.Cond.laysFinal "WindingSquareModel" "WindingSquareModel" "t" "[I") ∈ lw_all := lw_g (lw_at lw_m6 200 rfl) rfl
theorem q1532 : (Jvm.Cond.soleField "WindingSquareModel" "t") ∈ lw_all := lw_g (lw_at lw_m6 201 rfl) rfl
theorem q1533 : (Jvm.Cond.lays "WindingSquareModel" "WindingSquareModel" "codes" "I") ∈ lw_all := lw_g (lw_at lw_m6 202 rfl) rfl
theorem q1534 : (Jvm.Cond.soleField "WindingSquareModel" "codes") ∈ lw_all := lw_g (lw_at lw_m6 203 rfl) rfl
theorem q1535 : (Jvm.Cond.laysFinal "WindingSquareModel" "WindingSquareModel" "waits" "[I") ∈ lw_all := lw_g (lw_at lw_m6 204 rfl) rfl
theorem q1536 : (Jvm.Cond.soleField "WindingSquareModel" "waits") ∈ lw_all := lw_g (lw_at lw_m6 205 rfl) rfl
theorem q1537 : (Jvm.Cond.lays "WindingSquareModel" "WindingSquareModel" "waiting" "I") ∈ lw_all := lw_g (lw_at lw_m6 206 rfl) rfl
theorem q1538 : (Jvm.Cond.soleField "WindingSquareModel" "waiting") ∈ lw_all := lw_g (lw_at lw_m6 207 rfl) rfl
theorem q1539 : (Jvm.Cond.laysFinal "WindingSquareModel" "WindingSquareModel" "facts" "[I") ∈ lw_all := lw_g (lw_at lw_m6 208 rfl) rfl
theorem q1540 : (Jvm.Cond.soleField "WindingSquareModel" "facts") ∈ lw_all := lw_g (lw_at lw_m6 209 rfl) rfl
theorem q1541 : (Jvm.Cond.laysFinal "WindingSquareModel" "WindingSquareModel" "stack" "[I") ∈ lw_all := lw_g (lw_at lw_m6 210 rfl) rfl
theorem q1542 : (Jvm.Cond.soleField "WindingSquareModel" "stack") ∈ lw_all := lw_g (lw_at lw_m6 211 rfl) rfl
theorem q1543 : (Jvm.Cond.laysFinal "WindingSquareModel" "WindingSquareModel" "stepsBy" "[I") ∈ lw_all := lw_g (lw_at lw_m6 212 rfl) rfl
theorem q1544 : (Jvm.Cond.soleField "WindingSquareModel" "stepsBy") ∈ lw_all := lw_g (lw_at lw_m6 213 rfl) rfl
theorem q1545 : (Jvm.Cond.laysFinal "WindingSquareModel" "WindingSquareModel" "farBy" "[I") ∈ lw_all := lw_g (lw_at lw_m6 214 rfl) rfl
theorem q1546 : (Jvm.Cond.soleField "WindingSquareModel" "farBy") ∈ lw_all := lw_g (lw_at lw_m6 215 rfl) rfl
theorem q1547 : (Jvm.Cond.laysFinal "WindingSquareModel" "WindingSquareModel" "rowsBy" "[I") ∈ lw_all := lw_g (lw_at lw_m6 216 rfl) rfl
theorem q1548 : (Jvm.Cond.soleField "WindingSquareModel" "rowsBy") ∈ lw_all := lw_g (lw_at lw_m6 217 rfl) rfl
theorem q1549 : (Jvm.Cond.laysFinal "WindingSquareModel" "WindingSquareModel" "rowsThen" "[I") ∈ lw_all := lw_g (lw_at lw_m6 218 rfl) rfl
theorem q1550 : (Jvm.Cond.soleField "WindingSquareModel" "rowsThen") ∈ lw_all := lw_g (lw_at lw_m6 219 rfl) rfl
theorem q1551 : (Jvm.Cond.laysFinal "WindingSquareModel" "WindingSquareModel" "beenX" "[I") ∈ lw_all := lw_g (lw_at lw_m6 220 rfl) rfl
theorem q1552 : (Jvm.Cond.soleField "WindingSquareModel" "beenX") ∈ lw_all := lw_g (lw_at lw_m6 221 rfl) rfl
theorem q1553 : (Jvm.Cond.laysFinal "WindingSquareModel" "WindingSquareModel" "beenY" "[I") ∈ lw_all := lw_g (lw_at lw_m6 222 rfl) rfl
theorem q1554 : (Jvm.Cond.soleField "WindingSquareModel" "beenY") ∈ lw_all := lw_g (lw_at lw_m6 223 rfl) rfl
theorem q1555 : (Jvm.Cond.lays "WindingSquareModel" "WindingSquareModel" "been" "I") ∈ lw_all := lw_g (lw_at lw_m6 224 rfl) rfl
theorem q1556 : (Jvm.Cond.soleField "WindingSquareModel" "been") ∈ lw_all := lw_g (lw_at lw_m6 225 rfl) rfl
theorem q1557 : (Jvm.Cond.lays "WindingSquareModel" "WindingSquareModel" "wound" "I") ∈ lw_all := lw_g (lw_at lw_m6 226 rfl) rfl
theorem q1558 : (Jvm.Cond.soleField "WindingSquareModel" "wound") ∈ lw_all := lw_g (lw_at lw_m6 227 rfl) rfl
theorem q1559 : (Jvm.Cond.lays "WindingSquareModel" "WindingSquareModel" "twice" "I") ∈ lw_all := lw_g (lw_at lw_m6 228 rfl) rfl
theorem q1560 : (Jvm.Cond.soleField "WindingSquareModel" "twice") ∈ lw_all := lw_g (lw_at lw_m6 229 rfl) rfl
theorem q1561 : (Jvm.Cond.laysFinal "WindingSquareModel" "WindingSquareModel" "sideways" "[I") ∈ lw_all := lw_g (lw_at lw_m6 230 rfl) rfl
theorem q1562 : (Jvm.Cond.soleField "WindingSquareModel" "sideways") ∈ lw_all := lw_g (lw_at lw_m6 231 rfl) rfl
theorem q1563 : (Jvm.Cond.laysFinal "WindingSquareModel" "WindingSquareModel" "sidewaysThen" "[I") ∈ lw_all := lw_g (lw_at lw_m6 232 rfl) rfl
theorem q1564 : (Jvm.Cond.soleField "WindingSquareModel" "sidewaysThen") ∈ lw_all := lw_g (lw_at lw_m6 233 rfl) rfl
theorem q1565 : (Jvm.Cond.laysFinal "WindingSquareModel" "WindingSquareModel" "duelBy" "[I") ∈ lw_all := lw_g (lw_at lw_m6 234 rfl) rfl
theorem q1566 : (Jvm.Cond.soleField "WindingSquareModel" "duelBy") ∈ lw_all := lw_g (lw_at lw_m6 235 rfl) rfl
theorem q1567 : (Jvm.Cond.laysFinal "WindingSquareModel" "WindingSquareModel" "stoneAt" "[I") ∈ lw_all := lw_g (lw_at lw_m6 236 rfl) rfl
theorem q1568 : (Jvm.Cond.soleField "WindingSquareModel" "stoneAt") ∈ lw_all := lw_g (lw_at lw_m6 237 rfl) rfl
theorem q1569 : (Jvm.Cond.laysFinal "WindingSquareModel" "WindingSquareModel" "laid" "[I") ∈ lw_all := lw_g (lw_at lw_m6 238 rfl) rfl
theorem q1570 : (Jvm.Cond.soleField "WindingSquareModel" "laid") ∈ lw_all := lw_g (lw_at lw_m6 239 rfl) rfl
theorem q1571 : (Jvm.Cond.laysFinal "WindingSquareModel" "WindingSquareModel" "laidThen" "[I") ∈ lw_all := lw_g (lw_at lw_m7 0 rfl) rfl
theorem q1572 : (Jvm.Cond.soleField "WindingSquareModel" "laidThen") ∈ lw_all := lw_g (lw_at lw_m7 1 rfl) rfl
theorem q1573 : (Jvm.Cond.laysFinal "WindingSquareModel" "WindingSquareModel" "partBy" "[I") ∈ lw_all := lw_g (lw_at lw_m7 2 rfl) rfl
theorem q1574 : (Jvm.Cond.soleField "WindingSquareModel" "partBy") ∈ lw_all := lw_g (lw_at lw_m7 3 rfl) rfl
theorem q1575 : (Jvm.Cond.laysFinal "WindingSquareModel" "WindingSquareModel" "flockOf" "[I") ∈ lw_all := lw_g (lw_at lw_m7 4 rfl) rfl
theorem q1576 : (Jvm.Cond.soleField "WindingSquareModel" "flockOf") ∈ lw_all := lw_g (lw_at lw_m7 5 rfl) rfl
theorem q1577 : (Jvm.Cond.laysFinal "WindingSquareModel" "WindingSquareModel" "valueOf" "[I") ∈ lw_all := lw_g (lw_at lw_m7 6 rfl) rfl
theorem q1578 : (Jvm.Cond.soleField "WindingSquareModel" "valueOf") ∈ lw_all := lw_g (lw_at lw_m7 7 rfl) rfl
theorem q1579 : (Jvm.Cond.superclass "WindingSquareModel" "java/lang/Object") ∈ lw_all := lw_g (lw_at lw_m7 8 rfl) rfl
theorem q1581 : (Jvm.Cond.instanceMethod ({ cls := "WindingSquareModel", name := "feed", desc := "(IIIII)I" } : Jvm.MethodName)) ∈ lw_all := lw_g (lw_at lw_m7 10 rfl) rfl
theorem q1582 : (Jvm.Cond.selects "WindingSquareModel" ({ cls := "WindingSquareModel", name := "feed", desc := "(IIIII)I" } : Jvm.MethodName) ({ cls := "WindingSquareModel", name := "feed", desc := "(IIIII)I" } : Jvm.MethodName)) ∈ lw_all := lw_g (lw_at lw_m7 11 rfl) rfl
theorem q1583 : (Jvm.Cond.code ({ cls := "WindingSquareModel", name := "feed", desc := "(IIIII)I" } : Jvm.MethodName) prog_17_method_21_code (8 : Nat) (Option.some Jvm.ClassFile.FieldType.int)) ∈ lw_all := lw_g (lw_at lw_m7 12 rfl) rfl
theorem q1585 : (Jvm.Cond.instanceMethod ({ cls := "WindingSquareModel", name := "end", desc := "(I)Z" } : Jvm.MethodName)) ∈ lw_all := lw_g (lw_at lw_m7 14 rfl) rfl
theorem q1586 : (Jvm.Cond.selects "WindingSquareModel" ({ cls := "WindingSquareModel", name := "end", desc := "(I)Z" } : Jvm.MethodName) ({ cls := "WindingSquareModel", name := "end", desc := "(I)Z" } : Jvm.MethodName)) ∈ lw_all := lw_g (lw_at lw_m7 15 rfl) rfl
theorem q1587 : (Jvm.Cond.code ({ cls := "WindingSquareModel", name := "end", desc := "(I)Z" } : Jvm.MethodName) prog_17_method_22_code (2 : Nat) (Option.some Jvm.ClassFile.FieldType.boolean)) ∈ lw_all := lw_g (lw_at lw_m7 16 rfl) rfl
theorem q1588 : (Jvm.Cond.methodLink "WindingSquareModel" (100 : Nat) ({ cls := "WindingSquareModel", name := "within", desc := "(III)Z" } : Jvm.MethodName)) ∈ lw_all := lw_g (lw_at lw_m7 17 rfl) rfl
theorem q1589 : (Jvm.Cond.static ({ cls := "WindingSquareModel", name := "within", desc := "(III)Z" } : Jvm.MethodName)) ∈ lw_all := lw_g (lw_at lw_m7 18 rfl) rfl
theorem q1590 : (Jvm.Cond.code ({ cls := "WindingSquareModel", name := "within", desc := "(III)Z" } : Jvm.MethodName) prog_17_method_1_code (3 : Nat) (Option.some Jvm.ClassFile.FieldType.boolean)) ∈ lw_all := lw_g (lw_at lw_m7 19 rfl) rfl
theorem q1592 : (Jvm.Cond.instanceMethod ({ cls := "WindingSquareModel", name := "text", desc := "(I)I" } : Jvm.MethodName)) ∈ lw_all := lw_g (lw_at lw_m7 21 rfl) rfl
theorem q1593 : (Jvm.Cond.selects "WindingSquareModel" ({ cls := "WindingSquareModel", name := "text", desc := "(I)I" } : Jvm.MethodName) ({ cls := "WindingSquareModel", name := "text", desc := "(I)I" } : Jvm.MethodName)) ∈ lw_all := lw_g (lw_at lw_m7 22 rfl) rfl
theorem q1594 : (Jvm.Cond.code ({ cls := "WindingSquareModel", name := "text", desc := "(I)I" } : Jvm.MethodName) prog_17_method_36_code (4 : Nat) (Option.some Jvm.ClassFile.FieldType.int)) ∈ lw_all := lw_g (lw_at lw_m7 23 rfl) rfl
theorem q1595 : (Jvm.Cond.methodLink "WindingSquareModel" (86 : Nat) ({ cls := "WindingSquareModel", name := "copies", desc := "([I[II)V" } : Jvm.MethodName)) ∈ lw_all := lw_g (lw_at lw_m7 24 rfl) rfl
theorem q1596 : (Jvm.Cond.static ({ cls := "WindingSquareModel", name := "copies", desc := "([I[II)V" } : Jvm.MethodName)) ∈ lw_all := lw_g (lw_at lw_m7 25 rfl) rfl
theorem q1597 : (Jvm.Cond.code ({ cls := "WindingSquareModel", name := "copies", desc := "([I[II)V" } : Jvm.MethodName) prog_17_method_3_code (4 : Nat) (Option.none : Option Jvm.ClassFile.FieldType)) ∈ lw_all := lw_g (lw_at lw_m7 26 rfl) rfl
theorem q1598 : (Jvm.Cond.methodLink "WindingSquareModel" (149 : Nat) ({ cls := "WindingSquareModel", name := "fine", desc := "()Z" } : Jvm.MethodName)) ∈ lw_all := lw_g (lw_at lw_m7 27 rfl) rfl
theorem q1599 : (Jvm.Cond.privateMethod ({ cls := "WindingSquareModel", name := "fine", desc := "()Z" } : Jvm.MethodName)) ∈ lw_tbl := lw_at lw_m7 28 rfl
theorem q1600 : (Jvm.Cond.instanceMethod ({ cls := "WindingSquareModel", name := "fine", desc := "()Z" } : Jvm.MethodName)) ∈ lw_all := lw_g (lw_at lw_m7 29 rfl) rfl
theorem q1601 : (Jvm.Cond.code ({ cls := "WindingSquareModel", name := "fine", desc := "()Z" } : Jvm.MethodName) prog_17_method_23_code (1 : Nat) (Option.some Jvm.ClassFile.FieldType.boolean)) ∈ lw_all := lw_g (lw_at lw_m7 30 rfl) rfl
theorem q1602 : (Jvm.Cond.methodLink "WindingSquareModel" (138 : Nat) ({ cls := "WindingSquareModel", name := "here", desc := "()I" } : Jvm.MethodName)) ∈ lw_all := lw_g (lw_at lw_m7 31 rfl) rfl
theorem q1603 : (Jvm.Cond.privateMethod ({ cls := "WindingSquareModel", name := "here", desc := "()I" } : Jvm.MethodName)) ∈ lw_tbl := lw_at lw_m7 32 rfl
theorem q1604 : (Jvm.Cond.instanceMethod ({ cls := "WindingSquareModel", name := "here", desc := "()I" } : Jvm.MethodName)) ∈ lw_all := lw_g (lw_at lw_m7 33 rfl) rfl
theorem q1605 : (Jvm.Cond.code ({ cls := "WindingSquareModel", name := "here", desc := "()I" } : Jvm.MethodName) prog_17_method_25_code (1 : Nat) (Option.some Jvm.ClassFile.FieldType.int)) ∈ lw_all := lw_g (lw_at lw_m7 34 rfl) rfl
theorem q1606 : (Jvm.Cond.methodLink "WindingSquareModel" (175 : Nat) ({ cls := "WindingSquareModel", name := "readRule", desc := "(I)V" } : Jvm.MethodName)) ∈ lw_all := lw_g (lw_at lw_m7 35 rfl) rfl
theorem q1607 : (Jvm.Cond.privateMethod ({ cls := "WindingSquareModel", name := "readRule", desc := "(I)V" } : Jvm.MethodName)) ∈ lw_tbl := lw_at lw_m7 36 rfl
theorem q1608 : (Jvm.Cond.instanceMethod ({ cls := "WindingSquareModel", name := "readRule", desc := "(I)V" } : Jvm.MethodName)) ∈ lw_all := lw_g (lw_at lw_m7 37 rfl) rfl
theorem q1609 : (Jvm.Cond.code ({ cls := "WindingSquareModel", name := "readRule", desc := "(I)V" } : Jvm.MethodName) prog_17_method_44_code (8 : Nat) (Option.none : Option Jvm.ClassFile.FieldType)) ∈ lw_all := lw_g (lw_at lw_m7 38 rfl) rfl
theorem q1610 : (Jvm.Cond.methodLink "WindingSquareModel" (160 : Nat) ({ cls := "WindingSquareModel", name := "word", desc := "()I" } : Jvm.MethodName)) ∈ lw_all := lw_g (lw_at lw_m7 39 rfl) rfl
theorem q1611 : (Jvm.Cond.privateMethod ({ cls := "WindingSquareModel", name := "word", desc := "()I" } : Jvm.MethodName)) ∈ lw_tbl := lw_at lw_m7 40 rfl
theorem q1612 : (Jvm.Cond.instanceMethod ({ cls := "WindingSquareModel", name := "word", desc := "()I" } : Jvm.MethodName)) ∈ lw_all := lw_g (lw_at lw_m7 41 rfl) rfl
theorem q1613 : (Jvm.Cond.code ({ cls := "WindingSquareModel", name := "word", desc := "()I" } : Jvm.MethodName) prog_17_method_29_code (5 : Nat) (Option.some Jvm.ClassFile.FieldType.int)) ∈ lw_all := lw_g (lw_at lw_m7 42 rfl) rfl
theorem q1614 : (Jvm.Cond.methodLink "WindingSquareModel" (142 : Nat) ({ cls := "WindingSquareModel", name := "isLetter", desc := "(I)Z" } : Jvm.MethodName)) ∈ lw_all := lw_g (lw_at lw_m7 43 rfl) rfl
theorem q1615 : (Jvm.Cond.static ({ cls := "WindingSquareModel", name := "isLetter", desc := "(I)Z" } : Jvm.MethodName)) ∈ lw_all := lw_g (lw_at lw_m7 44 rfl) rfl
theorem q1616 : (Jvm.Cond.code ({ cls := "WindingSquareModel", name := "isLetter", desc := "(I)Z" } : Jvm.MethodName) prog_17_method_26_code (1 : Nat) (Option.some Jvm.ClassFile.FieldType.boolean)) ∈ lw_all := lw_g (lw_at lw_m7 45 rfl) rfl
theorem q1617 : (Jvm.Cond.methodLink "WindingSquareModel" (146 : Nat) ({ cls := "WindingSquareModel", name := "packed", desc := "(II)I" } : Jvm.MethodName)) ∈ lw_all := lw_g (lw_at lw_m7 46 rfl) rfl
theorem q1618 : (Jvm.Cond.static ({ cls := "WindingSquareModel", name := "packed", desc := "(II)I" } : Jvm.MethodName)) ∈ lw_all := lw_g (lw_at lw_m7 47 rfl) rfl
theorem q1619 : (Jvm.Cond.code ({ cls := "WindingSquareModel", name := "packed", desc := "(II)I" } : Jvm.MethodName) prog_17_method_28_code (2 : Nat) (Option.some Jvm.ClassFile.FieldType.int)) ∈ lw_all := lw_g (lw_at lw_m7 48 rfl) rfl
theorem q1620 : (Jvm.Cond.methodLink "WindingSquareModel" (194 : Nat) ({ cls := "WindingSquareModel", name := "spelt", desc := "(IIIIII)I" } : Jvm.MethodName)) ∈ lw_all := lw_g (lw_at lw_m7 49 rfl) rfl
theorem q1621 : (Jvm.Cond.static ({ cls := "WindingSquareModel", name := "spelt", desc := "(IIIIII)I" } : Jvm.MethodName)) ∈ lw_all := lw_g (lw_at lw_m7 50 rfl) rfl
theorem q1622 : (Jvm.Cond.code ({ cls := "WindingSquareModel", name := "spelt", desc := "(IIIIII)I" } : Jvm.MethodName) prog_17_method_30_code (7 : Nat) (Option.some Jvm.ClassFile.FieldType.int)) ∈ lw_all := lw_g (lw_at lw_m7 51 rfl) rfl
theorem q1623 : (Jvm.Cond.methodLink "WindingSquareModel" (198 : Nat) ({ cls := "WindingSquareModel", name := "mayBegin", desc := "(ZZ)V" } : Jvm.MethodName)) ∈ lw_all := lw_g (lw_at lw_m7 52 rfl) rfl
theorem q1624 : (Jvm.Cond.privateMethod ({ cls := "WindingSquareModel", name := "mayBegin", desc := "(ZZ)V" } : Jvm.MethodName)) ∈ lw_tbl := lw_at lw_m7 53 rfl
theorem q1625 : (Jvm.Cond.instanceMethod ({ cls := "WindingSquareModel", name := "mayBegin", desc := "(ZZ)V" } : Jvm.MethodName)) ∈ lw_all := lw_g (lw_at lw_m7 54 rfl) rfl
theorem q1626 : (Jvm.Cond.code ({ cls := "WindingSquareModel", name := "mayBegin", desc := "(ZZ)V" } : Jvm.MethodName) prog_17_method_35_code (3 : Nat) (Option.none : Option Jvm.ClassFile.FieldType)) ∈ lw_all := lw_g (lw_at lw_m7 55 rfl) rfl
theorem q1627 : (Jvm.Cond.methodLink "WindingSquareModel" (156 : Nat) ({ cls := "WindingSquareModel", name := "wrong", desc := "(II)V" } : Jvm.MethodName)) ∈ lw_all := lw_g (lw_at lw_m7 56 rfl) rfl
theorem q1628 : (Jvm.Cond.privateMethod ({ cls := "WindingSquareModel", name := "wrong", desc := "(II)V" } : Jvm.MethodName)) ∈ lw_tbl := lw_at lw_m7 57 rfl
theorem q1629 : (Jvm.Cond.instanceMethod ({ cls := "WindingSquareModel", name := "wrong", desc := "(II)V" } : Jvm.MethodName)) ∈ lw_all := lw_g (lw_at lw_m7 58 rfl) rfl
theorem q1630 : (Jvm.Cond.code ({ cls := "WindingSquareModel", name := "wrong", desc := "(II)V" } : Jvm.MethodName) prog_17_method_24_code (3 : Nat) (Option.none : Option Jvm.ClassFile.FieldType)) ∈ lw_all := lw_g (lw_at lw_m7 59 rfl) rfl
theorem q1631 : (Jvm.Cond.methodLink "WindingSquareModel" (163 : Nat) ({ cls := "WindingSquareModel", name := "pass", desc := "()V" } : Jvm.MethodName)) ∈ lw_all := lw_g (lw_at lw_m7 60 rfl) rfl
theorem q1632 : (Jvm.Cond.privateMethod ({ cls := "WindingSquareModel", name := "pass", desc := "()V" } : Jvm.MethodName)) ∈ lw_tbl := lw_at lw_m7 61 rfl
theorem q1633 : (Jvm.Cond.instanceMethod ({ cls := "WindingSquareModel", name := "pass", desc := "()V" } : Jvm.MethodName)) ∈ lw_all := lw_g (lw_at lw_m7 62 rfl) rfl
theorem q1634 : (Jvm.Cond.code ({ cls := "WindingSquareModel", name := "pass", desc := "()V" } : Jvm.MethodName) prog_17_method_31_code (1 : Nat) (Option.none : Option Jvm.ClassFile.FieldType)) ∈ lw_all := lw_g (lw_at lw_m7 63 rfl) rfl
theorem q1635 : (Jvm.Cond.methodLink "WindingSquareModel" (208 : Nat) ({ cls := "WindingSquareModel", name := "readSum", desc := "()V" } : Jvm.MethodName)) ∈ lw_all := lw_g (lw_at lw_m7 64 rfl) rfl
theorem q1636 : (Jvm.Cond.privateMethod ({ cls := "WindingSquareModel", name := "readSum", desc := "()V" } : Jvm.MethodName)) ∈ lw_tbl := lw_at lw_m7 65 rfl
theorem q1637 : (Jvm.Cond.instanceMethod ({ cls := "WindingSquareModel", name := "readSum", desc := "()V" } : Jvm.MethodName)) ∈ lw_all := lw_g (lw_at lw_m7 66 rfl) rfl
theorem q1638 : (Jvm.Cond.code ({ cls := "WindingSquareModel", name := "readSum", desc := "()V" } : Jvm.MethodName) prog_17_method_51_code (2 : Nat) (Option.none : Option Jvm.ClassFile.FieldType)) ∈ lw_all := lw_g (lw_at lw_m7 67 rfl) rfl
theorem q1639 : (Jvm.Cond.methodLink "WindingSquareModel" (234 : Nat) ({ cls := "WindingSquareModel", name := "readPart", desc := "()V" } : Jvm.MethodName)) ∈ lw_all := lw_g (lw_at lw_m7 68 rfl) rfl
theorem q1640 : (Jvm.Cond.privateMethod ({ cls := "WindingSquareModel", name := "readPart", desc := "()V" } : Jvm.MethodName)) ∈ lw_tbl := lw_at lw_m7 69 rfl
theorem q1641 : (Jvm.Cond.instanceMethod ({ cls := "WindingSquareModel", name := "readPart", desc := "()V" } : Jvm.MethodName)) ∈ lw_all := lw_g (lw_at lw_m7 70 rfl) rfl
theorem q1642 : (Jvm.Cond.code ({ cls := "WindingSquareModel", name := "readPart", desc := "()V" } : Jvm.MethodName) prog_17_method_52_code (2 : Nat) (Option.none : Option Jvm.ClassFile.FieldType)) ∈ lw_all := lw_g (lw_at lw_m7 71 rfl) rfl
theorem q1643 : (Jvm.Cond.methodLink "WindingSquareModel" (237 : Nat) ({ cls := "WindingSquareModel", name := "readUnit", desc := "()V" } : Jvm.MethodName)) ∈ lw_all := lw_g (lw_at lw_m7 72 rfl) rfl
theorem q1644 : (Jvm.Cond.privateMethod ({ cls := "WindingSquareModel", name := "readUnit", desc := "()V" } : Jvm.MethodName)) ∈ lw_tbl := lw_at lw_m7 73 rfl
theorem q1645 : (Jvm.Cond.instanceMethod ({ cls := "WindingSquareModel", name := "readUnit", desc := "()V" } : Jvm.MethodName)) ∈ lw_all := lw_g (lw_at lw_m7 74 rfl) rfl
theorem q1646 : (Jvm.Cond.code ({ cls := "WindingSquareModel", name := "readUnit", desc := "()V" } : Jvm.MethodName) prog_17_method_54_code (2 : Nat) (Option.none : Option Jvm.ClassFile.FieldType)) ∈ lw_all := lw_g (lw_at lw_m7 75 rfl) rfl
theorem q1647 : (Jvm.Cond.methodLink "WindingSquareModel" (153 : Nat) ({ cls := "WindingSquareModel", name := "isDigit", desc := "(I)Z" } : Jvm.MethodName)) ∈ lw_all := lw_g (lw_at lw_m7 76 rfl) rfl
theorem q1648 : (Jvm.Cond.static ({ cls := "WindingSquareModel", name := "isDigit", desc := "(I)Z" } : Jvm.MethodName)) ∈ lw_all := lw_g (lw_at lw_m7 77 rfl) rfl
theorem q1649 : (Jvm.Cond.code ({ cls := "WindingSquareModel", name := "isDigit", desc := "(I)Z" } : Jvm.MethodName) prog_17_method_27_code (1 : Nat) (Option.some Jvm.ClassFile.FieldType.boolean)) ∈ lw_all := lw_g (lw_at lw_m7 78 rfl) rfl
theorem q1650 : (Jvm.Cond.methodLink "WindingSquareModel" (202 : Nat) ({ cls := "WindingSquareModel", name := "number", desc := "(II)I" } : Jvm.MethodName)) ∈ lw_all := lw_g (lw_at lw_m7 79 rfl) rfl
theorem q1651 : (Jvm.Cond.privateMethod ({ cls := "WindingSquareModel", name := "number", desc := "(II)I" } : Jvm.MethodName)) ∈ lw_tbl := lw_at lw_m7 80 rfl
theorem q1652 : (Jvm.Cond.instanceMethod ({ cls := "WindingSquareModel", name := "number", desc := "(II)I" } : Jvm.MethodName)) ∈ lw_all := lw_g (lw_at lw_m7 81 rfl) rfl
theorem q1653 : (Jvm.Cond.code ({ cls := "WindingSquareModel", name := "number", desc := "(II)I" } : Jvm.MethodName) prog_17_method_32_code (6 : Nat) (Option.some Jvm.ClassFile.FieldType.int)) ∈ lw_all := lw_g (lw_at lw_m7 82 rfl) rfl
theorem q1654 : (Jvm.Cond.methodLink "WindingSquareModel" (217 : Nat) ({ cls := "WindingSquareModel", name := "codes", desc := "(II)V" } : Jvm.MethodName)) ∈ lw_all := lw_g (lw_at lw_m7 83 rfl) rfl
theorem q1655 : (Jvm.Cond.privateMethod ({ cls := "WindingSquareModel", name := "codes", desc := "(II)V" } : Jvm.MethodName)) ∈ lw_tbl := lw_at lw_m7 84 rfl
theorem q1656 : (Jvm.Cond.instanceMethod ({ cls := "WindingSquareModel", name := "codes", desc := "(II)V" } : Jvm.MethodName)) ∈ lw_all := lw_g (lw_at lw_m7 85 rfl) rfl
theorem q1657 : (Jvm.Cond.code ({ cls := "WindingSquareModel", name := "codes", desc := "(II)V" } : Jvm.MethodName) prog_17_method_43_code (3 : Nat) (Option.none : Option Jvm.ClassFile.FieldType)) ∈ lw_all := lw_g (lw_at lw_m7 86 rfl) rfl
theorem q1658 : (Jvm.Cond.methodLink "WindingSquareModel" (240 : Nat) ({ cls := "WindingSquareModel", name := "factOf", desc := "(I)I" } : Jvm.MethodName)) ∈ lw_all := lw_g (lw_at lw_m7 87 rfl) rfl
theorem q1659 : (Jvm.Cond.static ({ cls := "WindingSquareModel", name := "factOf", desc := "(I)I" } : Jvm.MethodName)) ∈ lw_all := lw_g (lw_at lw_m7 88 rfl) rfl
theorem q1660 : (Jvm.Cond.code ({ cls := "WindingSquareModel", name := "factOf", desc := "(I)I" } : Jvm.MethodName) prog_17_method_53_code (1 : Nat) (Option.some Jvm.ClassFile.FieldType.int)) ∈ lw_all := lw_g (lw_at lw_m7 89 rfl) rfl
theorem q1661 : (Jvm.Cond.methodLink "WindingSquareModel" (211 : Nat) ({ cls := "WindingSquareModel", name := "readEither", desc := "()V" } : Jvm.MethodName)) ∈ lw_all := lw_g (lw_at lw_m7 90 rfl) rfl
theorem q1662 : (Jvm.Cond.privateMethod ({ cls := "WindingSquareModel", name := "readEither", desc := "()V" } : Jvm.MethodName)) ∈ lw_tbl := lw_at lw_m7 91 rfl
theorem q1663 : (Jvm.Cond.instanceMethod ({ cls := "WindingSquareModel", name := "readEither", desc := "()V" } : Jvm.MethodName)) ∈ lw_all := lw_g (lw_at lw_m7 92 rfl) rfl
theorem q1664 : (Jvm.Cond.code ({ cls := "WindingSquareModel", name := "readEither", desc := "()V" } : Jvm.MethodName) prog_17_method_50_code (2 : Nat) (Option.none : Option Jvm.ClassFile.FieldType)) ∈ lw_all := lw_g (lw_at lw_m7 93 rfl) rfl
theorem q1665 : (Jvm.Cond.methodLink "WindingSquareModel" (225 : Nat) ({ cls := "WindingSquareModel", name := "readOpening", desc := "()V" } : Jvm.MethodName)) ∈ lw_all := lw_g (lw_at lw_m7 94 rfl) rfl
theorem q1666 : (Jvm.Cond.privateMethod ({ cls := "WindingSquareModel", name := "readOpening", desc := "()V" } : Jvm.MethodName)) ∈ lw_tbl := lw_at lw_m7 95 rfl
theorem q1667 : (Jvm.Cond.instanceMethod ({ cls := "WindingSquareModel", name := "readOpening", desc := "()V" } : Jvm.MethodName)) ∈ lw_all := lw_g (lw_at lw_m7 96 rfl) rfl
theorem q1668 : (Jvm.Cond.code ({ cls := "WindingSquareModel", name := "readOpening", desc := "()V" } : Jvm.MethodName) prog_17_method_47_code (2 : Nat) (Option.none : Option Jvm.ClassFile.FieldType)) ∈ lw_all := lw_g (lw_at lw_m7 97 rfl) rfl
theorem q1669 : (Jvm.Cond.methodLink "WindingSquareModel" (219 : Nat) ({ cls := "WindingSquareModel", name := "opensOne", desc := "(I)V" } : Jvm.MethodName)) ∈ lw_all := lw_g (lw_at lw_m7 98 rfl) rfl
theorem q1670 : (Jvm.Cond.privateMethod ({ cls := "WindingSquareModel", name := "opensOne", desc := "(I)V" } : Jvm.MethodName)) ∈ lw_tbl := lw_at lw_m7 99 rfl
theorem q1671 : (Jvm.Cond.instanceMethod ({ cls := "WindingSquareModel", name := "opensOne", desc := "(I)V" } : Jvm.MethodName)) ∈ lw_all := lw_g (lw_at lw_m7 100 rfl) rfl
theorem q1672 : (Jvm.Cond.code ({ cls := "WindingSquareModel", name := "opensOne", desc := "(I)V" } : Jvm.MethodName) prog_17_method_45_code (2 : Nat) (Option.none : Option Jvm.ClassFile.FieldType)) ∈ lw_all := lw_g (lw_at lw_m7 101 rfl) rfl
theorem q1673 : (Jvm.Cond.methodLink "WindingSquareModel" (188 : Nat) ({ cls := "WindingSquareModel", name := "sign", desc := "(I)V" } : Jvm.MethodName)) ∈ lw_all := lw_g (lw_at lw_m7 102 rfl) rfl
theorem q1674 : (Jvm.Cond.privateMethod ({ cls := "WindingSquareModel", name := "sign", desc := "(I)V" } : Jvm.MethodName)) ∈ lw_tbl := lw_at lw_m7 103 rfl
theorem q1675 : (Jvm.Cond.instanceMethod ({ cls := "WindingSquareModel", name := "sign", desc := "(I)V" } : Jvm.MethodName)) ∈ lw_all := lw_g (lw_at lw_m7 104 rfl) rfl
theorem q1676 : (Jvm.Cond.code ({ cls := "WindingSquareModel", name := "sign", desc := "(I)V" } : Jvm.MethodName) prog_17_method_33_code (2 : Nat) (Option.none : Option Jvm.ClassFile.FieldType)) ∈ lw_all := lw_g (lw_at lw_m7 105 rfl) rfl
theorem q1677 : (Jvm.Cond.methodLink "WindingSquareModel" (228 : Nat) ({ cls := "WindingSquareModel", name := "readTwo", desc := "()V" } : Jvm.MethodName)) ∈ lw_all := lw_g (lw_at lw_m7 106 rfl) rfl
theorem q1678 : (Jvm.Cond.privateMethod ({ cls := "WindingSquareModel", name := "readTwo", desc := "()V" } : Jvm.MethodName)) ∈ lw_tbl := lw_at lw_m7 107 rfl
theorem q1679 : (Jvm.Cond.instanceMethod ({ cls := "WindingSquareModel", name := "readTwo", desc := "()V" } : Jvm.MethodName)) ∈ lw_all := lw_g (lw_at lw_m7 108 rfl) rfl
theorem q1680 : (Jvm.Cond.code ({ cls := "WindingSquareModel", name := "readTwo", desc := "()V" } : Jvm.MethodName) prog_17_method_48_code (2 : Nat) (Option.none : Option Jvm.ClassFile.FieldType)) ∈ lw_all := lw_g (lw_at lw_m7 109 rfl) rfl
theorem q1681 : (Jvm.Cond.methodLink "WindingSquareModel" (231 : Nat) ({ cls := "WindingSquareModel", name := "goesOnWith", desc := "()Z" } : Jvm.MethodName)) ∈ lw_all := lw_g (lw_at lw_m7 110 rfl) rfl
theorem q1682 : (Jvm.Cond.privateMethod ({ cls := "WindingSquareModel", name := "goesOnWith", desc := "()Z" } : Jvm.MethodName)) ∈ lw_tbl := lw_at lw_m7 111 rfl
theorem q1683 : (Jvm.Cond.instanceMethod ({ cls := "WindingSquareModel", name := "goesOnWith", desc := "()Z" } : Jvm.MethodName)) ∈ lw_all := lw_g (lw_at lw_m7 112 rfl) rfl
theorem q1684 : (Jvm.Cond.code ({ cls := "WindingSquareModel", name := "goesOnWith", desc := "()Z" } : Jvm.MethodName) prog_17_method_49_code (1 : Nat) (Option.some Jvm.ClassFile.FieldType.boolean)) ∈ lw_all := lw_g (lw_at lw_m7 113 rfl) rfl
theorem q1685 : (Jvm.Cond.methodLink "WindingSquareModel" (222 : Nat) ({ cls := "WindingSquareModel", name := "closes", desc := "(I)V" } : Jvm.MethodName)) ∈ lw_all := lw_g (lw_at lw_m7 114 rfl) rfl
theorem q1686 : (Jvm.Cond.privateMethod ({ cls := "WindingSquareModel", name := "closes", desc := "(I)V" } : Jvm.MethodName)) ∈ lw_tbl := lw_at lw_m7 115 rfl
theorem q1687 : (Jvm.Cond.instanceMethod ({ cls := "WindingSquareModel", name := "closes", desc := "(I)V" } : Jvm.MethodName)) ∈ lw_all := lw_g (lw_at lw_m7 116 rfl) rfl
theorem q1688 : (Jvm.Cond.code ({ cls := "WindingSquareModel", name := "closes", desc := "(I)V" } : Jvm.MethodName) prog_17_method_46_code (2 : Nat) (Option.none : Option Jvm.ClassFile.FieldType)) ∈ lw_all := lw_g (lw_at lw_m7 117 rfl) rfl
theorem q1689 : (Jvm.Cond.methodLink "WindingSquareModel" (179 : Nat) ({ cls := "WindingSquareModel", name := "readStones", desc := "(I)V" } : Jvm.MethodName)) ∈ lw_all := lw_g (lw_at lw_m7 118 rfl) rfl
theorem q1690 : (Jvm.Cond.privateMethod ({ cls := "WindingSquareModel", name := "readStones", desc := "(I)V" } : Jvm.MethodName)) ∈ lw_tbl := lw_at lw_m7 119 rfl
theorem q1691 : (Jvm.Cond.instanceMethod ({ cls := "WindingSquareModel", name := "readStones", desc := "(I)V" } : Jvm.MethodName)) ∈ lw_all := lw_g (lw_at lw_m7 120 rfl) rfl
theorem q1692 : (Jvm.Cond.code ({ cls := "WindingSquareModel", name := "readStones", desc := "(I)V" } : Jvm.MethodName) prog_17_method_39_code (10 : Nat) (Option.none : Option Jvm.ClassFile.FieldType)) ∈ lw_all := lw_g (lw_at lw_m7 121 rfl) rfl
theorem q1693 : (Jvm.Cond.methodLink "WindingSquareModel" (182 : Nat) ({ cls := "WindingSquareModel", name := "readWay", desc := "(I)V" } : Jvm.MethodName)) ∈ lw_all := lw_g (lw_at lw_m7 122 rfl) rfl
theorem q1694 : (Jvm.Cond.privateMethod ({ cls := "WindingSquareModel", name := "readWay", desc := "(I)V" } : Jvm.MethodName)) ∈ lw_tbl := lw_at lw_m7 123 rfl
theorem q1695 : (Jvm.Cond.instanceMethod ({ cls := "WindingSquareModel", name := "readWay", desc := "(I)V" } : Jvm.MethodName)) ∈ lw_all := lw_g (lw_at lw_m7 124 rfl) rfl
theorem q1696 : (Jvm.Cond.code ({ cls := "WindingSquareModel", name := "readWay", desc := "(I)V" } : Jvm.MethodName) prog_17_method_41_code (7 : Nat) (Option.none : Option Jvm.ClassFile.FieldType)) ∈ lw_all := lw_g (lw_at lw_m7 125 rfl) rfl
theorem q1697 : (Jvm.Cond.methodLink "WindingSquareModel" (205 : Nat) ({ cls := "WindingSquareModel", name := "wayWord", desc := "(I)I" } : Jvm.MethodName)) ∈ lw_all := lw_g (lw_at lw_m7 126 rfl) rfl
theorem q1698 : (Jvm.Cond.static ({ cls := "WindingSquareModel", name := "wayWord", desc := "(I)I" } : Jvm.MethodName)) ∈ lw_all := lw_g (lw_at lw_m7 127 rfl) rfl
theorem q1699 : (Jvm.Cond.code ({ cls := "WindingSquareModel", name := "wayWord", desc := "(I)I" } : Jvm.MethodName) prog_17_method_40_code (1 : Nat) (Option.some Jvm.ClassFile.FieldType.int)) ∈ lw_all := lw_g (lw_at lw_m7 128 rfl) rfl
theorem q1700 : (Jvm.Cond.methodLink "WindingSquareModel" (185 : Nat) ({ cls := "WindingSquareModel", name := "readHour", desc := "(I)V" } : Jvm.MethodName)) ∈ lw_all := lw_g (lw_at lw_m7 129 rfl) rfl
theorem q1701 : (Jvm.Cond.privateMethod ({ cls := "WindingSquareModel", name := "readHour", desc := "(I)V" } : Jvm.MethodName)) ∈ lw_tbl := lw_at lw_m7 130 rfl
theorem q1702 : (Jvm.Cond.instanceMethod ({ cls := "WindingSquareModel", name := "readHour", desc := "(I)V" } : Jvm.MethodName)) ∈ lw_all := lw_g (lw_at lw_m7 131 rfl) rfl
theorem q1703 : (Jvm.Cond.code ({ cls := "WindingSquareModel", name := "readHour", desc := "(I)V" } : Jvm.MethodName) prog_17_method_42_code (5 : Nat) (Option.none : Option Jvm.ClassFile.FieldType)) ∈ lw_all := lw_g (lw_at lw_m7 132 rfl) rfl
theorem q1704 : (Jvm.Cond.methodLink "WindingSquareModel" (191 : Nat) ({ cls := "WindingSquareModel", name := "drivesOut", desc := "()V" } : Jvm.MethodName)) ∈ lw_all := lw_g (lw_at lw_m7 133 rfl) rfl
theorem q1705 : (Jvm.Cond.privateMethod ({ cls := "WindingSquareModel", name := "drivesOut", desc := "()V" } : Jvm.MethodName)) ∈ lw_tbl := lw_at lw_m7 134 rfl
theorem q1706 : (Jvm.Cond.instanceMethod ({ cls := "WindingSquareModel", name := "drivesOut", desc := "()V" } : Jvm.MethodName)) ∈ lw_all := lw_g (lw_at lw_m7 135 rfl) rfl
theorem q1707 : (Jvm.Cond.code ({ cls := "WindingSquareModel", name := "drivesOut", desc := "()V" } : Jvm.MethodName) prog_17_method_37_code (3 : Nat) (Option.none : Option Jvm.ClassFile.FieldType)) ∈ lw_all := lw_g (lw_at lw_m7 136 rfl) rfl
theorem q1708 : (Jvm.Cond.methodLink "WindingSquareModel" (108 : Nat) ({ cls := "WindingSquareModel", name := "place", desc := "(II)I" } : Jvm.MethodName)) ∈ lw_all := lw_g (lw_at lw_m7 137 rfl) rfl
theorem q1709 : (Jvm.Cond.static ({ cls := "WindingSquareModel", name := "place", desc := "(II)I" } : Jvm.MethodName)) ∈ lw_all := lw_g (lw_at lw_m7 138 rfl) rfl
theorem q1710 : (Jvm.Cond.code ({ cls := "WindingSquareModel", name := "place", desc := "(II)I" } : Jvm.MethodName) prog_17_method_8_code (2 : Nat) (Option.some Jvm.ClassFile.FieldType.int)) ∈ lw_all := lw_g (lw_at lw_m7 139 rfl) rfl
theorem q1712 : (Jvm.Cond.instanceMethod ({ cls := "WindingSquareModel", name := "fault", desc := "(I)I" } : Jvm.MethodName)) ∈ lw_all := lw_g (lw_at lw_m7 141 rfl) rfl
theorem q1713 : (Jvm.Cond.selects "WindingSquareModel" ({ cls := "WindingSquareModel", name := "fault", desc := "(I)I" } : Jvm.MethodName) ({ cls := "WindingSquareModel", name := "fault", desc := "(I)I" } : Jvm.MethodName)) ∈ lw_all := lw_g (lw_at lw_m7 142 rfl) rfl
theorem q1714 : (Jvm.Cond.code ({ cls := "WindingSquareModel", name := "fault", desc := "(I)I" } : Jvm.MethodName) prog_17_method_38_code (2 : Nat) (Option.some Jvm.ClassFile.FieldType.int)) ∈ lw_all := lw_g (lw_at lw_m7 143 rfl) rfl
theorem q1716 : (Jvm.Cond.instanceMethod ({ cls := "WindingSquareModel", name := "minutes", desc := "(I)I" } : Jvm.MethodName)) ∈ lw_all := lw_g (lw_at lw_m7 145 rfl) rfl
theorem q1717 : (Jvm.Cond.selects "WindingSquareModel" ({ cls := "WindingSquareModel", name := "minutes", desc := "(I)I" } : Jvm.MethodName) ({ cls := "WindingSquareModel", name := "minutes", desc := "(I)I" } : Jvm.MethodName)) ∈ lw_all := lw_g (lw_at lw_m7 146 rfl) rfl
theorem q1718 : (Jvm.Cond.code ({ cls := "WindingSquareModel", name := "minutes", desc := "(I)I" } : Jvm.MethodName) prog_17_method_70_code (4 : Nat) (Option.some Jvm.ClassFile.FieldType.int)) ∈ lw_all := lw_g (lw_at lw_m7 147 rfl) rfl
theorem q1719 : (Jvm.Cond.methodLink "WindingSquareModel" (310 : Nat) ({ cls := "WindingSquareModel", name := "begins", desc := "()V" } : Jvm.MethodName)) ∈ lw_all := lw_g (lw_at lw_m7 148 rfl) rfl
theorem q1720 : (Jvm.Cond.privateMethod ({ cls := "WindingSquareModel", name := "begins", desc := "()V" } : Jvm.MethodName)) ∈ lw_tbl := lw_at lw_m7 149 rfl
theorem q1721 : (Jvm.Cond.instanceMethod ({ cls := "WindingSquareModel", name := "begins", desc := "()V" } : Jvm.MethodName)) ∈ lw_all := lw_g (lw_at lw_m7 150 rfl) rfl
theorem q1722 : (Jvm.Cond.code ({ cls := "WindingSquareModel", name := "begins", desc := "()V" } : Jvm.MethodName) prog_17_method_6_code (1 : Nat) (Option.none : Option Jvm.ClassFile.FieldType)) ∈ lw_all := lw_g (lw_at lw_m7 151 rfl) rfl
theorem q1723 : (Jvm.Cond.methodLink "WindingSquareModel" (313 : Nat) ({ cls := "WindingSquareModel", name := "goesMinute", desc := "()V" } : Jvm.MethodName)) ∈ lw_all := lw_g (lw_at lw_m7 152 rfl) rfl
theorem q1724 : (Jvm.Cond.privateMethod ({ cls := "WindingSquareModel", name := "goesMinute", desc := "()V" } : Jvm.MethodName)) ∈ lw_tbl := lw_at lw_m7 153 rfl
theorem q1725 : (Jvm.Cond.instanceMethod ({ cls := "WindingSquareModel", name := "goesMinute", desc := "()V" } : Jvm.MethodName)) ∈ lw_all := lw_g (lw_at lw_m7 154 rfl) rfl
theorem q1726 : (Jvm.Cond.code ({ cls := "WindingSquareModel", name := "goesMinute", desc := "()V" } : Jvm.MethodName) prog_17_method_68_code (3 : Nat) (Option.none : Option Jvm.ClassFile.FieldType)) ∈ lw_all := lw_g (lw_at lw_m7 155 rfl) rfl
theorem q1727 : (Jvm.Cond.methodLink "WindingSquareModel" (104 : Nat) ({ cls := "WindingSquareModel", name := "has", desc := "(II)I" } : Jvm.MethodName)) ∈ lw_all := lw_g (lw_at lw_m7 156 rfl) rfl
theorem q1728 : (Jvm.Cond.privateMethod ({ cls := "WindingSquareModel", name := "has", desc := "(II)I" } : Jvm.MethodName)) ∈ lw_tbl := lw_at lw_m7 157 rfl
theorem q1729 : (Jvm.Cond.instanceMethod ({ cls := "WindingSquareModel", name := "has", desc := "(II)I" } : Jvm.MethodName)) ∈ lw_all := lw_g (lw_at lw_m7 158 rfl) rfl
theorem q1730 : (Jvm.Cond.code ({ cls := "WindingSquareModel", name := "has", desc := "(II)I" } : Jvm.MethodName) prog_17_method_12_code (3 : Nat) (Option.some Jvm.ClassFile.FieldType.int)) ∈ lw_all := lw_g (lw_at lw_m7 159 rfl) rfl
theorem q1731 : (Jvm.Cond.methodLink "WindingSquareModel" (301 : Nat) ({ cls := "WindingSquareModel", name := "nextWord", desc := "(I)I" } : Jvm.MethodName)) ∈ lw_all := lw_g (lw_at lw_m7 160 rfl) rfl
theorem q1732 : (Jvm.Cond.privateMethod ({ cls := "WindingSquareModel", name := "nextWord", desc := "(I)I" } : Jvm.MethodName)) ∈ lw_tbl := lw_at lw_m7 161 rfl
theorem q1733 : (Jvm.Cond.instanceMethod ({ cls := "WindingSquareModel", name := "nextWord", desc := "(I)I" } : Jvm.MethodName)) ∈ lw_all := lw_g (lw_at lw_m7 162 rfl) rfl
theorem q1734 : (Jvm.Cond.code ({ cls := "WindingSquareModel", name := "nextWord", desc := "(I)I" } : Jvm.MethodName) prog_17_method_62_code (5 : Nat) (Option.some Jvm.ClassFile.FieldType.int)) ∈ lw_all := lw_g (lw_at lw_m7 163 rfl) rfl
theorem q1735 : (Jvm.Cond.methodLink "WindingSquareModel" (270 : Nat) ({ cls := "WindingSquareModel", name := "adds", desc := "(III)V" } : Jvm.MethodName)) ∈ lw_all := lw_g (lw_at lw_m7 164 rfl) rfl
theorem q1736 : (Jvm.Cond.privateMethod ({ cls := "WindingSquareModel", name := "adds", desc := "(III)V" } : Jvm.MethodName)) ∈ lw_tbl := lw_at lw_m7 165 rfl
theorem q1737 : (Jvm.Cond.instanceMethod ({ cls := "WindingSquareModel", name := "adds", desc := "(III)V" } : Jvm.MethodName)) ∈ lw_all := lw_g (lw_at lw_m7 166 rfl) rfl
theorem q1738 : (Jvm.Cond.code ({ cls := "WindingSquareModel", name := "adds", desc := "(III)V" } : Jvm.MethodName) prog_17_method_14_code (4 : Nat) (Option.none : Option Jvm.ClassFile.FieldType)) ∈ lw_all := lw_g (lw_at lw_m7 167 rfl) rfl
theorem q1739 : (Jvm.Cond.methodLink "WindingSquareModel" (304 : Nat) ({ cls := "WindingSquareModel", name := "turnsRound", desc := "(II)V" } : Jvm.MethodName)) ∈ lw_all := lw_g (lw_at lw_m7 168 rfl) rfl
theorem q1740 : (Jvm.Cond.privateMethod ({ cls := "WindingSquareModel", name := "turnsRound", desc := "(II)V" } : Jvm.MethodName)) ∈ lw_tbl := lw_at lw_m7 169 rfl
theorem q1741 : (Jvm.Cond.instanceMethod ({ cls := "WindingSquareModel", name := "turnsRound", desc := "(II)V" } : Jvm.MethodName)) ∈ lw_all := lw_g (lw_at lw_m7 170 rfl) rfl
theorem q1742 : (Jvm.Cond.code ({ cls := "WindingSquareModel", name := "turnsRound", desc := "(II)V" } : Jvm.MethodName) prog_17_method_64_code (4 : Nat) (Option.none : Option Jvm.ClassFile.FieldType)) ∈ lw_all := lw_g (lw_at lw_m7 171 rfl) rfl
theorem q1743 : (Jvm.Cond.methodLink "WindingSquareModel" (263 : Nat) ({ cls := "WindingSquareModel", name := "turned", desc := "(II)I" } : Jvm.MethodName)) ∈ lw_all := lw_g (lw_at lw_m7 172 rfl) rfl
theorem q1744 : (Jvm.Cond.static ({ cls := "WindingSquareModel", name := "turned", desc := "(II)I" } : Jvm.MethodName)) ∈ lw_all := lw_g (lw_at lw_m7 173 rfl) rfl
theorem q1745 : (Jvm.Cond.code ({ cls := "WindingSquareModel", name := "turned", desc := "(II)I" } : Jvm.MethodName) prog_17_method_63_code (2 : Nat) (Option.some Jvm.ClassFile.FieldType.int)) ∈ lw_all := lw_g (lw_at lw_m7 174 rfl) rfl
theorem q1746 : (Jvm.Cond.methodLink "WindingSquareModel" (266 : Nat) ({ cls := "WindingSquareModel", name := "sets", desc := "(III)V" } : Jvm.MethodName)) ∈ lw_all := lw_g (lw_at lw_m7 175 rfl) rfl
theorem q1747 : (Jvm.Cond.privateMethod ({ cls := "WindingSquareModel", name := "sets", desc := "(III)V" } : Jvm.MethodName)) ∈ lw_tbl := lw_at lw_m7 176 rfl
theorem q1748 : (Jvm.Cond.instanceMethod ({ cls := "WindingSquareModel", name := "sets", desc := "(III)V" } : Jvm.MethodName)) ∈ lw_all := lw_g (lw_at lw_m7 177 rfl) rfl
theorem q1749 : (Jvm.Cond.code ({ cls := "WindingSquareModel", name := "sets", desc := "(III)V" } : Jvm.MethodName) prog_17_method_13_code (4 : Nat) (Option.none : Option Jvm.ClassFile.FieldType)) ∈ lw_all := lw_g (lw_at lw_m7 178 rfl) rfl
theorem q1750 : (Jvm.Cond.methodLink "WindingSquareModel" (111 : Nat) ({ cls := "WindingSquareModel", name := "standsAt", desc := "(I)I" } : Jvm.MethodName)) ∈ lw_all := lw_g (lw_at lw_m7 179 rfl) rfl
theorem q1751 : (Jvm.Cond.privateMethod ({ cls := "WindingSquareModel", name := "standsAt", desc := "(I)I" } : Jvm.MethodName)) ∈ lw_tbl := lw_at lw_m7 180 rfl
theorem q1752 : (Jvm.Cond.instanceMethod ({ cls := "WindingSquareModel", name := "standsAt", desc := "(I)I" } : Jvm.MethodName)) ∈ lw_all := lw_g (lw_at lw_m7 181 rfl) rfl
theorem q1753 : (Jvm.Cond.code ({ cls := "WindingSquareModel", name := "standsAt", desc := "(I)I" } : Jvm.MethodName) prog_17_method_15_code (2 : Nat) (Option.some Jvm.ClassFile.FieldType.int)) ∈ lw_all := lw_g (lw_at lw_m7 182 rfl) rfl
theorem q1754 : (Jvm.Cond.methodLink "WindingSquareModel" (273 : Nat) ({ cls := "WindingSquareModel", name := "writes", desc := "(III)V" } : Jvm.MethodName)) ∈ lw_all := lw_g (lw_at lw_m7 183 rfl) rfl
theorem q1755 : (Jvm.Cond.privateMethod ({ cls := "WindingSquareModel", name := "writes", desc := "(III)V" } : Jvm.MethodName)) ∈ lw_tbl := lw_at lw_m7 184 rfl
theorem q1756 : (Jvm.Cond.instanceMethod ({ cls := "WindingSquareModel", name := "writes", desc := "(III)V" } : Jvm.MethodName)) ∈ lw_all := lw_g (lw_at lw_m7 185 rfl) rfl
theorem q1757 : (Jvm.Cond.code ({ cls := "WindingSquareModel", name := "writes", desc := "(III)V" } : Jvm.MethodName) prog_17_method_18_code (5 : Nat) (Option.none : Option Jvm.ClassFile.FieldType)) ∈ lw_all := lw_g (lw_at lw_m7 186 rfl) rfl
theorem q1758 : (Jvm.Cond.methodLink "WindingSquareModel" (307 : Nat) ({ cls := "WindingSquareModel", name := "goesOn", desc := "(I)V" } : Jvm.MethodName)) ∈ lw_all := lw_g (lw_at lw_m7 187 rfl) rfl
theorem q1759 : (Jvm.Cond.privateMethod ({ cls := "WindingSquareModel", name := "goesOn", desc := "(I)V" } : Jvm.MethodName)) ∈ lw_tbl := lw_at lw_m7 188 rfl
theorem q1760 : (Jvm.Cond.instanceMethod ({ cls := "WindingSquareModel", name := "goesOn", desc := "(I)V" } : Jvm.MethodName)) ∈ lw_all := lw_g (lw_at lw_m7 189 rfl) rfl
theorem q1761 : (Jvm.Cond.code ({ cls := "WindingSquareModel", name := "goesOn", desc := "(I)V" } : Jvm.MethodName) prog_17_method_67_code (6 : Nat) (Option.none : Option Jvm.ClassFile.FieldType)) ∈ lw_all := lw_g (lw_at lw_m7 190 rfl) rfl
theorem q1762 : (Jvm.Cond.methodLink "WindingSquareModel" (285 : Nat) ({ cls := "WindingSquareModel", name := "goesX", desc := "(I)I" } : Jvm.MethodName)) ∈ lw_all := lw_g (lw_at lw_m7 191 rfl) rfl
theorem q1763 : (Jvm.Cond.static ({ cls := "WindingSquareModel", name := "goesX", desc := "(I)I" } : Jvm.MethodName)) ∈ lw_all := lw_g (lw_at lw_m7 192 rfl) rfl
theorem q1764 : (Jvm.Cond.code ({ cls := "WindingSquareModel", name := "goesX", desc := "(I)I" } : Jvm.MethodName) prog_17_method_10_code (1 : Nat) (Option.some Jvm.ClassFile.FieldType.int)) ∈ lw_all := lw_g (lw_at lw_m7 193 rfl) rfl
theorem q1765 : (Jvm.Cond.methodLink "WindingSquareModel" (288 : Nat) ({ cls := "WindingSquareModel", name := "goesY", desc := "(I)I" } : Jvm.MethodName)) ∈ lw_all := lw_g (lw_at lw_m7 194 rfl) rfl
theorem q1766 : (Jvm.Cond.static ({ cls := "WindingSquareModel", name := "goesY", desc := "(I)I" } : Jvm.MethodName)) ∈ lw_all := lw_g (lw_at lw_m7 195 rfl) rfl
theorem q1767 : (Jvm.Cond.code ({ cls := "WindingSquareModel", name := "goesY", desc := "(I)I" } : Jvm.MethodName) prog_17_method_11_code (1 : Nat) (Option.some Jvm.ClassFile.FieldType.int)) ∈ lw_all := lw_g (lw_at lw_m7 196 rfl) rfl
theorem q1768 : (Jvm.Cond.methodLink "WindingSquareModel" (291 : Nat) ({ cls := "WindingSquareModel", name := "isIn", desc := "(II)Z" } : Jvm.MethodName)) ∈ lw_all := lw_g (lw_at lw_m7 197 rfl) rfl
theorem q1769 : (Jvm.Cond.static ({ cls := "WindingSquareModel", name := "isIn", desc := "(II)Z" } : Jvm.MethodName)) ∈ lw_all := lw_g (lw_at lw_m7 198 rfl) rfl
theorem q1770 : (Jvm.Cond.code ({ cls := "WindingSquareModel", name := "isIn", desc := "(II)Z" } : Jvm.MethodName) prog_17_method_9_code (2 : Nat) (Option.some Jvm.ClassFile.FieldType.boolean)) ∈ lw_all := lw_g (lw_at lw_m7 199 rfl) rfl
theorem q1771 : (Jvm.Cond.methodLink "WindingSquareModel" (295 : Nat) ({ cls := "WindingSquareModel", name := "goesOut", desc := "(I)V" } : Jvm.MethodName)) ∈ lw_all := lw_g (lw_at lw_m7 200 rfl) rfl
theorem q1772 : (Jvm.Cond.privateMethod ({ cls := "WindingSquareModel", name := "goesOut", desc := "(I)V" } : Jvm.MethodName)) ∈ lw_tbl := lw_at lw_m7 201 rfl
theorem q1773 : (Jvm.Cond.instanceMethod ({ cls := "WindingSquareModel", name := "goesOut", desc := "(I)V" } : Jvm.MethodName)) ∈ lw_all := lw_g (lw_at lw_m7 202 rfl) rfl
theorem q1774 : (Jvm.Cond.code ({ cls := "WindingSquareModel", name := "goesOut", desc := "(I)V" } : Jvm.MethodName) prog_17_method_66_code (2 : Nat) (Option.none : Option Jvm.ClassFile.FieldType)) ∈ lw_all := lw_g (lw_at lw_m7 203 rfl) rfl
theorem q1775 : (Jvm.Cond.methodLink "WindingSquareModel" (282 : Nat) ({ cls := "WindingSquareModel", name := "comesOver", desc := "(I)V" } : Jvm.MethodName)) ∈ lw_all := lw_g (lw_at lw_m7 204 rfl) rfl
theorem q1776 : (Jvm.Cond.privateMethod ({ cls := "WindingSquareModel", name := "comesOver", desc := "(I)V" } : Jvm.MethodName)) ∈ lw_tbl := lw_at lw_m7 205 rfl
theorem q1777 : (Jvm.Cond.instanceMethod ({ cls := "WindingSquareModel", name := "comesOver", desc := "(I)V" } : Jvm.MethodName)) ∈ lw_all := lw_g (lw_at lw_m7 206 rfl) rfl
theorem q1778 : (Jvm.Cond.code ({ cls := "WindingSquareModel", name := "comesOver", desc := "(I)V" } : Jvm.MethodName) prog_17_method_65_code (2 : Nat) (Option.none : Option Jvm.ClassFile.FieldType)) ∈ lw_all := lw_g (lw_at lw_m7 207 rfl) rfl
theorem q1779 : (Jvm.Cond.methodLink "WindingSquareModel" (276 : Nat) ({ cls := "WindingSquareModel", name := "tells", desc := "(II)I" } : Jvm.MethodName)) ∈ lw_all := lw_g (lw_at lw_m7 208 rfl) rfl
theorem q1780 : (Jvm.Cond.privateMethod ({ cls := "WindingSquareModel", name := "tells", desc := "(II)I" } : Jvm.MethodName)) ∈ lw_tbl := lw_at lw_m7 209 rfl
theorem q1781 : (Jvm.Cond.instanceMethod ({ cls := "WindingSquareModel", name := "tells", desc := "(II)I" } : Jvm.MethodName)) ∈ lw_all := lw_g (lw_at lw_m7 210 rfl) rfl
theorem q1782 : (Jvm.Cond.code ({ cls := "WindingSquareModel", name := "tells", desc := "(II)I" } : Jvm.MethodName) prog_17_method_61_code (6 : Nat) (Option.some Jvm.ClassFile.FieldType.int)) ∈ lw_all := lw_g (lw_at lw_m7 211 rfl) rfl
theorem q1783 : (Jvm.Cond.methodLink "WindingSquareModel" (257 : Nat) ({ cls := "WindingSquareModel", name := "laysFacts", desc := "(I)V" } : Jvm.MethodName)) ∈ lw_all := lw_g (lw_at lw_m7 212 rfl) rfl
theorem q1784 : (Jvm.Cond.privateMethod ({ cls := "WindingSquareModel", name := "laysFacts", desc := "(I)V" } : Jvm.MethodName)) ∈ lw_tbl := lw_at lw_m7 213 rfl
theorem q1785 : (Jvm.Cond.instanceMethod ({ cls := "WindingSquareModel", name := "laysFacts", desc := "(I)V" } : Jvm.MethodName)) ∈ lw_all := lw_g (lw_at lw_m7 214 rfl) rfl
theorem q1786 : (Jvm.Cond.code ({ cls := "WindingSquareModel", name := "laysFacts", desc := "(I)V" } : Jvm.MethodName) prog_17_method_57_code (3 : Nat) (Option.none : Option Jvm.ClassFile.FieldType)) ∈ lw_all := lw_g (lw_at lw_m7 215 rfl) rfl
theorem q1787 : (Jvm.Cond.methodLink "WindingSquareModel" (243 : Nat) ({ cls := "WindingSquareModel", name := "inside", desc := "()I" } : Jvm.MethodName)) ∈ lw_all := lw_g (lw_at lw_m7 216 rfl) rfl
theorem q1788 : (Jvm.Cond.privateMethod ({ cls := "WindingSquareModel", name := "inside", desc := "()I" } : Jvm.MethodName)) ∈ lw_tbl := lw_at lw_m7 217 rfl
theorem q1789 : (Jvm.Cond.instanceMethod ({ cls := "WindingSquareModel", name := "inside", desc := "()I" } : Jvm.MethodName)) ∈ lw_all := lw_g (lw_at lw_m7 218 rfl) rfl
theorem q1790 : (Jvm.Cond.code ({ cls := "WindingSquareModel", name := "inside", desc := "()I" } : Jvm.MethodName) prog_17_method_56_code (3 : Nat) (Option.some Jvm.ClassFile.FieldType.int)) ∈ lw_all := lw_g (lw_at lw_m7 219 rfl) rfl
theorem q1791 : (Jvm.Cond.methodLink "WindingSquareModel" (246 : Nat) ({ cls := "WindingSquareModel", name := "watchNow", desc := "()I" } : Jvm.MethodName)) ∈ lw_all := lw_g (lw_at lw_m7 220 rfl) rfl
theorem q1792 : (Jvm.Cond.privateMethod ({ cls := "WindingSquareModel", name := "watchNow", desc := "()I" } : Jvm.MethodName)) ∈ lw_tbl := lw_at lw_m7 221 rfl
theorem q1793 : (Jvm.Cond.instanceMethod ({ cls := "WindingSquareModel", name := "watchNow", desc := "()I" } : Jvm.MethodName)) ∈ lw_all := lw_g (lw_at lw_m7 222 rfl) rfl
theorem q1794 : (Jvm.Cond.code ({ cls := "WindingSquareModel", name := "watchNow", desc := "()I" } : Jvm.MethodName) prog_17_method_55_code (3 : Nat) (Option.some Jvm.ClassFile.FieldType.int)) ∈ lw_all := lw_g (lw_at lw_m7 223 rfl) rfl
theorem q1795 : (Jvm.Cond.methodLink "WindingSquareModel" (260 : Nat) ({ cls := "WindingSquareModel", name := "comesTo", desc := "(II)I" } : Jvm.MethodName)) ∈ lw_all := lw_g (lw_at lw_m7 224 rfl) rfl
theorem q1796 : (Jvm.Cond.privateMethod ({ cls := "WindingSquareModel", name := "comesTo", desc := "(II)I" } : Jvm.MethodName)) ∈ lw_tbl := lw_at lw_m7 225 rfl
theorem q1797 : (Jvm.Cond.instanceMethod ({ cls := "WindingSquareModel", name := "comesTo", desc := "(II)I" } : Jvm.MethodName)) ∈ lw_all := lw_g (lw_at lw_m7 226 rfl) rfl
theorem q1798 : (Jvm.Cond.code ({ cls := "WindingSquareModel", name := "comesTo", desc := "(II)I" } : Jvm.MethodName) prog_17_method_60_code (7 : Nat) (Option.some Jvm.ClassFile.FieldType.int)) ∈ lw_all := lw_g (lw_at lw_m7 227 rfl) rfl
theorem q1799 : (Jvm.Cond.methodLink "WindingSquareModel" (253 : Nat) ({ cls := "WindingSquareModel", name := "both", desc := "(III)I" } : Jvm.MethodName)) ∈ lw_all := lw_g (lw_at lw_m7 228 rfl) rfl
theorem q1800 : (Jvm.Cond.static ({ cls := "WindingSquareModel", name := "both", desc := "(III)I" } : Jvm.MethodName)) ∈ lw_all := lw_g (lw_at lw_m7 229 rfl) rfl
theorem q1801 : (Jvm.Cond.code ({ cls := "WindingSquareModel", name := "both", desc := "(III)I" } : Jvm.MethodName) prog_17_method_59_code (3 : Nat) (Option.some Jvm.ClassFile.FieldType.int)) ∈ lw_all := lw_g (lw_at lw_m7 230 rfl) rfl
theorem q1802 : (Jvm.Cond.methodLink "WindingSquareModel" (249 : Nat) ({ cls := "WindingSquareModel", name := "asInt", desc := "(Z)I" } : Jvm.MethodName)) ∈ lw_all := lw_g (lw_at lw_m7 231 rfl) rfl
theorem q1803 : (Jvm.Cond.static ({ cls := "WindingSquareModel", name := "asInt", desc := "(Z)I" } : Jvm.MethodName)) ∈ lw_all := lw_g (lw_at lw_m7 232 rfl) rfl
theorem q1804 : (Jvm.Cond.code ({ cls := "WindingSquareModel", name := "asInt", desc := "(Z)I" } : Jvm.MethodName) prog_17_method_58_code (1 : Nat) (Option.some Jvm.ClassFile.FieldType.int)) ∈ lw_all := lw_g (lw_at lw_m7 233 rfl) rfl
theorem q1805 : (Jvm.Cond.methodLink "WindingSquareModel" (279 : Nat) ({ cls := "WindingSquareModel", name := "falls", desc := "(I)Z" } : Jvm.MethodName)) ∈ lw_all := lw_g (lw_at lw_m7 234 rfl) rfl
theorem q1806 : (Jvm.Cond.privateMethod ({ cls := "WindingSquareModel", name := "falls", desc := "(I)Z" } : Jvm.MethodName)) ∈ lw_tbl := lw_at lw_m7 235 rfl
theorem q1807 : (Jvm.Cond.instanceMethod ({ cls := "WindingSquareModel", name := "falls", desc := "(I)Z" } : Jvm.MethodName)) ∈ lw_all := lw_g (lw_at lw_m7 236 rfl) rfl
theorem q1808 : (Jvm.Cond.code ({ cls := "WindingSquareModel", name := "falls", desc := "(I)Z" } : Jvm.MethodName) prog_17_method_20_code (2 : Nat) (Option.some Jvm.ClassFile.FieldType.boolean)) ∈ lw_all := lw_g (lw_at lw_m7 237 rfl) rfl
theorem q1809 : (Jvm.Cond.methodLink "WindingSquareModel" (120 : Nat) ({ cls := "WindingSquareModel", name := "draws", desc := "(I)I" } : Jvm.MethodName)) ∈ lw_all := lw_g (lw_at lw_m7 238 rfl) rfl
theorem q1810 : (Jvm.Cond.privateMethod ({ cls := "WindingSquareModel", name := "draws", desc := "(I)I" } : Jvm.MethodName)) ∈ lw_tbl := lw_at lw_m7 239 rfl
theorem q1811 : (Jvm.Cond.instanceMethod ({ cls := "WindingSquareModel", name := "draws", desc := "(I)I" } : Jvm.MethodName)) ∈ lw_all := lw_g (lw_at lw_m8 0 rfl) rfl
theorem q1812 : (Jvm.Cond.code ({ cls := "WindingSquareModel", name := "draws", desc := "(I)I" } : Jvm.MethodName) prog_17_method_19_code (2 : Nat) (Option.some Jvm.ClassFile.FieldType.int)) ∈ lw_all := lw_g (lw_at lw_m8 1 rfl) rfl
theorem q1813 : (Jvm.Cond.constant "WindingSquareModel" (118 : Nat) (1664525 : Int32)) ∈ lw_all := lw_g (lw_at lw_m8 2 rfl) rfl
theorem q1814 : (Jvm.Cond.constant "WindingSquareModel" (119 : Nat) (1013904223 : Int32)) ∈ lw_all := lw_g (lw_at lw_m8 3 rfl) rfl
theorem q1815 : (Jvm.Cond.methodLink "WindingSquareModel" (298 : Nat) ({ cls := "WindingSquareModel", name := "isFree", desc := "(I)Z" } : Jvm.MethodName)) ∈ lw_all := lw_g (lw_at lw_m8 4 rfl) rfl
theorem q1816 : (Jvm.Cond.privateMethod ({ cls := "WindingSquareModel", name := "isFree", desc := "(I)Z" } : Jvm.MethodName)) ∈ lw_tbl := lw_at lw_m8 5 rfl
theorem q1817 : (Jvm.Cond.instanceMethod ({ cls := "WindingSquareModel", name := "isFree", desc := "(I)Z" } : Jvm.MethodName)) ∈ lw_all := lw_g (lw_at lw_m8 6 rfl) rfl
theorem q1818 : (Jvm.Cond.code ({ cls := "WindingSquareModel", name := "isFree", desc := "(I)Z" } : Jvm.MethodName) prog_17_method_17_code (2 : Nat) (Option.some Jvm.ClassFile.FieldType.boolean)) ∈ lw_all := lw_g (lw_at lw_m8 7 rfl) rfl
theorem q1819 : (Jvm.Cond.methodLink "WindingSquareModel" (115 : Nat) ({ cls := "WindingSquareModel", name := "whoIsAt", desc := "(I)I" } : Jvm.MethodName)) ∈ lw_all := lw_g (lw_at lw_m8 8 rfl) rfl
theorem q1820 : (Jvm.Cond.privateMethod ({ cls := "WindingSquareModel", name := "whoIsAt", desc := "(I)I" } : Jvm.MethodName)) ∈ lw_tbl := lw_at lw_m8 9 rfl
theorem q1821 : (Jvm.Cond.instanceMethod ({ cls := "WindingSquareModel", name := "whoIsAt", desc := "(I)I" } : Jvm.MethodName)) ∈ lw_all := lw_g (lw_at lw_m8 10 rfl) rfl
theorem q1822 : (Jvm.Cond.code ({ cls := "WindingSquareModel", name := "whoIsAt", desc := "(I)I" } : Jvm.MethodName) prog_17_method_16_code (3 : Nat) (Option.some Jvm.ClassFile.FieldType.int)) ∈ lw_all := lw_g (lw_at lw_m8 11 rfl) rfl
theorem q1823 : (Jvm.Cond.methodLink "WindingSquareModel" (316 : Nat) ({ cls := "WindingSquareModel", name := "ends", desc := "()V" } : Jvm.MethodName)) ∈ lw_all := lw_g (lw_at lw_m8 12 rfl) rfl
theorem q1824 : (Jvm.Cond.privateMethod ({ cls := "WindingSquareModel", name := "ends", desc := "()V" } : Jvm.MethodName)) ∈ lw_tbl := lw_at lw_m8 13 rfl
theorem q1825 : (Jvm.Cond.instanceMethod ({ cls := "WindingSquareModel", name := "ends", desc := "()V" } : Jvm.MethodName)) ∈ lw_all := lw_g (lw_at lw_m8 14 rfl) rfl
theorem q1826 : (Jvm.Cond.code ({ cls := "WindingSquareModel", name := "ends", desc := "()V" } : Jvm.MethodName) prog_17_method_7_code (1 : Nat) (Option.none : Option Jvm.ClassFile.FieldType)) ∈ lw_all := lw_g (lw_at lw_m8 15 rfl) rfl
theorem q1827 : (Jvm.Cond.methodLink "WindingSquareModel" (97 : Nat) ({ cls := "WindingSquareModel", name := "keepsPast", desc := "()V" } : Jvm.MethodName)) ∈ lw_all := lw_g (lw_at lw_m8 16 rfl) rfl
theorem q1828 : (Jvm.Cond.privateMethod ({ cls := "WindingSquareModel", name := "keepsPast", desc := "()V" } : Jvm.MethodName)) ∈ lw_tbl := lw_at lw_m8 17 rfl
theorem q1829 : (Jvm.Cond.instanceMethod ({ cls := "WindingSquareModel", name := "keepsPast", desc := "()V" } : Jvm.MethodName)) ∈ lw_all := lw_g (lw_at lw_m8 18 rfl) rfl
theorem q1830 : (Jvm.Cond.code ({ cls := "WindingSquareModel", name := "keepsPast", desc := "()V" } : Jvm.MethodName) prog_17_method_5_code (2 : Nat) (Option.none : Option Jvm.ClassFile.FieldType)) ∈ lw_all := lw_g (lw_at lw_m8 19 rfl) rfl
theorem q1831 : (Jvm.Cond.methodLink "WindingSquareModel" (319 : Nat) ({ cls := "WindingSquareModel", name := "sumOf", desc := "(I)I" } : Jvm.MethodName)) ∈ lw_all := lw_g (lw_at lw_m8 20 rfl) rfl
theorem q1832 : (Jvm.Cond.privateMethod ({ cls := "WindingSquareModel", name := "sumOf", desc := "(I)I" } : Jvm.MethodName)) ∈ lw_tbl := lw_at lw_m8 21 rfl
theorem q1833 : (Jvm.Cond.instanceMethod ({ cls := "WindingSquareModel", name := "sumOf", desc := "(I)I" } : Jvm.MethodName)) ∈ lw_all := lw_g (lw_at lw_m8 22 rfl) rfl
theorem q1834 : (Jvm.Cond.code ({ cls := "WindingSquareModel", name := "sumOf", desc := "(I)I" } : Jvm.MethodName) prog_17_method_69_code (4 : Nat) (Option.some Jvm.ClassFile.FieldType.int)) ∈ lw_all := lw_g (lw_at lw_m8 23 rfl) rfl
theorem q1836 : (Jvm.Cond.instanceMethod ({ cls := "WindingSquareModel", name := "state", desc := "(I)I" } : Jvm.MethodName)) ∈ lw_all := lw_g (lw_at lw_m8 25 rfl) rfl
theorem q1837 : (Jvm.Cond.selects "WindingSquareModel" ({ cls := "WindingSquareModel", name := "state", desc := "(I)I" } : Jvm.MethodName) ({ cls := "WindingSquareModel", name := "state", desc := "(I)I" } : Jvm.MethodName)) ∈ lw_all := lw_g (lw_at lw_m8 26 rfl) rfl
theorem q1838 : (Jvm.Cond.code ({ cls := "WindingSquareModel", name := "state", desc := "(I)I" } : Jvm.MethodName) prog_17_method_71_code (3 : Nat) (Option.some Jvm.ClassFile.FieldType.int)) ∈ lw_all := lw_g (lw_at lw_m8 27 rfl) rfl
theorem q1840 : (Jvm.Cond.instanceMethod ({ cls := "WindingSquareModel", name := "walker", desc := "(I)I" } : Jvm.MethodName)) ∈ lw_all := lw_g (lw_at lw_m8 29 rfl) rfl
theorem q1841 : (Jvm.Cond.selects "WindingSquareModel" ({ cls := "WindingSquareModel", name := "walker", desc := "(I)I" } : Jvm.MethodName) ({ cls := "WindingSquareModel", name := "walker", desc := "(I)I" } : Jvm.MethodName)) ∈ lw_all := lw_g (lw_at lw_m8 30 rfl) rfl
theorem q1842 : (Jvm.Cond.code ({ cls := "WindingSquareModel", name := "walker", desc := "(I)I" } : Jvm.MethodName) prog_17_method_72_code (2 : Nat) (Option.some Jvm.ClassFile.FieldType.int)) ∈ lw_all := lw_g (lw_at lw_m8 31 rfl) rfl
theorem q1844 : (Jvm.Cond.instanceMethod ({ cls := "WindingSquareModel", name := "comes", desc := "(III)Z" } : Jvm.MethodName)) ∈ lw_all := lw_g (lw_at lw_m8 33 rfl) rfl
theorem q1845 : (Jvm.Cond.selects "WindingSquareModel" ({ cls := "WindingSquareModel", name := "comes", desc := "(III)Z" } : Jvm.MethodName) ({ cls := "WindingSquareModel", name := "comes", desc := "(III)Z" } : Jvm.MethodName)) ∈ lw_all := lw_g (lw_at lw_m8 34 rfl) rfl
theorem q1846 : (Jvm.Cond.code ({ cls := "WindingSquareModel", name := "comes", desc := "(III)Z" } : Jvm.MethodName) prog_17_method_74_code (7 : Nat) (Option.some Jvm.ClassFile.FieldType.boolean)) ∈ lw_all := lw_g (lw_at lw_m8 35 rfl) rfl
theorem q1847 : (Jvm.Cond.methodLink "WindingSquareModel" (322 : Nat) ({ cls := "WindingSquareModel", name := "isWalker", desc := "(I)Z" } : Jvm.MethodName)) ∈ lw_all := lw_g (lw_at lw_m8 36 rfl) rfl
theorem q1848 : (Jvm.Cond.privateMethod ({ cls := "WindingSquareModel", name := "isWalker", desc := "(I)Z" } : Jvm.MethodName)) ∈ lw_tbl := lw_at lw_m8 37 rfl
theorem q1849 : (Jvm.Cond.instanceMethod ({ cls := "WindingSquareModel", name := "isWalker", desc := "(I)Z" } : Jvm.MethodName)) ∈ lw_all := lw_g (lw_at lw_m8 38 rfl) rfl
theorem q1850 : (Jvm.Cond.code ({ cls := "WindingSquareModel", name := "isWalker", desc := "(I)Z" } : Jvm.MethodName) prog_17_method_73_code (2 : Nat) (Option.some Jvm.ClassFile.FieldType.boolean)) ∈ lw_all := lw_g (lw_at lw_m8 39 rfl) rfl
theorem q1852 : (Jvm.Cond.instanceMethod ({ cls := "WindingSquareModel", name := "turn", desc := "(II)Z" } : Jvm.MethodName)) ∈ lw_all := lw_g (lw_at lw_m8 41 rfl) rfl
theorem q1853 : (Jvm.Cond.selects "WindingSquareModel" ({ cls := "WindingSquareModel", name := "turn", desc := "(II)Z" } : Jvm.MethodName) ({ cls := "WindingSquareModel", name := "turn", desc := "(II)Z" } : Jvm.MethodName)) ∈ lw_all := lw_g (lw_at lw_m8 42 rfl) rfl
theorem q1854 : (Jvm.Cond.code ({ cls := "WindingSquareModel", name := "turn", desc := "(II)Z" } : Jvm.MethodName) prog_17_method_75_code (3 : Nat) (Option.some Jvm.ClassFile.FieldType.boolean)) ∈ lw_all := lw_g (lw_at lw_m8 43 rfl) rfl
theorem q1856 : (Jvm.Cond.instanceMethod ({ cls := "WindingSquareModel", name := "lay", desc := "(III)Z" } : Jvm.MethodName)) ∈ lw_all := lw_g (lw_at lw_m8 45 rfl) rfl
theorem q1857 : (Jvm.Cond.selects "WindingSquareModel" ({ cls := "WindingSquareModel", name := "lay", desc := "(III)Z" } : Jvm.MethodName) ({ cls := "WindingSquareModel", name := "lay", desc := "(III)Z" } : Jvm.MethodName)) ∈ lw_all := lw_g (lw_at lw_m8 46 rfl) rfl
theorem q1858 : (Jvm.Cond.code ({ cls := "WindingSquareModel", name := "lay", desc := "(III)Z" } : Jvm.MethodName) prog_17_method_76_code (5 : Nat) (Option.some Jvm.ClassFile.FieldType.boolean)) ∈ lw_all := lw_g (lw_at lw_m8 47 rfl) rfl
theorem q1860 : (Jvm.Cond.instanceMethod ({ cls := "WindingSquareModel", name := "undo", desc := "()Z" } : Jvm.MethodName)) ∈ lw_all := lw_g (lw_at lw_m8 49 rfl) rfl
theorem q1861 : (Jvm.Cond.selects "WindingSquareModel" ({ cls := "WindingSquareModel", name := "undo", desc := "()Z" } : Jvm.MethodName) ({ cls := "WindingSquareModel", name := "undo", desc := "()Z" } : Jvm.MethodName)) ∈ lw_all := lw_g (lw_at lw_m8 50 rfl) rfl
theorem q1862 : (Jvm.Cond.code ({ cls := "WindingSquareModel", name := "undo", desc := "()Z" } : Jvm.MethodName) prog_17_method_77_code (2 : Nat) (Option.some Jvm.ClassFile.FieldType.boolean)) ∈ lw_all := lw_g (lw_at lw_m8 51 rfl) rfl
theorem q1864 : (Jvm.Cond.instanceMethod ({ cls := "WindingSquareModel", name := "image", desc := "(Z)Z" } : Jvm.MethodName)) ∈ lw_all := lw_g (lw_at lw_m8 53 rfl) rfl
theorem q1865 : (Jvm.Cond.selects "WindingSquareModel" ({ cls := "WindingSquareModel", name := "image", desc := "(Z)Z" } : Jvm.MethodName) ({ cls := "WindingSquareModel", name := "image", desc := "(Z)Z" } : Jvm.MethodName)) ∈ lw_all := lw_g (lw_at lw_m8 54 rfl) rfl
theorem q1866 : (Jvm.Cond.code ({ cls := "WindingSquareModel", name := "image", desc := "(Z)Z" } : Jvm.MethodName) prog_17_method_78_code (2 : Nat) (Option.some Jvm.ClassFile.FieldType.boolean)) ∈ lw_all := lw_g (lw_at lw_m8 55 rfl) rfl
theorem q1868 : (Jvm.Cond.instanceMethod ({ cls := "WindingSquareModel", name := "of", desc := "(II)I" } : Jvm.MethodName)) ∈ lw_all := lw_g (lw_at lw_m8 57 rfl) rfl
theorem q1869 : (Jvm.Cond.selects "WindingSquareModel" ({ cls := "WindingSquareModel", name := "of", desc := "(II)I" } : Jvm.MethodName) ({ cls := "WindingSquareModel", name := "of", desc := "(II)I" } : Jvm.MethodName)) ∈ lw_all := lw_g (lw_at lw_m8 58 rfl) rfl
theorem q1870 : (Jvm.Cond.code ({ cls := "WindingSquareModel", name := "of", desc := "(II)I" } : Jvm.MethodName) prog_17_method_79_code (3 : Nat) (Option.some Jvm.ClassFile.FieldType.int)) ∈ lw_all := lw_g (lw_at lw_m8 59 rfl) rfl
theorem q1871 : (Jvm.Cond.methodLink "WindingSquareModel" (328 : Nat) ({ cls := "WindingSquareModel", name := "take", desc := "()V" } : Jvm.MethodName)) ∈ lw_all := lw_g (lw_at lw_m8 60 rfl) rfl
theorem q1872 : (Jvm.Cond.privateMethod ({ cls := "WindingSquareModel", name := "take", desc := "()V" } : Jvm.MethodName)) ∈ lw_tbl := lw_at lw_m8 61 rfl
theorem q1873 : (Jvm.Cond.instanceMethod ({ cls := "WindingSquareModel", name := "take", desc := "()V" } : Jvm.MethodName)) ∈ lw_all := lw_g (lw_at lw_m8 62 rfl) rfl
theorem q1874 : (Jvm.Cond.code ({ cls := "WindingSquareModel", name := "take", desc := "()V" } : Jvm.MethodName) prog_17_method_4_code (1 : Nat) (Option.none : Option Jvm.ClassFile.FieldType)) ∈ lw_all := lw_g (lw_at lw_m8 63 rfl) rfl
theorem q1876 : (Jvm.Cond.instanceMethod ({ cls := "WindingSquareModel", name := "cell", desc := "(III)I" } : Jvm.MethodName)) ∈ lw_all := lw_g (lw_at lw_m8 65 rfl) rfl
theorem q1877 : (Jvm.Cond.selects "WindingSquareModel" ({ cls := "WindingSquareModel", name := "cell", desc := "(III)I" } : Jvm.MethodName) ({ cls := "WindingSquareModel", name := "cell", desc := "(III)I" } : Jvm.MethodName)) ∈ lw_all := lw_g (lw_at lw_m8 66 rfl) rfl
theorem q1878 : (Jvm.Cond.code ({ cls := "WindingSquareModel", name := "cell", desc := "(III)I" } : Jvm.MethodName) prog_17_method_80_code (4 : Nat) (Option.some Jvm.ClassFile.FieldType.int)) ∈ lw_all := lw_g (lw_at lw_m8 67 rfl) rfl
theorem q1880 : (Jvm.Cond.instanceMethod ({ cls := "WindingSquareModel", name := "book", desc := "(II)I" } : Jvm.MethodName)) ∈ lw_all := lw_g (lw_at lw_m8 69 rfl) rfl
theorem q1881 : (Jvm.Cond.selects "WindingSquareModel" ({ cls := "WindingSquareModel", name := "book", desc := "(II)I" } : Jvm.MethodName) ({ cls := "WindingSquareModel", name := "book", desc := "(II)I" } : Jvm.MethodName)) ∈ lw_all := lw_g (lw_at lw_m8 70 rfl) rfl
theorem q1882 : (Jvm.Cond.code ({ cls := "WindingSquareModel", name := "book", desc := "(II)I" } : Jvm.MethodName) prog_17_method_81_code (3 : Nat) (Option.some Jvm.ClassFile.FieldType.int)) ∈ lw_all := lw_g (lw_at lw_m8 71 rfl) rfl
theorem q1884 : (Jvm.Cond.instanceMethod ({ cls := "WindingSquareModel", name := "look", desc := "(I)I" } : Jvm.MethodName)) ∈ lw_all := lw_g (lw_at lw_m8 73 rfl) rfl
theorem q1885 : (Jvm.Cond.selects "WindingSquareModel" ({ cls := "WindingSquareModel", name := "look", desc := "(I)I" } : Jvm.MethodName) ({ cls := "WindingSquareModel", name := "look", desc := "(I)I" } : Jvm.MethodName)) ∈ lw_all := lw_g (lw_at lw_m8 74 rfl) rfl
theorem q1886 : (Jvm.Cond.code ({ cls := "WindingSquareModel", name := "look", desc := "(I)I" } : Jvm.MethodName) prog_17_method_82_code (4 : Nat) (Option.some Jvm.ClassFile.FieldType.int)) ∈ lw_all := lw_g (lw_at lw_m8 75 rfl) rfl
theorem q1888 : (Jvm.Cond.instanceMethod ({ cls := "WindingSquareModel", name := "goes", desc := "(II)I" } : Jvm.MethodName)) ∈ lw_all := lw_g (lw_at lw_m8 77 rfl) rfl
theorem q1889 : (Jvm.Cond.selects "WindingSquareModel" ({ cls := "WindingSquareModel", name := "goes", desc := "(II)I" } : Jvm.MethodName) ({ cls := "WindingSquareModel", name := "goes", desc := "(II)I" } : Jvm.MethodName)) ∈ lw_all := lw_g (lw_at lw_m8 78 rfl) rfl
theorem q1890 : (Jvm.Cond.code ({ cls := "WindingSquareModel", name := "goes", desc := "(II)I" } : Jvm.MethodName) prog_17_method_83_code (4 : Nat) (Option.some Jvm.ClassFile.FieldType.int)) ∈ lw_all := lw_g (lw_at lw_m8 79 rfl) rfl
theorem q1892 : (Jvm.Cond.instanceMethod ({ cls := "WindingSquareModel", name := "over", desc := "(I)I" } : Jvm.MethodName)) ∈ lw_all := lw_g (lw_at lw_m8 81 rfl) rfl
theorem q1893 : (Jvm.Cond.selects "WindingSquareModel" ({ cls := "WindingSquareModel", name := "over", desc := "(I)I" } : Jvm.MethodName) ({ cls := "WindingSquareModel", name := "over", desc := "(I)I" } : Jvm.MethodName)) ∈ lw_all := lw_g (lw_at lw_m8 82 rfl) rfl
theorem q1894 : (Jvm.Cond.code ({ cls := "WindingSquareModel", name := "over", desc := "(I)I" } : Jvm.MethodName) prog_17_method_84_code (3 : Nat) (Option.some Jvm.ClassFile.FieldType.int)) ∈ lw_all := lw_g (lw_at lw_m8 83 rfl) rfl
theorem q1896 : (Jvm.Cond.instanceMethod ({ cls := "WindingSquareModel", name := "meets", desc := "(II)I" } : Jvm.MethodName)) ∈ lw_all := lw_g (lw_at lw_m8 85 rfl) rfl
theorem q1897 : (Jvm.Cond.selects "WindingSquareModel" ({ cls := "WindingSquareModel", name := "meets", desc := "(II)I" } : Jvm.MethodName) ({ cls := "WindingSquareModel", name := "meets", desc := "(II)I" } : Jvm.MethodName)) ∈ lw_all := lw_g (lw_at lw_m8 86 rfl) rfl
theorem q1898 : (Jvm.Cond.code ({ cls := "WindingSquareModel", name := "meets", desc := "(II)I" } : Jvm.MethodName) prog_17_method_86_code (4 : Nat) (Option.some Jvm.ClassFile.FieldType.int)) ∈ lw_all := lw_g (lw_at lw_m8 87 rfl) rfl
theorem q1899 : (Jvm.Cond.methodLink "WindingSquareModel" (331 : Nat) ({ cls := "WindingSquareModel", name := "goesAlone", desc := "(I)V" } : Jvm.MethodName)) ∈ lw_all := lw_g (lw_at lw_m8 88 rfl) rfl
theorem q1900 : (Jvm.Cond.privateMethod ({ cls := "WindingSquareModel", name := "goesAlone", desc := "(I)V" } : Jvm.MethodName)) ∈ lw_tbl := lw_at lw_m8 89 rfl
theorem q1901 : (Jvm.Cond.instanceMethod ({ cls := "WindingSquareModel", name := "goesAlone", desc := "(I)V" } : Jvm.MethodName)) ∈ lw_all := lw_g (lw_at lw_m8 90 rfl) rfl
theorem q1902 : (Jvm.Cond.code ({ cls := "WindingSquareModel", name := "goesAlone", desc := "(I)V" } : Jvm.MethodName) prog_17_method_85_code (5 : Nat) (Option.none : Option Jvm.ClassFile.FieldType)) ∈ lw_all := lw_g (lw_at lw_m8 91 rfl) rfl
theorem q1904 : (Jvm.Cond.instanceMethod ({ cls := "WindingSquareModel", name := "far", desc := "(IIII)I" } : Jvm.MethodName)) ∈ lw_all := lw_g (lw_at lw_m8 93 rfl) rfl
theorem q1905 : (Jvm.Cond.selects "WindingSquareModel" ({ cls := "WindingSquareModel", name := "far", desc := "(IIII)I" } : Jvm.MethodName) ({ cls := "WindingSquareModel", name := "far", desc := "(IIII)I" } : Jvm.MethodName)) ∈ lw_all := lw_g (lw_at lw_m8 94 rfl) rfl
theorem q1906 : (Jvm.Cond.code ({ cls := "WindingSquareModel", name := "far", desc := "(IIII)I" } : Jvm.MethodName) prog_17_method_92_code (8 : Nat) (Option.some Jvm.ClassFile.FieldType.int)) ∈ lw_all := lw_g (lw_at lw_m8 95 rfl) rfl
theorem q1907 : (Jvm.Cond.methodLink "WindingSquareModel" (340 : Nat) ({ cls := "WindingSquareModel", name := "isGround", desc := "(I)Z" } : Jvm.MethodName)) ∈ lw_all := lw_g (lw_at lw_m8 96 rfl) rfl
theorem q1908 : (Jvm.Cond.privateMethod ({ cls := "WindingSquareModel", name := "isGround", desc := "(I)Z" } : Jvm.MethodName)) ∈ lw_tbl := lw_at lw_m8 97 rfl
theorem q1909 : (Jvm.Cond.instanceMethod ({ cls := "WindingSquareModel", name := "isGround", desc := "(I)Z" } : Jvm.MethodName)) ∈ lw_all := lw_g (lw_at lw_m8 98 rfl) rfl
theorem q1910 : (Jvm.Cond.code ({ cls := "WindingSquareModel", name := "isGround", desc := "(I)Z" } : Jvm.MethodName) prog_17_method_87_code (2 : Nat) (Option.some Jvm.ClassFile.FieldType.boolean)) ∈ lw_all := lw_g (lw_at lw_m8 99 rfl) rfl
theorem q1911 : (Jvm.Cond.methodLink "WindingSquareModel" (343 : Nat) ({ cls := "WindingSquareModel", name := "layFar", desc := "(II)V" } : Jvm.MethodName)) ∈ lw_all := lw_g (lw_at lw_m8 100 rfl) rfl
theorem q1912 : (Jvm.Cond.privateMethod ({ cls := "WindingSquareModel", name := "layFar", desc := "(II)V" } : Jvm.MethodName)) ∈ lw_tbl := lw_at lw_m8 101 rfl
theorem q1913 : (Jvm.Cond.instanceMethod ({ cls := "WindingSquareModel", name := "layFar", desc := "(II)V" } : Jvm.MethodName)) ∈ lw_all := lw_g (lw_at lw_m8 102 rfl) rfl
theorem q1914 : (Jvm.Cond.code ({ cls := "WindingSquareModel", name := "layFar", desc := "(II)V" } : Jvm.MethodName) prog_17_method_91_code (9 : Nat) (Option.none : Option Jvm.ClassFile.FieldType)) ∈ lw_all := lw_g (lw_at lw_m8 103 rfl) rfl
theorem q1915 : (Jvm.Cond.methodLink "WindingSquareModel" (334 : Nat) ({ cls := "WindingSquareModel", name := "onBy", desc := "(III)I" } : Jvm.MethodName)) ∈ lw_all := lw_g (lw_at lw_m8 104 rfl) rfl
theorem q1916 : (Jvm.Cond.privateMethod ({ cls := "WindingSquareModel", name := "onBy", desc := "(III)I" } : Jvm.MethodName)) ∈ lw_tbl := lw_at lw_m8 105 rfl
theorem q1917 : (Jvm.Cond.instanceMethod ({ cls := "WindingSquareModel", name := "onBy", desc := "(III)I" } : Jvm.MethodName)) ∈ lw_all := lw_g (lw_at lw_m8 106 rfl) rfl
theorem q1918 : (Jvm.Cond.code ({ cls := "WindingSquareModel", name := "onBy", desc := "(III)I" } : Jvm.MethodName) prog_17_method_88_code (6 : Nat) (Option.some Jvm.ClassFile.FieldType.int)) ∈ lw_all := lw_g (lw_at lw_m8 107 rfl) rfl
theorem q1919 : (Jvm.Cond.methodLink "WindingSquareModel" (346 : Nat) ({ cls := "WindingSquareModel", name := "laySteps", desc := "(II)V" } : Jvm.MethodName)) ∈ lw_all := lw_g (lw_at lw_m8 108 rfl) rfl
theorem q1920 : (Jvm.Cond.privateMethod ({ cls := "WindingSquareModel", name := "laySteps", desc := "(II)V" } : Jvm.MethodName)) ∈ lw_tbl := lw_at lw_m8 109 rfl
theorem q1921 : (Jvm.Cond.instanceMethod ({ cls := "WindingSquareModel", name := "laySteps", desc := "(II)V" } : Jvm.MethodName)) ∈ lw_all := lw_g (lw_at lw_m8 110 rfl) rfl
theorem q1922 : (Jvm.Cond.code ({ cls := "WindingSquareModel", name := "laySteps", desc := "(II)V" } : Jvm.MethodName) prog_17_method_90_code (8 : Nat) (Option.none : Option Jvm.ClassFile.FieldType)) ∈ lw_all := lw_g (lw_at lw_m8 111 rfl) rfl
theorem q1923 : (Jvm.Cond.methodLink "WindingSquareModel" (337 : Nat) ({ cls := "WindingSquareModel", name := "straightOn", desc := "(I)V" } : Jvm.MethodName)) ∈ lw_all := lw_g (lw_at lw_m8 112 rfl) rfl
theorem q1924 : (Jvm.Cond.privateMethod ({ cls := "WindingSquareModel", name := "straightOn", desc := "(I)V" } : Jvm.MethodName)) ∈ lw_tbl := lw_at lw_m8 113 rfl
theorem q1925 : (Jvm.Cond.instanceMethod ({ cls := "WindingSquareModel", name := "straightOn", desc := "(I)V" } : Jvm.MethodName)) ∈ lw_all := lw_g (lw_at lw_m8 114 rfl) rfl
theorem q1926 : (Jvm.Cond.code ({ cls := "WindingSquareModel", name := "straightOn", desc := "(I)V" } : Jvm.MethodName) prog_17_method_89_code (6 : Nat) (Option.none : Option Jvm.ClassFile.FieldType)) ∈ lw_all := lw_g (lw_at lw_m8 115 rfl) rfl
theorem q1928 : (Jvm.Cond.instanceMethod ({ cls := "WindingSquareModel", name := "with", desc := "(IIII)I" } : Jvm.MethodName)) ∈ lw_all := lw_g (lw_at lw_m8 117 rfl) rfl
theorem q1929 : (Jvm.Cond.selects "WindingSquareModel" ({ cls := "WindingSquareModel", name := "with", desc := "(IIII)I" } : Jvm.MethodName) ({ cls := "WindingSquareModel", name := "with", desc := "(IIII)I" } : Jvm.MethodName)) ∈ lw_all := lw_g (lw_at lw_m8 118 rfl) rfl
theorem q1930 : (Jvm.Cond.code ({ cls := "WindingSquareModel", name := "with", desc := "(IIII)I" } : Jvm.MethodName) prog_17_method_96_code (8 : Nat) (Option.some Jvm.ClassFile.FieldType.int)) ∈ lw_all := lw_g (lw_at lw_m8 119 rfl) rfl
theorem q1931 : (Jvm.Cond.methodLink "WindingSquareModel" (353 : Nat) ({ cls := "WindingSquareModel", name := "turnRows", desc := "(I)V" } : Jvm.MethodName)) ∈ lw_all := lw_g (lw_at lw_m8 120 rfl) rfl
theorem q1932 : (Jvm.Cond.privateMethod ({ cls := "WindingSquareModel", name := "turnRows", desc := "(I)V" } : Jvm.MethodName)) ∈ lw_tbl := lw_at lw_m8 121 rfl
theorem q1933 : (Jvm.Cond.instanceMethod ({ cls := "WindingSquareModel", name := "turnRows", desc := "(I)V" } : Jvm.MethodName)) ∈ lw_all := lw_g (lw_at lw_m8 122 rfl) rfl
theorem q1934 : (Jvm.Cond.code ({ cls := "WindingSquareModel", name := "turnRows", desc := "(I)V" } : Jvm.MethodName) prog_17_method_94_code (7 : Nat) (Option.none : Option Jvm.ClassFile.FieldType)) ∈ lw_all := lw_g (lw_at lw_m8 123 rfl) rfl
theorem q1935 : (Jvm.Cond.methodLink "WindingSquareModel" (350 : Nat) ({ cls := "WindingSquareModel", name := "plus", desc := "(II)I" } : Jvm.MethodName)) ∈ lw_all := lw_g (lw_at lw_m8 124 rfl) rfl
theorem q1936 : (Jvm.Cond.static ({ cls := "WindingSquareModel", name := "plus", desc := "(II)I" } : Jvm.MethodName)) ∈ lw_all := lw_g (lw_at lw_m8 125 rfl) rfl
theorem q1937 : (Jvm.Cond.code ({ cls := "WindingSquareModel", name := "plus", desc := "(II)I" } : Jvm.MethodName) prog_17_method_93_code (2 : Nat) (Option.some Jvm.ClassFile.FieldType.int)) ∈ lw_all := lw_g (lw_at lw_m8 126 rfl) rfl
theorem q1938 : (Jvm.Cond.constant "WindingSquareModel" (349 : Nat) (1000000007 : Int32)) ∈ lw_all := lw_g (lw_at lw_m8 127 rfl) rfl
theorem q1939 : (Jvm.Cond.methodLink "WindingSquareModel" (356 : Nat) ({ cls := "WindingSquareModel", name := "stepRows", desc := "(I)V" } : Jvm.MethodName)) ∈ lw_all := lw_g (lw_at lw_m8 128 rfl) rfl
theorem q1940 : (Jvm.Cond.privateMethod ({ cls := "WindingSquareModel", name := "stepRows", desc := "(I)V" } : Jvm.MethodName)) ∈ lw_tbl := lw_at lw_m8 129 rfl
theorem q1941 : (Jvm.Cond.instanceMethod ({ cls := "WindingSquareModel", name := "stepRows", desc := "(I)V" } : Jvm.MethodName)) ∈ lw_all := lw_g (lw_at lw_m8 130 rfl) rfl
theorem q1942 : (Jvm.Cond.code ({ cls := "WindingSquareModel", name := "stepRows", desc := "(I)V" } : Jvm.MethodName) prog_17_method_95_code (7 : Nat) (Option.none : Option Jvm.ClassFile.FieldType)) ∈ lw_all := lw_g (lw_at lw_m8 131 rfl) rfl
theorem q1944 : (Jvm.Cond.instanceMethod ({ cls := "WindingSquareModel", name := "seen", desc := "(II)I" } : Jvm.MethodName)) ∈ lw_all := lw_g (lw_at lw_m8 133 rfl) rfl
theorem q1945 : (Jvm.Cond.selects "WindingSquareModel" ({ cls := "WindingSquareModel", name := "seen", desc := "(II)I" } : Jvm.MethodName) ({ cls := "WindingSquareModel", name := "seen", desc := "(II)I" } : Jvm.MethodName)) ∈ lw_all := lw_g (lw_at lw_m8 134 rfl) rfl
theorem q1946 : (Jvm.Cond.code ({ cls := "WindingSquareModel", name := "seen", desc := "(II)I" } : Jvm.MethodName) prog_17_method_100_code (5 : Nat) (Option.some Jvm.ClassFile.FieldType.int)) ∈ lw_all := lw_g (lw_at lw_m8 135 rfl) rfl
theorem q1947 : (Jvm.Cond.methodLink "WindingSquareModel" (365 : Nat) ({ cls := "WindingSquareModel", name := "sees", desc := "(II)Z" } : Jvm.MethodName)) ∈ lw_all := lw_g (lw_at lw_m8 136 rfl) rfl
theorem q1948 : (Jvm.Cond.privateMethod ({ cls := "WindingSquareModel", name := "sees", desc := "(II)Z" } : Jvm.MethodName)) ∈ lw_tbl := lw_at lw_m8 137 rfl
theorem q1949 : (Jvm.Cond.instanceMethod ({ cls := "WindingSquareModel", name := "sees", desc := "(II)Z" } : Jvm.MethodName)) ∈ lw_all := lw_g (lw_at lw_m8 138 rfl) rfl
theorem q1950 : (Jvm.Cond.code ({ cls := "WindingSquareModel", name := "sees", desc := "(II)Z" } : Jvm.MethodName) prog_17_method_99_code (11 : Nat) (Option.some Jvm.ClassFile.FieldType.boolean)) ∈ lw_all := lw_g (lw_at lw_m8 139 rfl) rfl
theorem q1951 : (Jvm.Cond.methodLink "WindingSquareModel" (359 : Nat) ({ cls := "WindingSquareModel", name := "abs", desc := "(I)I" } : Jvm.MethodName)) ∈ lw_all := lw_g (lw_at lw_m8 140 rfl) rfl
theorem q1952 : (Jvm.Cond.static ({ cls := "WindingSquareModel", name := "abs", desc := "(I)I" } : Jvm.MethodName)) ∈ lw_all := lw_g (lw_at lw_m8 141 rfl) rfl
theorem q1953 : (Jvm.Cond.code ({ cls := "WindingSquareModel", name := "abs", desc := "(I)I" } : Jvm.MethodName) prog_17_method_97_code (1 : Nat) (Option.some Jvm.ClassFile.FieldType.int)) ∈ lw_all := lw_g (lw_at lw_m8 142 rfl) rfl
theorem q1954 : (Jvm.Cond.methodLink "WindingSquareModel" (362 : Nat) ({ cls := "WindingSquareModel", name := "downBy", desc := "(II)I" } : Jvm.MethodName)) ∈ lw_all := lw_g (lw_at lw_m8 143 rfl) rfl
theorem q1955 : (Jvm.Cond.static ({ cls := "WindingSquareModel", name := "downBy", desc := "(II)I" } : Jvm.MethodName)) ∈ lw_all := lw_g (lw_at lw_m8 144 rfl) rfl
theorem q1956 : (Jvm.Cond.code ({ cls := "WindingSquareModel", name := "downBy", desc := "(II)I" } : Jvm.MethodName) prog_17_method_98_code (2 : Nat) (Option.some Jvm.ClassFile.FieldType.int)) ∈ lw_all := lw_g (lw_at lw_m8 145 rfl) rfl
theorem q1958 : (Jvm.Cond.instanceMethod ({ cls := "WindingSquareModel", name := "known", desc := "(II)I" } : Jvm.MethodName)) ∈ lw_all := lw_g (lw_at lw_m8 147 rfl) rfl
theorem q1959 : (Jvm.Cond.selects "WindingSquareModel" ({ cls := "WindingSquareModel", name := "known", desc := "(II)I" } : Jvm.MethodName) ({ cls := "WindingSquareModel", name := "known", desc := "(II)I" } : Jvm.MethodName)) ∈ lw_all := lw_g (lw_at lw_m8 148 rfl) rfl
theorem q1960 : (Jvm.Cond.code ({ cls := "WindingSquareModel", name := "known", desc := "(II)I" } : Jvm.MethodName) prog_17_method_101_code (4 : Nat) (Option.some Jvm.ClassFile.FieldType.int)) ∈ lw_all := lw_g (lw_at lw_m8 149 rfl) rfl
theorem q1962 : (Jvm.Cond.instanceMethod ({ cls := "WindingSquareModel", name := "one", desc := "(I)I" } : Jvm.MethodName)) ∈ lw_all := lw_g (lw_at lw_m8 151 rfl) rfl
theorem q1963 : (Jvm.Cond.selects "WindingSquareModel" ({ cls := "WindingSquareModel", name := "one", desc := "(I)I" } : Jvm.MethodName) ({ cls := "WindingSquareModel", name := "one", desc := "(I)I" } : Jvm.MethodName)) ∈ lw_all := lw_g (lw_at lw_m8 152 rfl) rfl
theorem q1964 : (Jvm.Cond.code ({ cls := "WindingSquareModel", name := "one", desc := "(I)I" } : Jvm.MethodName) prog_17_method_104_code (7 : Nat) (Option.some Jvm.ClassFile.FieldType.int)) ∈ lw_all := lw_g (lw_at lw_m8 153 rfl) rfl
theorem q1965 : (Jvm.Cond.methodLink "WindingSquareModel" (371 : Nat) ({ cls := "WindingSquareModel", name := "areAlike", desc := "(II)Z" } : Jvm.MethodName)) ∈ lw_all := lw_g (lw_at lw_m8 154 rfl) rfl
theorem q1966 : (Jvm.Cond.privateMethod ({ cls := "WindingSquareModel", name := "areAlike", desc := "(II)Z" } : Jvm.MethodName)) ∈ lw_tbl := lw_at lw_m8 155 rfl
theorem q1967 : (Jvm.Cond.instanceMethod ({ cls := "WindingSquareModel", name := "areAlike", desc := "(II)Z" } : Jvm.MethodName)) ∈ lw_all := lw_g (lw_at lw_m8 156 rfl) rfl
theorem q1968 : (Jvm.Cond.code ({ cls := "WindingSquareModel", name := "areAlike", desc := "(II)Z" } : Jvm.MethodName) prog_17_method_103_code (4 : Nat) (Option.some Jvm.ClassFile.FieldType.boolean)) ∈ lw_all := lw_g (lw_at lw_m8 157 rfl) rfl
theorem q1969 : (Jvm.Cond.methodLink "WindingSquareModel" (368 : Nat) ({ cls := "WindingSquareModel", name := "otherwise", desc := "(II)I" } : Jvm.MethodName)) ∈ lw_all := lw_g (lw_at lw_m8 158 rfl) rfl
theorem q1970 : (Jvm.Cond.privateMethod ({ cls := "WindingSquareModel", name := "otherwise", desc := "(II)I" } : Jvm.MethodName)) ∈ lw_tbl := lw_at lw_m8 159 rfl
theorem q1971 : (Jvm.Cond.instanceMethod ({ cls := "WindingSquareModel", name := "otherwise", desc := "(II)I" } : Jvm.MethodName)) ∈ lw_all := lw_g (lw_at lw_m8 160 rfl) rfl
theorem q1972 : (Jvm.Cond.code ({ cls := "WindingSquareModel", name := "otherwise", desc := "(II)I" } : Jvm.MethodName) prog_17_method_102_code (5 : Nat) (Option.some Jvm.ClassFile.FieldType.int)) ∈ lw_all := lw_g (lw_at lw_m8 161 rfl) rfl
theorem q1974 : (Jvm.Cond.instanceMethod ({ cls := "WindingSquareModel", name := "move", desc := "(I)I" } : Jvm.MethodName)) ∈ lw_all := lw_g (lw_at lw_m8 163 rfl) rfl
theorem q1975 : (Jvm.Cond.selects "WindingSquareModel" ({ cls := "WindingSquareModel", name := "move", desc := "(I)I" } : Jvm.MethodName) ({ cls := "WindingSquareModel", name := "move", desc := "(I)I" } : Jvm.MethodName)) ∈ lw_all := lw_g (lw_at lw_m8 164 rfl) rfl
theorem q1976 : (Jvm.Cond.code ({ cls := "WindingSquareModel", name := "move", desc := "(I)I" } : Jvm.MethodName) prog_17_method_105_code (2 : Nat) (Option.some Jvm.ClassFile.FieldType.int)) ∈ lw_all := lw_g (lw_at lw_m8 165 rfl) rfl
theorem q1978 : (Jvm.Cond.instanceMethod ({ cls := "WindingSquareModel", name := "round", desc := "(I)I" } : Jvm.MethodName)) ∈ lw_all := lw_g (lw_at lw_m8 167 rfl) rfl
theorem q1979 : (Jvm.Cond.selects "WindingSquareModel" ({ cls := "WindingSquareModel", name := "round", desc := "(I)I" } : Jvm.MethodName) ({ cls := "WindingSquareModel", name := "round", desc := "(I)I" } : Jvm.MethodName)) ∈ lw_all := lw_g (lw_at lw_m8 168 rfl) rfl
theorem q1980 : (Jvm.Cond.code ({ cls := "WindingSquareModel", name := "round", desc := "(I)I" } : Jvm.MethodName) prog_17_method_108_code (3 : Nat) (Option.some Jvm.ClassFile.FieldType.int)) ∈ lw_all := lw_g (lw_at lw_m8 169 rfl) rfl
theorem q1981 : (Jvm.Cond.methodLink "WindingSquareModel" (383 : Nat) ({ cls := "WindingSquareModel", name := "goesRound", desc := "()V" } : Jvm.MethodName)) ∈ lw_all := lw_g (lw_at lw_m8 170 rfl) rfl
theorem q1982 : (Jvm.Cond.privateMethod ({ cls := "WindingSquareModel", name := "goesRound", desc := "()V" } : Jvm.MethodName)) ∈ lw_tbl := lw_at lw_m8 171 rfl
theorem q1983 : (Jvm.Cond.instanceMethod ({ cls := "WindingSquareModel", name := "goesRound", desc := "()V" } : Jvm.MethodName)) ∈ lw_all := lw_g (lw_at lw_m8 172 rfl) rfl
theorem q1984 : (Jvm.Cond.code ({ cls := "WindingSquareModel", name := "goesRound", desc := "()V" } : Jvm.MethodName) prog_17_method_106_code (4 : Nat) (Option.none : Option Jvm.ClassFile.FieldType)) ∈ lw_all := lw_g (lw_at lw_m8 173 rfl) rfl
theorem q1985 : (Jvm.Cond.methodLink "WindingSquareModel" (386 : Nat) ({ cls := "WindingSquareModel", name := "again", desc := "()I" } : Jvm.MethodName)) ∈ lw_all := lw_g (lw_at lw_m8 174 rfl) rfl
theorem q1986 : (Jvm.Cond.privateMethod ({ cls := "WindingSquareModel", name := "again", desc := "()I" } : Jvm.MethodName)) ∈ lw_tbl := lw_at lw_m8 175 rfl
theorem q1987 : (Jvm.Cond.instanceMethod ({ cls := "WindingSquareModel", name := "again", desc := "()I" } : Jvm.MethodName)) ∈ lw_all := lw_g (lw_at lw_m8 176 rfl) rfl
theorem q1988 : (Jvm.Cond.code ({ cls := "WindingSquareModel", name := "again", desc := "()I" } : Jvm.MethodName) prog_17_method_107_code (5 : Nat) (Option.some Jvm.ClassFile.FieldType.int)) ∈ lw_all := lw_g (lw_at lw_m8 177 rfl) rfl
theorem q1990 : (Jvm.Cond.instanceMethod ({ cls := "WindingSquareModel", name := "gap", desc := "(II)I" } : Jvm.MethodName)) ∈ lw_all := lw_g (lw_at lw_m8 179 rfl) rfl
theorem q1991 : (Jvm.Cond.selects "WindingSquareModel" ({ cls := "WindingSquareModel", name := "gap", desc := "(II)I" } : Jvm.MethodName) ({ cls := "WindingSquareModel", name := "gap", desc := "(II)I" } : Jvm.MethodName)) ∈ lw_all := lw_g (lw_at lw_m8 180 rfl) rfl
theorem q1992 : (Jvm.Cond.code ({ cls := "WindingSquareModel", name := "gap", desc := "(II)I" } : Jvm.MethodName) prog_17_method_109_code (3 : Nat) (Option.some Jvm.ClassFile.FieldType.int)) ∈ lw_all := lw_g (lw_at lw_m8 181 rfl) rfl
theorem q1994 : (Jvm.Cond.instanceMethod ({ cls := "WindingSquareModel", name := "hedge", desc := "()I" } : Jvm.MethodName)) ∈ lw_all := lw_g (lw_at lw_m8 183 rfl) rfl
theorem q1995 : (Jvm.Cond.selects "WindingSquareModel" ({ cls := "WindingSquareModel", name := "hedge", desc := "()I" } : Jvm.MethodName) ({ cls := "WindingSquareModel", name := "hedge", desc := "()I" } : Jvm.MethodName)) ∈ lw_all := lw_g (lw_at lw_m8 184 rfl) rfl
theorem q1996 : (Jvm.Cond.code ({ cls := "WindingSquareModel", name := "hedge", desc := "()I" } : Jvm.MethodName) prog_17_method_110_code (7 : Nat) (Option.some Jvm.ClassFile.FieldType.int)) ∈ lw_all := lw_g (lw_at lw_m8 185 rfl) rfl
theorem q1998 : (Jvm.Cond.instanceMethod ({ cls := "WindingSquareModel", name := "folded", desc := "(III)I" } : Jvm.MethodName)) ∈ lw_all := lw_g (lw_at lw_m8 187 rfl) rfl
theorem q1999 : (Jvm.Cond.selects "WindingSquareModel" ({ cls := "WindingSquareModel", name := "folded", desc := "(III)I" } : Jvm.MethodName) ({ cls := "WindingSquareModel", name := "folded", desc := "(III)I" } : Jvm.MethodName)) ∈ lw_all := lw_g (lw_at lw_m8 188 rfl) rfl
theorem q2000 : (Jvm.Cond.code ({ cls := "WindingSquareModel", name := "folded", desc := "(III)I" } : Jvm.MethodName) prog_17_method_112_code (8 : Nat) (Option.some Jvm.ClassFile.FieldType.int)) ∈ lw_all := lw_g (lw_at lw_m8 189 rfl) rfl
theorem q2001 : (Jvm.Cond.methodLink "WindingSquareModel" (389 : Nat) ({ cls := "WindingSquareModel", name := "fold", desc := "(I)I" } : Jvm.MethodName)) ∈ lw_all := lw_g (lw_at lw_m8 190 rfl) rfl
theorem q2002 : (Jvm.Cond.static ({ cls := "WindingSquareModel", name := "fold", desc := "(I)I" } : Jvm.MethodName)) ∈ lw_all := lw_g (lw_at lw_m8 191 rfl) rfl
theorem q2003 : (Jvm.Cond.code ({ cls := "WindingSquareModel", name := "fold", desc := "(I)I" } : Jvm.MethodName) prog_17_method_111_code (2 : Nat) (Option.some Jvm.ClassFile.FieldType.int)) ∈ lw_all := lw_g (lw_at lw_m8 192 rfl) rfl
theorem q2005 : (Jvm.Cond.instanceMethod ({ cls := "WindingSquareModel", name := "duel", desc := "(III)I" } : Jvm.MethodName)) ∈ lw_all := lw_g (lw_at lw_m8 194 rfl) rfl
theorem q2006 : (Jvm.Cond.selects "WindingSquareModel" ({ cls := "WindingSquareModel", name := "duel", desc := "(III)I" } : Jvm.MethodName) ({ cls := "WindingSquareModel", name := "duel", desc := "(III)I" } : Jvm.MethodName)) ∈ lw_all := lw_g (lw_at lw_m8 195 rfl) rfl
theorem q2007 : (Jvm.Cond.code ({ cls := "WindingSquareModel", name := "duel", desc := "(III)I" } : Jvm.MethodName) prog_17_method_113_code (11 : Nat) (Option.some Jvm.ClassFile.FieldType.int)) ∈ lw_all := lw_g (lw_at lw_m8 196 rfl) rfl
theorem q2008 : (Jvm.Cond.methodLink "WindingSquareModel" (392 : Nat) ({ cls := "WindingSquareModel", name := "pacesFrom", desc := "(IIIII)V" } : Jvm.MethodName)) ∈ lw_all := lw_g (lw_at lw_m8 197 rfl) rfl
theorem q2009 : (Jvm.Cond.privateMethod ({ cls := "WindingSquareModel", name := "pacesFrom", desc := "(IIIII)V" } : Jvm.MethodName)) ∈ lw_tbl := lw_at lw_m8 198 rfl
theorem q2010 : (Jvm.Cond.instanceMethod ({ cls := "WindingSquareModel", name := "pacesFrom", desc := "(IIIII)V" } : Jvm.MethodName)) ∈ lw_all := lw_g (lw_at lw_m8 199 rfl) rfl
theorem q2011 : (Jvm.Cond.code ({ cls := "WindingSquareModel", name := "pacesFrom", desc := "(IIIII)V" } : Jvm.MethodName) prog_17_method_114_code (10 : Nat) (Option.none : Option Jvm.ClassFile.FieldType)) ∈ lw_all := lw_g (lw_at lw_m8 200 rfl) rfl
theorem q2013 : (Jvm.Cond.instanceMethod ({ cls := "WindingSquareModel", name := "ant", desc := "(II)I" } : Jvm.MethodName)) ∈ lw_all := lw_g (lw_at lw_m8 202 rfl) rfl
theorem q2014 : (Jvm.Cond.selects "WindingSquareModel" ({ cls := "WindingSquareModel", name := "ant", desc := "(II)I" } : Jvm.MethodName) ({ cls := "WindingSquareModel", name := "ant", desc := "(II)I" } : Jvm.MethodName)) ∈ lw_all := lw_g (lw_at lw_m8 203 rfl) rfl
theorem q2015 : (Jvm.Cond.code ({ cls := "WindingSquareModel", name := "ant", desc := "(II)I" } : Jvm.MethodName) prog_17_method_115_code (11 : Nat) (Option.some Jvm.ClassFile.FieldType.int)) ∈ lw_all := lw_g (lw_at lw_m8 204 rfl) rfl
theorem q2017 : (Jvm.Cond.instanceMethod ({ cls := "WindingSquareModel", name := "hooks", desc := "(II)I" } : Jvm.MethodName)) ∈ lw_all := lw_g (lw_at lw_m8 206 rfl) rfl
theorem q2018 : (Jvm.Cond.selects "WindingSquareModel" ({ cls := "WindingSquareModel", name := "hooks", desc := "(II)I" } : Jvm.MethodName) ({ cls := "WindingSquareModel", name := "hooks", desc := "(II)I" } : Jvm.MethodName)) ∈ lw_all := lw_g (lw_at lw_m8 207 rfl) rfl
theorem q2019 : (Jvm.Cond.code ({ cls := "WindingSquareModel", name := "hooks", desc := "(II)I" } : Jvm.MethodName) prog_17_method_116_code (5 : Nat) (Option.some Jvm.ClassFile.FieldType.int)) ∈ lw_all := lw_g (lw_at lw_m8 208 rfl) rfl
theorem q2021 : (Jvm.Cond.instanceMethod ({ cls := "WindingSquareModel", name := "apart", desc := "(I)I" } : Jvm.MethodName)) ∈ lw_all := lw_g (lw_at lw_m8 210 rfl) rfl
theorem q2022 : (Jvm.Cond.selects "WindingSquareModel" ({ cls := "WindingSquareModel", name := "apart", desc := "(I)I" } : Jvm.MethodName) ({ cls := "WindingSquareModel", name := "apart", desc := "(I)I" } : Jvm.MethodName)) ∈ lw_all := lw_g (lw_at lw_m8 211 rfl) rfl
theorem q2023 : (Jvm.Cond.code ({ cls := "WindingSquareModel", name := "apart", desc := "(I)I" } : Jvm.MethodName) prog_17_method_118_code (5 : Nat) (Option.some Jvm.ClassFile.FieldType.int)) ∈ lw_all := lw_g (lw_at lw_m8 212 rfl) rfl
theorem q2024 : (Jvm.Cond.methodLink "WindingSquareModel" (396 : Nat) ({ cls := "WindingSquareModel", name := "besides", desc := "(I)I" } : Jvm.MethodName)) ∈ lw_all := lw_g (lw_at lw_m8 213 rfl) rfl
theorem q2025 : (Jvm.Cond.privateMethod ({ cls := "WindingSquareModel", name := "besides", desc := "(I)I" } : Jvm.MethodName)) ∈ lw_tbl := lw_at lw_m8 214 rfl
theorem q2026 : (Jvm.Cond.instanceMethod ({ cls := "WindingSquareModel", name := "besides", desc := "(I)I" } : Jvm.MethodName)) ∈ lw_all := lw_g (lw_at lw_m8 215 rfl) rfl
theorem q2027 : (Jvm.Cond.code ({ cls := "WindingSquareModel", name := "besides", desc := "(I)I" } : Jvm.MethodName) prog_17_method_117_code (6 : Nat) (Option.some Jvm.ClassFile.FieldType.int)) ∈ lw_all := lw_g (lw_at lw_m8 216 rfl) rfl
theorem q2029 : (Jvm.Cond.instanceMethod ({ cls := "WindingSquareModel", name := "pigeons", desc := "(I)I" } : Jvm.MethodName)) ∈ lw_all := lw_g (lw_at lw_m8 218 rfl) rfl
theorem q2030 : (Jvm.Cond.selects "WindingSquareModel" ({ cls := "WindingSquareModel", name := "pigeons", desc := "(I)I" } : Jvm.MethodName) ({ cls := "WindingSquareModel", name := "pigeons", desc := "(I)I" } : Jvm.MethodName)) ∈ lw_all := lw_g (lw_at lw_m8 219 rfl) rfl
theorem q2031 : (Jvm.Cond.code ({ cls := "WindingSquareModel", name := "pigeons", desc := "(I)I" } : Jvm.MethodName) prog_17_method_121_code (8 : Nat) (Option.some Jvm.ClassFile.FieldType.int)) ∈ lw_all := lw_g (lw_at lw_m8 220 rfl) rfl
theorem q2032 : (Jvm.Cond.methodLink "WindingSquareModel" (399 : Nat) ({ cls := "WindingSquareModel", name := "layFlocks", desc := "()V" } : Jvm.MethodName)) ∈ lw_all := lw_g (lw_at lw_m8 221 rfl) rfl
theorem q2033 : (Jvm.Cond.privateMethod ({ cls := "WindingSquareModel", name := "layFlocks", desc := "()V" } : Jvm.MethodName)) ∈ lw_tbl := lw_at lw_m8 222 rfl
theorem q2034 : (Jvm.Cond.instanceMethod ({ cls := "WindingSquareModel", name := "layFlocks", desc := "()V" } : Jvm.MethodName)) ∈ lw_all := lw_g (lw_at lw_m8 223 rfl) rfl
theorem q2035 : (Jvm.Cond.code ({ cls := "WindingSquareModel", name := "layFlocks", desc := "()V" } : Jvm.MethodName) prog_17_method_120_code (4 : Nat) (Option.none : Option Jvm.ClassFile.FieldType)) ∈ lw_all := lw_g (lw_at lw_m8 224 rfl) rfl
theorem q2036 : (Jvm.Cond.methodLink "WindingSquareModel" (402 : Nat) ({ cls := "WindingSquareModel", name := "besideOne", desc := "(I)I" } : Jvm.MethodName)) ∈ lw_all := lw_g (lw_at lw_m8 225 rfl) rfl
theorem q2037 : (Jvm.Cond.privateMethod ({ cls := "WindingSquareModel", name := "besideOne", desc := "(I)I" } : Jvm.MethodName)) ∈ lw_tbl := lw_at lw_m8 226 rfl
theorem q2038 : (Jvm.Cond.instanceMethod ({ cls := "WindingSquareModel", name := "besideOne", desc := "(I)I" } : Jvm.MethodName)) ∈ lw_all := lw_g (lw_at lw_m8 227 rfl) rfl
theorem q2039 : (Jvm.Cond.code ({ cls := "WindingSquareModel", name := "besideOne", desc := "(I)I" } : Jvm.MethodName) prog_17_method_119_code (4 : Nat) (Option.some Jvm.ClassFile.FieldType.int)) ∈ lw_all := lw_g (lw_at lw_m8 228 rfl) rfl
theorem q2041 : (Jvm.Cond.instanceMethod ({ cls := "WindingSquareModel", name := "game", desc := "(III)I" } : Jvm.MethodName)) ∈ lw_all := lw_g (lw_at lw_m8 230 rfl) rfl
theorem q2042 : (Jvm.Cond.selects "WindingSquareModel" ({ cls := "WindingSquareModel", name := "game", desc := "(III)I" } : Jvm.MethodName) ({ cls := "WindingSquareModel", name := "game", desc := "(III)I" } : Jvm.MethodName)) ∈ lw_all := lw_g (lw_at lw_m8 231 rfl) rfl
theorem q2043 : (Jvm.Cond.code ({ cls := "WindingSquareModel", name := "game", desc := "(III)I" } : Jvm.MethodName) prog_17_method_124_code (7 : Nat) (Option.some Jvm.ClassFile.FieldType.int)) ∈ lw_all := lw_g (lw_at lw_m8 232 rfl) rfl
theorem q2044 : (Jvm.Cond.methodLink "WindingSquareModel" (408 : Nat) ({ cls := "WindingSquareModel", name := "layValues", desc := "(I)V" } : Jvm.MethodName)) ∈ lw_all := lw_g (lw_at lw_m8 233 rfl) rfl
theorem q2045 : (Jvm.Cond.privateMethod ({ cls := "WindingSquareModel", name := "layValues", desc := "(I)V" } : Jvm.MethodName)) ∈ lw_tbl := lw_at lw_m8 234 rfl
theorem q2046 : (Jvm.Cond.instanceMethod ({ cls := "WindingSquareModel", name := "layValues", desc := "(I)V" } : Jvm.MethodName)) ∈ lw_all := lw_g (lw_at lw_m8 235 rfl) rfl
theorem q2047 : (Jvm.Cond.code ({ cls := "WindingSquareModel", name := "layValues", desc := "(I)V" } : Jvm.MethodName) prog_17_method_123_code (7 : Nat) (Option.none : Option Jvm.ClassFile.FieldType)) ∈ lw_all := lw_g (lw_at lw_m8 236 rfl) rfl
theorem q2048 : (Jvm.Cond.methodLink "WindingSquareModel" (405 : Nat) ({ cls := "WindingSquareModel", name := "bend", desc := "(III)I" } : Jvm.MethodName)) ∈ lw_all := lw_g (lw_at lw_m8 237 rfl) rfl
theorem q2049 : (Jvm.Cond.static ({ cls := "WindingSquareModel", name := "bend", desc := "(III)I" } : Jvm.MethodName)) ∈ lw_all := lw_g (lw_at lw_m8 238 rfl) rfl
theorem q2050 : (Jvm.Cond.code ({ cls := "WindingSquareModel", name := "bend", desc := "(III)I" } : Jvm.MethodName) prog_17_method_122_code (5 : Nat) (Option.some Jvm.ClassFile.FieldType.int)) ∈ lw_all := lw_g (lw_at lw_m8 239 rfl) rfl
theorem q2059 : (Jvm.Cond.castable "WindingSquareModel" "java/lang/Object") ∈ lw_tbl := lw_at lw_m9 8 rfl
theorem in_X5 : ∀ w ∈ wsX50, w ∈ lw_all := lw_in wsX50 [1499, 1501, 1503, 1505, 1507, 1509, 1511, 1513, 1515, 1517, 1519, 1521, 1523, 1525, 1527, 1529, 1531, 1533, 1535, 1537, 1539, 1541, 1543, 1545, 1547, 1549, 1551, 1553, 1555, 1557, 1559, 1561, 1563, 1565, 1567, 1569, 1571, 1573, 1575, 1577] (by decide +kernel) (by decide +kernel)

