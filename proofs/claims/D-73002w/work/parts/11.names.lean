set_option maxRecDepth 100000
abbrev cX5_goesAlone : ByteArray := prog_17_method_85_code
def yX5_goesAlone : MethodName := ⟨RX5, "goesAlone", "(I)V"⟩
def dkwX5_goesAlone_5 : List UInt8 := [182, 1, 10, 42, 27, 6, 21, 4, 182, 1, 10, 177]
abbrev dktX5_goesAlone_5 : List UInt8 := dkwX5_goesAlone_5 ++ []
def dkwX5_goesAlone_4 : List UInt8 := [167, 0, 33, 42, 180, 0, 13, 29, 21, 4, 184, 0, 108, 46, 4, 159, 0, 18, 42, 27, 5, 29]
abbrev dktX5_goesAlone_4 : List UInt8 := dkwX5_goesAlone_4 ++ dktX5_goesAlone_5
def dkwX5_goesAlone_3 : List UInt8 := [184, 1, 32, 96, 54, 4, 29, 21, 4, 184, 1, 35, 154, 0, 13, 42, 27, 4, 3, 182, 1, 10]
abbrev dktX5_goesAlone_3 : List UInt8 := dkwX5_goesAlone_3 ++ dktX5_goesAlone_4
def dkwX5_goesAlone_2 : List UInt8 := [27, 7, 182, 0, 104, 184, 1, 29, 96, 62, 42, 27, 6, 182, 0, 104, 42, 27, 7, 182, 0, 104]
abbrev dktX5_goesAlone_2 : List UInt8 := dkwX5_goesAlone_2 ++ dktX5_goesAlone_3
def dkwX5_goesAlone_1 : List UInt8 := [7, 182, 0, 104, 28, 184, 1, 7, 182, 1, 10, 28, 6, 159, 0, 4, 177, 42, 27, 5, 182, 0, 104, 42]
abbrev dktX5_goesAlone_1 : List UInt8 := dkwX5_goesAlone_1 ++ dktX5_goesAlone_2
def dkwX5_goesAlone_0 : List UInt8 := [42, 27, 182, 1, 45, 61, 42, 27, 16, 8, 4, 182, 1, 14, 28, 6, 162, 0, 19, 42, 27, 7, 42, 27]
abbrev dktX5_goesAlone_0 : List UInt8 := dkwX5_goesAlone_0 ++ dktX5_goesAlone_1
theorem dksX5_goesAlone_0 : cX5_goesAlone.data.toList.drop 0 = dktX5_goesAlone_0 := by decide +kernel
theorem dksX5_goesAlone_1 : cX5_goesAlone.data.toList.drop 24 = dktX5_goesAlone_1 := dk_seg dksX5_goesAlone_0 24 rfl rfl
theorem dksX5_goesAlone_2 : cX5_goesAlone.data.toList.drop 48 = dktX5_goesAlone_2 := dk_seg dksX5_goesAlone_1 24 rfl rfl
theorem dksX5_goesAlone_3 : cX5_goesAlone.data.toList.drop 70 = dktX5_goesAlone_3 := dk_seg dksX5_goesAlone_2 22 rfl rfl
theorem dksX5_goesAlone_4 : cX5_goesAlone.data.toList.drop 92 = dktX5_goesAlone_4 := dk_seg dksX5_goesAlone_3 22 rfl rfl
theorem dksX5_goesAlone_5 : cX5_goesAlone.data.toList.drop 114 = dktX5_goesAlone_5 := dk_seg dksX5_goesAlone_4 22 rfl rfl
theorem dX5_goesAlone_0 : decode cX5_goesAlone 0 = .ok (.aload_n 0, 1) := dk_42 (dk_at dksX5_goesAlone_0 0 rfl rfl)
theorem dX5_goesAlone_1 : decode cX5_goesAlone 1 = .ok (.iload_n 1, 1) := dk_27 (dk_at dksX5_goesAlone_0 1 rfl rfl)
theorem dX5_goesAlone_2 : decode cX5_goesAlone 2 = .ok (.invokevirtual 301, 3) := dk_182 1 45 (dk_at dksX5_goesAlone_0 2 rfl rfl)
theorem dX5_goesAlone_5 : decode cX5_goesAlone 5 = .ok (.istore_n 2, 1) := dk_61 (dk_at dksX5_goesAlone_0 5 rfl rfl)
theorem dX5_goesAlone_6 : decode cX5_goesAlone 6 = .ok (.aload_n 0, 1) := dk_42 (dk_at dksX5_goesAlone_0 6 rfl rfl)
theorem dX5_goesAlone_7 : decode cX5_goesAlone 7 = .ok (.iload_n 1, 1) := dk_27 (dk_at dksX5_goesAlone_0 7 rfl rfl)
theorem dX5_goesAlone_8 : decode cX5_goesAlone 8 = .ok (.bipush 8, 2) := dk_16 8 (dk_at dksX5_goesAlone_0 8 rfl rfl)
theorem dX5_goesAlone_10 : decode cX5_goesAlone 10 = .ok (.iconst 1, 1) := dk_4 (dk_at dksX5_goesAlone_0 10 rfl rfl)
theorem dX5_goesAlone_11 : decode cX5_goesAlone 11 = .ok (.invokevirtual 270, 3) := dk_182 1 14 (dk_at dksX5_goesAlone_0 11 rfl rfl)
theorem dX5_goesAlone_14 : decode cX5_goesAlone 14 = .ok (.iload_n 2, 1) := dk_28 (dk_at dksX5_goesAlone_0 14 rfl rfl)
theorem dX5_goesAlone_15 : decode cX5_goesAlone 15 = .ok (.iconst 3, 1) := dk_6 (dk_at dksX5_goesAlone_0 15 rfl rfl)
theorem dX5_goesAlone_16 : decode cX5_goesAlone 16 = .ok (.if_icmp .ge 19, 3) := dk_162 0 19 (dk_at dksX5_goesAlone_0 16 rfl rfl)
theorem dX5_goesAlone_19 : decode cX5_goesAlone 19 = .ok (.aload_n 0, 1) := dk_42 (dk_at dksX5_goesAlone_0 19 rfl rfl)
theorem dX5_goesAlone_20 : decode cX5_goesAlone 20 = .ok (.iload_n 1, 1) := dk_27 (dk_at dksX5_goesAlone_0 20 rfl rfl)
theorem dX5_goesAlone_21 : decode cX5_goesAlone 21 = .ok (.iconst 4, 1) := dk_7 (dk_at dksX5_goesAlone_0 21 rfl rfl)
theorem dX5_goesAlone_22 : decode cX5_goesAlone 22 = .ok (.aload_n 0, 1) := dk_42 (dk_at dksX5_goesAlone_0 22 rfl rfl)
theorem dX5_goesAlone_23 : decode cX5_goesAlone 23 = .ok (.iload_n 1, 1) := dk_27 (dk_at dksX5_goesAlone_0 23 rfl rfl)
theorem dX5_goesAlone_24 : decode cX5_goesAlone 24 = .ok (.iconst 4, 1) := dk_7 (dk_at dksX5_goesAlone_1 0 rfl rfl)
theorem dX5_goesAlone_25 : decode cX5_goesAlone 25 = .ok (.invokevirtual 104, 3) := dk_182 0 104 (dk_at dksX5_goesAlone_1 1 rfl rfl)
theorem dX5_goesAlone_28 : decode cX5_goesAlone 28 = .ok (.iload_n 2, 1) := dk_28 (dk_at dksX5_goesAlone_1 4 rfl rfl)
theorem dX5_goesAlone_29 : decode cX5_goesAlone 29 = .ok (.invokestatic 263, 3) := dk_184 1 7 (dk_at dksX5_goesAlone_1 5 rfl rfl)
theorem dX5_goesAlone_32 : decode cX5_goesAlone 32 = .ok (.invokevirtual 266, 3) := dk_182 1 10 (dk_at dksX5_goesAlone_1 8 rfl rfl)
theorem dX5_goesAlone_35 : decode cX5_goesAlone 35 = .ok (.iload_n 2, 1) := dk_28 (dk_at dksX5_goesAlone_1 11 rfl rfl)
theorem dX5_goesAlone_36 : decode cX5_goesAlone 36 = .ok (.iconst 3, 1) := dk_6 (dk_at dksX5_goesAlone_1 12 rfl rfl)
theorem dX5_goesAlone_37 : decode cX5_goesAlone 37 = .ok (.if_icmp .eq 4, 3) := dk_159 0 4 (dk_at dksX5_goesAlone_1 13 rfl rfl)
theorem dX5_goesAlone_40 : decode cX5_goesAlone 40 = .ok (.return_, 1) := dk_177 (dk_at dksX5_goesAlone_1 16 rfl rfl)
theorem dX5_goesAlone_41 : decode cX5_goesAlone 41 = .ok (.aload_n 0, 1) := dk_42 (dk_at dksX5_goesAlone_1 17 rfl rfl)
theorem dX5_goesAlone_42 : decode cX5_goesAlone 42 = .ok (.iload_n 1, 1) := dk_27 (dk_at dksX5_goesAlone_1 18 rfl rfl)
theorem dX5_goesAlone_43 : decode cX5_goesAlone 43 = .ok (.iconst 2, 1) := dk_5 (dk_at dksX5_goesAlone_1 19 rfl rfl)
theorem dX5_goesAlone_44 : decode cX5_goesAlone 44 = .ok (.invokevirtual 104, 3) := dk_182 0 104 (dk_at dksX5_goesAlone_1 20 rfl rfl)
theorem dX5_goesAlone_47 : decode cX5_goesAlone 47 = .ok (.aload_n 0, 1) := dk_42 (dk_at dksX5_goesAlone_1 23 rfl rfl)
theorem dX5_goesAlone_48 : decode cX5_goesAlone 48 = .ok (.iload_n 1, 1) := dk_27 (dk_at dksX5_goesAlone_2 0 rfl rfl)
theorem dX5_goesAlone_49 : decode cX5_goesAlone 49 = .ok (.iconst 4, 1) := dk_7 (dk_at dksX5_goesAlone_2 1 rfl rfl)
theorem dX5_goesAlone_50 : decode cX5_goesAlone 50 = .ok (.invokevirtual 104, 3) := dk_182 0 104 (dk_at dksX5_goesAlone_2 2 rfl rfl)
theorem dX5_goesAlone_53 : decode cX5_goesAlone 53 = .ok (.invokestatic 285, 3) := dk_184 1 29 (dk_at dksX5_goesAlone_2 5 rfl rfl)
theorem dX5_goesAlone_56 : decode cX5_goesAlone 56 = .ok (.iadd, 1) := dk_96 (dk_at dksX5_goesAlone_2 8 rfl rfl)
theorem dX5_goesAlone_57 : decode cX5_goesAlone 57 = .ok (.istore_n 3, 1) := dk_62 (dk_at dksX5_goesAlone_2 9 rfl rfl)
theorem dX5_goesAlone_58 : decode cX5_goesAlone 58 = .ok (.aload_n 0, 1) := dk_42 (dk_at dksX5_goesAlone_2 10 rfl rfl)
theorem dX5_goesAlone_59 : decode cX5_goesAlone 59 = .ok (.iload_n 1, 1) := dk_27 (dk_at dksX5_goesAlone_2 11 rfl rfl)
theorem dX5_goesAlone_60 : decode cX5_goesAlone 60 = .ok (.iconst 3, 1) := dk_6 (dk_at dksX5_goesAlone_2 12 rfl rfl)
theorem dX5_goesAlone_61 : decode cX5_goesAlone 61 = .ok (.invokevirtual 104, 3) := dk_182 0 104 (dk_at dksX5_goesAlone_2 13 rfl rfl)
theorem dX5_goesAlone_64 : decode cX5_goesAlone 64 = .ok (.aload_n 0, 1) := dk_42 (dk_at dksX5_goesAlone_2 16 rfl rfl)
theorem dX5_goesAlone_65 : decode cX5_goesAlone 65 = .ok (.iload_n 1, 1) := dk_27 (dk_at dksX5_goesAlone_2 17 rfl rfl)
theorem dX5_goesAlone_66 : decode cX5_goesAlone 66 = .ok (.iconst 4, 1) := dk_7 (dk_at dksX5_goesAlone_2 18 rfl rfl)
theorem dX5_goesAlone_67 : decode cX5_goesAlone 67 = .ok (.invokevirtual 104, 3) := dk_182 0 104 (dk_at dksX5_goesAlone_2 19 rfl rfl)
theorem dX5_goesAlone_70 : decode cX5_goesAlone 70 = .ok (.invokestatic 288, 3) := dk_184 1 32 (dk_at dksX5_goesAlone_3 0 rfl rfl)
theorem dX5_goesAlone_73 : decode cX5_goesAlone 73 = .ok (.iadd, 1) := dk_96 (dk_at dksX5_goesAlone_3 3 rfl rfl)
theorem dX5_goesAlone_74 : decode cX5_goesAlone 74 = .ok (.istore 4, 2) := dk_54 4 (dk_at dksX5_goesAlone_3 4 rfl rfl)
theorem dX5_goesAlone_76 : decode cX5_goesAlone 76 = .ok (.iload_n 3, 1) := dk_29 (dk_at dksX5_goesAlone_3 6 rfl rfl)
theorem dX5_goesAlone_77 : decode cX5_goesAlone 77 = .ok (.iload 4, 2) := dk_21 4 (dk_at dksX5_goesAlone_3 7 rfl rfl)
theorem dX5_goesAlone_79 : decode cX5_goesAlone 79 = .ok (.invokestatic 291, 3) := dk_184 1 35 (dk_at dksX5_goesAlone_3 9 rfl rfl)
theorem dX5_goesAlone_82 : decode cX5_goesAlone 82 = .ok (.ifCond .ne 13, 3) := dk_154 0 13 (dk_at dksX5_goesAlone_3 12 rfl rfl)
theorem dX5_goesAlone_85 : decode cX5_goesAlone 85 = .ok (.aload_n 0, 1) := dk_42 (dk_at dksX5_goesAlone_3 15 rfl rfl)
theorem dX5_goesAlone_86 : decode cX5_goesAlone 86 = .ok (.iload_n 1, 1) := dk_27 (dk_at dksX5_goesAlone_3 16 rfl rfl)
theorem dX5_goesAlone_87 : decode cX5_goesAlone 87 = .ok (.iconst 1, 1) := dk_4 (dk_at dksX5_goesAlone_3 17 rfl rfl)
theorem dX5_goesAlone_88 : decode cX5_goesAlone 88 = .ok (.iconst 0, 1) := dk_3 (dk_at dksX5_goesAlone_3 18 rfl rfl)
theorem dX5_goesAlone_89 : decode cX5_goesAlone 89 = .ok (.invokevirtual 266, 3) := dk_182 1 10 (dk_at dksX5_goesAlone_3 19 rfl rfl)
theorem dX5_goesAlone_92 : decode cX5_goesAlone 92 = .ok (.goto 33, 3) := dk_167 0 33 (dk_at dksX5_goesAlone_4 0 rfl rfl)
theorem dX5_goesAlone_95 : decode cX5_goesAlone 95 = .ok (.aload_n 0, 1) := dk_42 (dk_at dksX5_goesAlone_4 3 rfl rfl)
theorem dX5_goesAlone_96 : decode cX5_goesAlone 96 = .ok (.getfield 13, 3) := dk_180 0 13 (dk_at dksX5_goesAlone_4 4 rfl rfl)
theorem dX5_goesAlone_99 : decode cX5_goesAlone 99 = .ok (.iload_n 3, 1) := dk_29 (dk_at dksX5_goesAlone_4 7 rfl rfl)
theorem dX5_goesAlone_100 : decode cX5_goesAlone 100 = .ok (.iload 4, 2) := dk_21 4 (dk_at dksX5_goesAlone_4 8 rfl rfl)
theorem dX5_goesAlone_102 : decode cX5_goesAlone 102 = .ok (.invokestatic 108, 3) := dk_184 0 108 (dk_at dksX5_goesAlone_4 10 rfl rfl)
theorem dX5_goesAlone_105 : decode cX5_goesAlone 105 = .ok (.iaload, 1) := dk_46 (dk_at dksX5_goesAlone_4 13 rfl rfl)
theorem dX5_goesAlone_106 : decode cX5_goesAlone 106 = .ok (.iconst 1, 1) := dk_4 (dk_at dksX5_goesAlone_4 14 rfl rfl)
theorem dX5_goesAlone_107 : decode cX5_goesAlone 107 = .ok (.if_icmp .eq 18, 3) := dk_159 0 18 (dk_at dksX5_goesAlone_4 15 rfl rfl)
theorem dX5_goesAlone_110 : decode cX5_goesAlone 110 = .ok (.aload_n 0, 1) := dk_42 (dk_at dksX5_goesAlone_4 18 rfl rfl)
theorem dX5_goesAlone_111 : decode cX5_goesAlone 111 = .ok (.iload_n 1, 1) := dk_27 (dk_at dksX5_goesAlone_4 19 rfl rfl)
theorem dX5_goesAlone_112 : decode cX5_goesAlone 112 = .ok (.iconst 2, 1) := dk_5 (dk_at dksX5_goesAlone_4 20 rfl rfl)
theorem dX5_goesAlone_113 : decode cX5_goesAlone 113 = .ok (.iload_n 3, 1) := dk_29 (dk_at dksX5_goesAlone_4 21 rfl rfl)
theorem dX5_goesAlone_114 : decode cX5_goesAlone 114 = .ok (.invokevirtual 266, 3) := dk_182 1 10 (dk_at dksX5_goesAlone_5 0 rfl rfl)
theorem dX5_goesAlone_117 : decode cX5_goesAlone 117 = .ok (.aload_n 0, 1) := dk_42 (dk_at dksX5_goesAlone_5 3 rfl rfl)
theorem dX5_goesAlone_118 : decode cX5_goesAlone 118 = .ok (.iload_n 1, 1) := dk_27 (dk_at dksX5_goesAlone_5 4 rfl rfl)
theorem dX5_goesAlone_119 : decode cX5_goesAlone 119 = .ok (.iconst 3, 1) := dk_6 (dk_at dksX5_goesAlone_5 5 rfl rfl)
theorem dX5_goesAlone_120 : decode cX5_goesAlone 120 = .ok (.iload 4, 2) := dk_21 4 (dk_at dksX5_goesAlone_5 6 rfl rfl)
theorem dX5_goesAlone_122 : decode cX5_goesAlone 122 = .ok (.invokevirtual 266, 3) := dk_182 1 10 (dk_at dksX5_goesAlone_5 8 rfl rfl)
theorem dX5_goesAlone_125 : decode cX5_goesAlone 125 = .ok (.return_, 1) := dk_177 (dk_at dksX5_goesAlone_5 11 rfl rfl)
abbrev cX5_far : ByteArray := prog_17_method_92_code
def yX5_far : MethodName := ⟨RX5, "far", "(IIII)I"⟩
def dkwX5_far_6 : List UInt8 := [160, 0, 7, 2, 167, 0, 5, 21, 5, 172]
abbrev dktX5_far_6 : List UInt8 := dkwX5_far_6 ++ []
def dkwX5_far_5 : List UInt8 := [162, 0, 8, 21, 7, 167, 0, 5, 21, 5, 54, 5, 132, 6, 1, 167, 255, 191, 21, 5, 17, 39, 15]
abbrev dktX5_far_5 : List UInt8 := dkwX5_far_5 ++ dktX5_far_6
def dkwX5_far_4 : List UInt8 := [180, 0, 41, 21, 4, 17, 2, 64, 104, 7, 29, 104, 96, 21, 6, 96, 46, 54, 7, 21, 7, 21, 5]
abbrev dktX5_far_4 : List UInt8 := dkwX5_far_4 ++ dktX5_far_5
def dkwX5_far_3 : List UInt8 := [162, 0, 65, 21, 4, 2, 160, 0, 17, 42, 180, 0, 44, 7, 29, 104, 21, 6, 96, 46, 167, 0, 21, 42]
abbrev dktX5_far_3 : List UInt8 := dkwX5_far_3 ++ dktX5_far_4
def dkwX5_far_2 : List UInt8 := [28, 182, 1, 87, 167, 0, 9, 42, 27, 28, 182, 1, 90, 17, 39, 15, 54, 5, 3, 54, 6, 21, 6, 7]
abbrev dktX5_far_2 : List UInt8 := dkwX5_far_2 ++ dktX5_far_3
def dkwX5_far_1 : List UInt8 := [153, 0, 14, 21, 4, 2, 16, 6, 184, 0, 100, 154, 0, 5, 2, 172, 21, 4, 2, 160, 0, 12, 42, 27]
abbrev dktX5_far_1 : List UInt8 := dkwX5_far_1 ++ dktX5_far_2
def dkwX5_far_0 : List UInt8 := [42, 27, 182, 1, 84, 153, 0, 31, 42, 29, 182, 1, 84, 153, 0, 23, 28, 3, 6, 184, 0, 100]
abbrev dktX5_far_0 : List UInt8 := dkwX5_far_0 ++ dktX5_far_1
theorem dksX5_far_0 : cX5_far.data.toList.drop 0 = dktX5_far_0 := by decide +kernel
theorem dksX5_far_1 : cX5_far.data.toList.drop 22 = dktX5_far_1 := dk_seg dksX5_far_0 22 rfl rfl
theorem dksX5_far_2 : cX5_far.data.toList.drop 46 = dktX5_far_2 := dk_seg dksX5_far_1 24 rfl rfl
theorem dksX5_far_3 : cX5_far.data.toList.drop 70 = dktX5_far_3 := dk_seg dksX5_far_2 24 rfl rfl
theorem dksX5_far_4 : cX5_far.data.toList.drop 94 = dktX5_far_4 := dk_seg dksX5_far_3 24 rfl rfl
theorem dksX5_far_5 : cX5_far.data.toList.drop 117 = dktX5_far_5 := dk_seg dksX5_far_4 23 rfl rfl
theorem dksX5_far_6 : cX5_far.data.toList.drop 140 = dktX5_far_6 := dk_seg dksX5_far_5 23 rfl rfl
theorem dX5_far_0 : decode cX5_far 0 = .ok (.aload_n 0, 1) := dk_42 (dk_at dksX5_far_0 0 rfl rfl)
theorem dX5_far_1 : decode cX5_far 1 = .ok (.iload_n 1, 1) := dk_27 (dk_at dksX5_far_0 1 rfl rfl)
theorem dX5_far_2 : decode cX5_far 2 = .ok (.invokevirtual 340, 3) := dk_182 1 84 (dk_at dksX5_far_0 2 rfl rfl)
theorem dX5_far_5 : decode cX5_far 5 = .ok (.ifCond .eq 31, 3) := dk_153 0 31 (dk_at dksX5_far_0 5 rfl rfl)
theorem dX5_far_8 : decode cX5_far 8 = .ok (.aload_n 0, 1) := dk_42 (dk_at dksX5_far_0 8 rfl rfl)
theorem dX5_far_9 : decode cX5_far 9 = .ok (.iload_n 3, 1) := dk_29 (dk_at dksX5_far_0 9 rfl rfl)
theorem dX5_far_10 : decode cX5_far 10 = .ok (.invokevirtual 340, 3) := dk_182 1 84 (dk_at dksX5_far_0 10 rfl rfl)
theorem dX5_far_13 : decode cX5_far 13 = .ok (.ifCond .eq 23, 3) := dk_153 0 23 (dk_at dksX5_far_0 13 rfl rfl)
theorem dX5_far_16 : decode cX5_far 16 = .ok (.iload_n 2, 1) := dk_28 (dk_at dksX5_far_0 16 rfl rfl)
theorem dX5_far_17 : decode cX5_far 17 = .ok (.iconst 0, 1) := dk_3 (dk_at dksX5_far_0 17 rfl rfl)
theorem dX5_far_18 : decode cX5_far 18 = .ok (.iconst 3, 1) := dk_6 (dk_at dksX5_far_0 18 rfl rfl)
theorem dX5_far_19 : decode cX5_far 19 = .ok (.invokestatic 100, 3) := dk_184 0 100 (dk_at dksX5_far_0 19 rfl rfl)
theorem dX5_far_22 : decode cX5_far 22 = .ok (.ifCond .eq 14, 3) := dk_153 0 14 (dk_at dksX5_far_1 0 rfl rfl)
theorem dX5_far_25 : decode cX5_far 25 = .ok (.iload 4, 2) := dk_21 4 (dk_at dksX5_far_1 3 rfl rfl)
theorem dX5_far_27 : decode cX5_far 27 = .ok (.iconst (-1), 1) := dk_2 (dk_at dksX5_far_1 5 rfl rfl)
theorem dX5_far_28 : decode cX5_far 28 = .ok (.bipush 6, 2) := dk_16 6 (dk_at dksX5_far_1 6 rfl rfl)
theorem dX5_far_30 : decode cX5_far 30 = .ok (.invokestatic 100, 3) := dk_184 0 100 (dk_at dksX5_far_1 8 rfl rfl)
theorem dX5_far_33 : decode cX5_far 33 = .ok (.ifCond .ne 5, 3) := dk_154 0 5 (dk_at dksX5_far_1 11 rfl rfl)
theorem dX5_far_36 : decode cX5_far 36 = .ok (.iconst (-1), 1) := dk_2 (dk_at dksX5_far_1 14 rfl rfl)
theorem dX5_far_37 : decode cX5_far 37 = .ok (.ireturn, 1) := dk_172 (dk_at dksX5_far_1 15 rfl rfl)
theorem dX5_far_38 : decode cX5_far 38 = .ok (.iload 4, 2) := dk_21 4 (dk_at dksX5_far_1 16 rfl rfl)
theorem dX5_far_40 : decode cX5_far 40 = .ok (.iconst (-1), 1) := dk_2 (dk_at dksX5_far_1 18 rfl rfl)
theorem dX5_far_41 : decode cX5_far 41 = .ok (.if_icmp .ne 12, 3) := dk_160 0 12 (dk_at dksX5_far_1 19 rfl rfl)
theorem dX5_far_44 : decode cX5_far 44 = .ok (.aload_n 0, 1) := dk_42 (dk_at dksX5_far_1 22 rfl rfl)
theorem dX5_far_45 : decode cX5_far 45 = .ok (.iload_n 1, 1) := dk_27 (dk_at dksX5_far_1 23 rfl rfl)
theorem dX5_far_46 : decode cX5_far 46 = .ok (.iload_n 2, 1) := dk_28 (dk_at dksX5_far_2 0 rfl rfl)
theorem dX5_far_47 : decode cX5_far 47 = .ok (.invokevirtual 343, 3) := dk_182 1 87 (dk_at dksX5_far_2 1 rfl rfl)
theorem dX5_far_50 : decode cX5_far 50 = .ok (.goto 9, 3) := dk_167 0 9 (dk_at dksX5_far_2 4 rfl rfl)
theorem dX5_far_53 : decode cX5_far 53 = .ok (.aload_n 0, 1) := dk_42 (dk_at dksX5_far_2 7 rfl rfl)
theorem dX5_far_54 : decode cX5_far 54 = .ok (.iload_n 1, 1) := dk_27 (dk_at dksX5_far_2 8 rfl rfl)
theorem dX5_far_55 : decode cX5_far 55 = .ok (.iload_n 2, 1) := dk_28 (dk_at dksX5_far_2 9 rfl rfl)
theorem dX5_far_56 : decode cX5_far 56 = .ok (.invokevirtual 346, 3) := dk_182 1 90 (dk_at dksX5_far_2 10 rfl rfl)
theorem dX5_far_59 : decode cX5_far 59 = .ok (.sipush 9999, 3) := dk_17 39 15 (dk_at dksX5_far_2 13 rfl rfl)
theorem dX5_far_62 : decode cX5_far 62 = .ok (.istore 5, 2) := dk_54 5 (dk_at dksX5_far_2 16 rfl rfl)
theorem dX5_far_64 : decode cX5_far 64 = .ok (.iconst 0, 1) := dk_3 (dk_at dksX5_far_2 18 rfl rfl)
theorem dX5_far_65 : decode cX5_far 65 = .ok (.istore 6, 2) := dk_54 6 (dk_at dksX5_far_2 19 rfl rfl)
theorem dX5_far_67 : decode cX5_far 67 = .ok (.iload 6, 2) := dk_21 6 (dk_at dksX5_far_2 21 rfl rfl)
theorem dX5_far_69 : decode cX5_far 69 = .ok (.iconst 4, 1) := dk_7 (dk_at dksX5_far_2 23 rfl rfl)
theorem dX5_far_70 : decode cX5_far 70 = .ok (.if_icmp .ge 65, 3) := dk_162 0 65 (dk_at dksX5_far_3 0 rfl rfl)
theorem dX5_far_73 : decode cX5_far 73 = .ok (.iload 4, 2) := dk_21 4 (dk_at dksX5_far_3 3 rfl rfl)
theorem dX5_far_75 : decode cX5_far 75 = .ok (.iconst (-1), 1) := dk_2 (dk_at dksX5_far_3 5 rfl rfl)
theorem dX5_far_76 : decode cX5_far 76 = .ok (.if_icmp .ne 17, 3) := dk_160 0 17 (dk_at dksX5_far_3 6 rfl rfl)
theorem dX5_far_79 : decode cX5_far 79 = .ok (.aload_n 0, 1) := dk_42 (dk_at dksX5_far_3 9 rfl rfl)
theorem dX5_far_80 : decode cX5_far 80 = .ok (.getfield 44, 3) := dk_180 0 44 (dk_at dksX5_far_3 10 rfl rfl)
theorem dX5_far_83 : decode cX5_far 83 = .ok (.iconst 4, 1) := dk_7 (dk_at dksX5_far_3 13 rfl rfl)
theorem dX5_far_84 : decode cX5_far 84 = .ok (.iload_n 3, 1) := dk_29 (dk_at dksX5_far_3 14 rfl rfl)
theorem dX5_far_85 : decode cX5_far 85 = .ok (.imul, 1) := dk_104 (dk_at dksX5_far_3 15 rfl rfl)
theorem dX5_far_86 : decode cX5_far 86 = .ok (.iload 6, 2) := dk_21 6 (dk_at dksX5_far_3 16 rfl rfl)
theorem dX5_far_88 : decode cX5_far 88 = .ok (.iadd, 1) := dk_96 (dk_at dksX5_far_3 18 rfl rfl)
theorem dX5_far_89 : decode cX5_far 89 = .ok (.iaload, 1) := dk_46 (dk_at dksX5_far_3 19 rfl rfl)
theorem dX5_far_90 : decode cX5_far 90 = .ok (.goto 21, 3) := dk_167 0 21 (dk_at dksX5_far_3 20 rfl rfl)
theorem dX5_far_93 : decode cX5_far 93 = .ok (.aload_n 0, 1) := dk_42 (dk_at dksX5_far_3 23 rfl rfl)
theorem dX5_far_94 : decode cX5_far 94 = .ok (.getfield 41, 3) := dk_180 0 41 (dk_at dksX5_far_4 0 rfl rfl)
theorem dX5_far_97 : decode cX5_far 97 = .ok (.iload 4, 2) := dk_21 4 (dk_at dksX5_far_4 3 rfl rfl)
theorem dX5_far_99 : decode cX5_far 99 = .ok (.sipush 576, 3) := dk_17 2 64 (dk_at dksX5_far_4 5 rfl rfl)
theorem dX5_far_102 : decode cX5_far 102 = .ok (.imul, 1) := dk_104 (dk_at dksX5_far_4 8 rfl rfl)
theorem dX5_far_103 : decode cX5_far 103 = .ok (.iconst 4, 1) := dk_7 (dk_at dksX5_far_4 9 rfl rfl)
theorem dX5_far_104 : decode cX5_far 104 = .ok (.iload_n 3, 1) := dk_29 (dk_at dksX5_far_4 10 rfl rfl)
theorem dX5_far_105 : decode cX5_far 105 = .ok (.imul, 1) := dk_104 (dk_at dksX5_far_4 11 rfl rfl)
theorem dX5_far_106 : decode cX5_far 106 = .ok (.iadd, 1) := dk_96 (dk_at dksX5_far_4 12 rfl rfl)
theorem dX5_far_107 : decode cX5_far 107 = .ok (.iload 6, 2) := dk_21 6 (dk_at dksX5_far_4 13 rfl rfl)
theorem dX5_far_109 : decode cX5_far 109 = .ok (.iadd, 1) := dk_96 (dk_at dksX5_far_4 15 rfl rfl)
theorem dX5_far_110 : decode cX5_far 110 = .ok (.iaload, 1) := dk_46 (dk_at dksX5_far_4 16 rfl rfl)
theorem dX5_far_111 : decode cX5_far 111 = .ok (.istore 7, 2) := dk_54 7 (dk_at dksX5_far_4 17 rfl rfl)
theorem dX5_far_113 : decode cX5_far 113 = .ok (.iload 7, 2) := dk_21 7 (dk_at dksX5_far_4 19 rfl rfl)
theorem dX5_far_115 : decode cX5_far 115 = .ok (.iload 5, 2) := dk_21 5 (dk_at dksX5_far_4 21 rfl rfl)
theorem dX5_far_117 : decode cX5_far 117 = .ok (.if_icmp .ge 8, 3) := dk_162 0 8 (dk_at dksX5_far_5 0 rfl rfl)
theorem dX5_far_120 : decode cX5_far 120 = .ok (.iload 7, 2) := dk_21 7 (dk_at dksX5_far_5 3 rfl rfl)
theorem dX5_far_122 : decode cX5_far 122 = .ok (.goto 5, 3) := dk_167 0 5 (dk_at dksX5_far_5 5 rfl rfl)
theorem dX5_far_125 : decode cX5_far 125 = .ok (.iload 5, 2) := dk_21 5 (dk_at dksX5_far_5 8 rfl rfl)
theorem dX5_far_127 : decode cX5_far 127 = .ok (.istore 5, 2) := dk_54 5 (dk_at dksX5_far_5 10 rfl rfl)
theorem dX5_far_129 : decode cX5_far 129 = .ok (.iinc 6 1, 3) := dk_132 6 1 (dk_at dksX5_far_5 12 rfl rfl)
theorem dX5_far_132 : decode cX5_far 132 = .ok (.goto (-65), 3) := dk_167 255 191 (dk_at dksX5_far_5 15 rfl rfl)
theorem dX5_far_135 : decode cX5_far 135 = .ok (.iload 5, 2) := dk_21 5 (dk_at dksX5_far_5 18 rfl rfl)
theorem dX5_far_137 : decode cX5_far 137 = .ok (.sipush 9999, 3) := dk_17 39 15 (dk_at dksX5_far_5 20 rfl rfl)
theorem dX5_far_140 : decode cX5_far 140 = .ok (.if_icmp .ne 7, 3) := dk_160 0 7 (dk_at dksX5_far_6 0 rfl rfl)
theorem dX5_far_143 : decode cX5_far 143 = .ok (.iconst (-1), 1) := dk_2 (dk_at dksX5_far_6 3 rfl rfl)
theorem dX5_far_144 : decode cX5_far 144 = .ok (.goto 5, 3) := dk_167 0 5 (dk_at dksX5_far_6 4 rfl rfl)
theorem dX5_far_147 : decode cX5_far 147 = .ok (.iload 5, 2) := dk_21 5 (dk_at dksX5_far_6 7 rfl rfl)
theorem dX5_far_149 : decode cX5_far 149 = .ok (.ireturn, 1) := dk_172 (dk_at dksX5_far_6 9 rfl rfl)
abbrev cX5_isGround : ByteArray := prog_17_method_87_code
def yX5_isGround : MethodName := ⟨RX5, "isGround", "(I)Z"⟩
def dkwX5_isGround_1 : List UInt8 := [167, 0, 4, 3, 172]
abbrev dktX5_isGround_1 : List UInt8 := dkwX5_isGround_1 ++ []
def dkwX5_isGround_0 : List UInt8 := [27, 3, 17, 0, 143, 184, 0, 100, 153, 0, 17, 42, 180, 0, 9, 27, 46, 4, 159, 0, 7, 4]
abbrev dktX5_isGround_0 : List UInt8 := dkwX5_isGround_0 ++ dktX5_isGround_1
theorem dksX5_isGround_0 : cX5_isGround.data.toList.drop 0 = dktX5_isGround_0 := by decide +kernel
theorem dksX5_isGround_1 : cX5_isGround.data.toList.drop 22 = dktX5_isGround_1 := dk_seg dksX5_isGround_0 22 rfl rfl
theorem dX5_isGround_0 : decode cX5_isGround 0 = .ok (.iload_n 1, 1) := dk_27 (dk_at dksX5_isGround_0 0 rfl rfl)
theorem dX5_isGround_1 : decode cX5_isGround 1 = .ok (.iconst 0, 1) := dk_3 (dk_at dksX5_isGround_0 1 rfl rfl)
theorem dX5_isGround_2 : decode cX5_isGround 2 = .ok (.sipush 143, 3) := dk_17 0 143 (dk_at dksX5_isGround_0 2 rfl rfl)
theorem dX5_isGround_5 : decode cX5_isGround 5 = .ok (.invokestatic 100, 3) := dk_184 0 100 (dk_at dksX5_isGround_0 5 rfl rfl)
theorem dX5_isGround_8 : decode cX5_isGround 8 = .ok (.ifCond .eq 17, 3) := dk_153 0 17 (dk_at dksX5_isGround_0 8 rfl rfl)
theorem dX5_isGround_11 : decode cX5_isGround 11 = .ok (.aload_n 0, 1) := dk_42 (dk_at dksX5_isGround_0 11 rfl rfl)
theorem dX5_isGround_12 : decode cX5_isGround 12 = .ok (.getfield 9, 3) := dk_180 0 9 (dk_at dksX5_isGround_0 12 rfl rfl)
theorem dX5_isGround_15 : decode cX5_isGround 15 = .ok (.iload_n 1, 1) := dk_27 (dk_at dksX5_isGround_0 15 rfl rfl)
theorem dX5_isGround_16 : decode cX5_isGround 16 = .ok (.iaload, 1) := dk_46 (dk_at dksX5_isGround_0 16 rfl rfl)
theorem dX5_isGround_17 : decode cX5_isGround 17 = .ok (.iconst 1, 1) := dk_4 (dk_at dksX5_isGround_0 17 rfl rfl)
theorem dX5_isGround_18 : decode cX5_isGround 18 = .ok (.if_icmp .eq 7, 3) := dk_159 0 7 (dk_at dksX5_isGround_0 18 rfl rfl)
theorem dX5_isGround_21 : decode cX5_isGround 21 = .ok (.iconst 1, 1) := dk_4 (dk_at dksX5_isGround_0 21 rfl rfl)
theorem dX5_isGround_22 : decode cX5_isGround 22 = .ok (.goto 4, 3) := dk_167 0 4 (dk_at dksX5_isGround_1 0 rfl rfl)
theorem dX5_isGround_25 : decode cX5_isGround 25 = .ok (.iconst 0, 1) := dk_3 (dk_at dksX5_isGround_1 3 rfl rfl)
theorem dX5_isGround_26 : decode cX5_isGround 26 = .ok (.ireturn, 1) := dk_172 (dk_at dksX5_isGround_1 4 rfl rfl)
abbrev cX5_layFar : ByteArray := prog_17_method_91_code
def yX5_layFar : MethodName := ⟨RX5, "layFar", "(II)V"⟩
def dkwX5_layFar_9 : List UInt8 := [132, 4, 1, 167, 255, 87, 177]
abbrev dktX5_layFar_9 : List UInt8 := dkwX5_layFar_9 ++ []
def dkwX5_layFar_8 : List UInt8 := [167, 0, 10, 42, 180, 0, 44, 21, 8, 46, 79, 132, 7, 1, 167, 255, 195, 132, 5, 1, 167, 255, 102]
abbrev dktX5_layFar_8 : List UInt8 := dkwX5_layFar_8 ++ dktX5_layFar_9
def dkwX5_layFar_7 : List UInt8 := [180, 0, 44, 21, 8, 42, 180, 0, 44, 21, 8, 46, 17, 39, 15, 160, 0, 10, 21, 4, 4, 96]
abbrev dktX5_layFar_7 : List UInt8 := dkwX5_layFar_7 ++ dktX5_layFar_8
def dkwX5_layFar_6 : List UInt8 := [162, 0, 61, 21, 5, 7, 108, 7, 104, 21, 5, 7, 112, 21, 7, 184, 1, 7, 96, 54, 8, 42]
abbrev dktX5_layFar_6 : List UInt8 := dkwX5_layFar_6 ++ dktX5_layFar_7
def dkwX5_layFar_5 : List UInt8 := [180, 0, 44, 7, 21, 6, 104, 21, 5, 7, 112, 96, 21, 4, 4, 96, 79, 3, 54, 7, 21, 7, 5]
abbrev dktX5_layFar_5 : List UInt8 := dkwX5_layFar_5 ++ dktX5_layFar_6
def dkwX5_layFar_4 : List UInt8 := [159, 0, 41, 42, 180, 0, 44, 7, 21, 6, 104, 21, 5, 7, 112, 96, 46, 17, 39, 15, 160, 0, 21, 42]
abbrev dktX5_layFar_4 : List UInt8 := dkwX5_layFar_4 ++ dktX5_layFar_5
def dkwX5_layFar_3 : List UInt8 := [167, 0, 131, 4, 62, 42, 21, 5, 7, 108, 21, 5, 7, 112, 4, 182, 1, 78, 54, 6, 21, 6, 2]
abbrev dktX5_layFar_3 : List UInt8 := dkwX5_layFar_3 ++ dktX5_layFar_4
def dkwX5_layFar_2 : List UInt8 := [3, 54, 5, 21, 5, 17, 2, 64, 162, 0, 152, 42, 180, 0, 44, 21, 5, 46, 21, 4, 159, 0, 6]
abbrev dktX5_layFar_2 : List UInt8 := dkwX5_layFar_2 ++ dktX5_layFar_3
def dkwX5_layFar_1 : List UInt8 := [167, 0, 6, 17, 39, 15, 79, 132, 3, 1, 167, 255, 224, 4, 62, 3, 54, 4, 29, 153, 0, 171, 3, 62]
abbrev dktX5_layFar_1 : List UInt8 := dkwX5_layFar_1 ++ dktX5_layFar_2
def dkwX5_layFar_0 : List UInt8 := [3, 62, 29, 17, 2, 64, 162, 0, 31, 42, 180, 0, 44, 29, 29, 7, 27, 104, 28, 96, 160, 0, 7, 3]
abbrev dktX5_layFar_0 : List UInt8 := dkwX5_layFar_0 ++ dktX5_layFar_1
theorem dksX5_layFar_0 : cX5_layFar.data.toList.drop 0 = dktX5_layFar_0 := by decide +kernel
theorem dksX5_layFar_1 : cX5_layFar.data.toList.drop 24 = dktX5_layFar_1 := dk_seg dksX5_layFar_0 24 rfl rfl
theorem dksX5_layFar_2 : cX5_layFar.data.toList.drop 48 = dktX5_layFar_2 := dk_seg dksX5_layFar_1 24 rfl rfl
theorem dksX5_layFar_3 : cX5_layFar.data.toList.drop 71 = dktX5_layFar_3 := dk_seg dksX5_layFar_2 23 rfl rfl
theorem dksX5_layFar_4 : cX5_layFar.data.toList.drop 94 = dktX5_layFar_4 := dk_seg dksX5_layFar_3 23 rfl rfl
theorem dksX5_layFar_5 : cX5_layFar.data.toList.drop 118 = dktX5_layFar_5 := dk_seg dksX5_layFar_4 24 rfl rfl
theorem dksX5_layFar_6 : cX5_layFar.data.toList.drop 141 = dktX5_layFar_6 := dk_seg dksX5_layFar_5 23 rfl rfl
theorem dksX5_layFar_7 : cX5_layFar.data.toList.drop 163 = dktX5_layFar_7 := dk_seg dksX5_layFar_6 22 rfl rfl
theorem dksX5_layFar_8 : cX5_layFar.data.toList.drop 185 = dktX5_layFar_8 := dk_seg dksX5_layFar_7 22 rfl rfl
theorem dksX5_layFar_9 : cX5_layFar.data.toList.drop 208 = dktX5_layFar_9 := dk_seg dksX5_layFar_8 23 rfl rfl
theorem dX5_layFar_0 : decode cX5_layFar 0 = .ok (.iconst 0, 1) := dk_3 (dk_at dksX5_layFar_0 0 rfl rfl)
theorem dX5_layFar_1 : decode cX5_layFar 1 = .ok (.istore_n 3, 1) := dk_62 (dk_at dksX5_layFar_0 1 rfl rfl)
theorem dX5_layFar_2 : decode cX5_layFar 2 = .ok (.iload_n 3, 1) := dk_29 (dk_at dksX5_layFar_0 2 rfl rfl)
theorem dX5_layFar_3 : decode cX5_layFar 3 = .ok (.sipush 576, 3) := dk_17 2 64 (dk_at dksX5_layFar_0 3 rfl rfl)
theorem dX5_layFar_6 : decode cX5_layFar 6 = .ok (.if_icmp .ge 31, 3) := dk_162 0 31 (dk_at dksX5_layFar_0 6 rfl rfl)
theorem dX5_layFar_9 : decode cX5_layFar 9 = .ok (.aload_n 0, 1) := dk_42 (dk_at dksX5_layFar_0 9 rfl rfl)
theorem dX5_layFar_10 : decode cX5_layFar 10 = .ok (.getfield 44, 3) := dk_180 0 44 (dk_at dksX5_layFar_0 10 rfl rfl)
theorem dX5_layFar_13 : decode cX5_layFar 13 = .ok (.iload_n 3, 1) := dk_29 (dk_at dksX5_layFar_0 13 rfl rfl)
theorem dX5_layFar_14 : decode cX5_layFar 14 = .ok (.iload_n 3, 1) := dk_29 (dk_at dksX5_layFar_0 14 rfl rfl)
theorem dX5_layFar_15 : decode cX5_layFar 15 = .ok (.iconst 4, 1) := dk_7 (dk_at dksX5_layFar_0 15 rfl rfl)
theorem dX5_layFar_16 : decode cX5_layFar 16 = .ok (.iload_n 1, 1) := dk_27 (dk_at dksX5_layFar_0 16 rfl rfl)
theorem dX5_layFar_17 : decode cX5_layFar 17 = .ok (.imul, 1) := dk_104 (dk_at dksX5_layFar_0 17 rfl rfl)
theorem dX5_layFar_18 : decode cX5_layFar 18 = .ok (.iload_n 2, 1) := dk_28 (dk_at dksX5_layFar_0 18 rfl rfl)
theorem dX5_layFar_19 : decode cX5_layFar 19 = .ok (.iadd, 1) := dk_96 (dk_at dksX5_layFar_0 19 rfl rfl)
theorem dX5_layFar_20 : decode cX5_layFar 20 = .ok (.if_icmp .ne 7, 3) := dk_160 0 7 (dk_at dksX5_layFar_0 20 rfl rfl)
theorem dX5_layFar_23 : decode cX5_layFar 23 = .ok (.iconst 0, 1) := dk_3 (dk_at dksX5_layFar_0 23 rfl rfl)
theorem dX5_layFar_24 : decode cX5_layFar 24 = .ok (.goto 6, 3) := dk_167 0 6 (dk_at dksX5_layFar_1 0 rfl rfl)
theorem dX5_layFar_27 : decode cX5_layFar 27 = .ok (.sipush 9999, 3) := dk_17 39 15 (dk_at dksX5_layFar_1 3 rfl rfl)
theorem dX5_layFar_30 : decode cX5_layFar 30 = .ok (.iastore, 1) := dk_79 (dk_at dksX5_layFar_1 6 rfl rfl)
theorem dX5_layFar_31 : decode cX5_layFar 31 = .ok (.iinc 3 1, 3) := dk_132 3 1 (dk_at dksX5_layFar_1 7 rfl rfl)
theorem dX5_layFar_34 : decode cX5_layFar 34 = .ok (.goto (-32), 3) := dk_167 255 224 (dk_at dksX5_layFar_1 10 rfl rfl)
theorem dX5_layFar_37 : decode cX5_layFar 37 = .ok (.iconst 1, 1) := dk_4 (dk_at dksX5_layFar_1 13 rfl rfl)
theorem dX5_layFar_38 : decode cX5_layFar 38 = .ok (.istore_n 3, 1) := dk_62 (dk_at dksX5_layFar_1 14 rfl rfl)
theorem dX5_layFar_39 : decode cX5_layFar 39 = .ok (.iconst 0, 1) := dk_3 (dk_at dksX5_layFar_1 15 rfl rfl)
theorem dX5_layFar_40 : decode cX5_layFar 40 = .ok (.istore 4, 2) := dk_54 4 (dk_at dksX5_layFar_1 16 rfl rfl)
theorem dX5_layFar_42 : decode cX5_layFar 42 = .ok (.iload_n 3, 1) := dk_29 (dk_at dksX5_layFar_1 18 rfl rfl)
theorem dX5_layFar_43 : decode cX5_layFar 43 = .ok (.ifCond .eq 171, 3) := dk_153 0 171 (dk_at dksX5_layFar_1 19 rfl rfl)
theorem dX5_layFar_46 : decode cX5_layFar 46 = .ok (.iconst 0, 1) := dk_3 (dk_at dksX5_layFar_1 22 rfl rfl)
theorem dX5_layFar_47 : decode cX5_layFar 47 = .ok (.istore_n 3, 1) := dk_62 (dk_at dksX5_layFar_1 23 rfl rfl)
theorem dX5_layFar_48 : decode cX5_layFar 48 = .ok (.iconst 0, 1) := dk_3 (dk_at dksX5_layFar_2 0 rfl rfl)
theorem dX5_layFar_49 : decode cX5_layFar 49 = .ok (.istore 5, 2) := dk_54 5 (dk_at dksX5_layFar_2 1 rfl rfl)
theorem dX5_layFar_51 : decode cX5_layFar 51 = .ok (.iload 5, 2) := dk_21 5 (dk_at dksX5_layFar_2 3 rfl rfl)
theorem dX5_layFar_53 : decode cX5_layFar 53 = .ok (.sipush 576, 3) := dk_17 2 64 (dk_at dksX5_layFar_2 5 rfl rfl)
theorem dX5_layFar_56 : decode cX5_layFar 56 = .ok (.if_icmp .ge 152, 3) := dk_162 0 152 (dk_at dksX5_layFar_2 8 rfl rfl)
theorem dX5_layFar_59 : decode cX5_layFar 59 = .ok (.aload_n 0, 1) := dk_42 (dk_at dksX5_layFar_2 11 rfl rfl)
theorem dX5_layFar_60 : decode cX5_layFar 60 = .ok (.getfield 44, 3) := dk_180 0 44 (dk_at dksX5_layFar_2 12 rfl rfl)
theorem dX5_layFar_63 : decode cX5_layFar 63 = .ok (.iload 5, 2) := dk_21 5 (dk_at dksX5_layFar_2 15 rfl rfl)
theorem dX5_layFar_65 : decode cX5_layFar 65 = .ok (.iaload, 1) := dk_46 (dk_at dksX5_layFar_2 17 rfl rfl)
theorem dX5_layFar_66 : decode cX5_layFar 66 = .ok (.iload 4, 2) := dk_21 4 (dk_at dksX5_layFar_2 18 rfl rfl)
theorem dX5_layFar_68 : decode cX5_layFar 68 = .ok (.if_icmp .eq 6, 3) := dk_159 0 6 (dk_at dksX5_layFar_2 20 rfl rfl)
theorem dX5_layFar_71 : decode cX5_layFar 71 = .ok (.goto 131, 3) := dk_167 0 131 (dk_at dksX5_layFar_3 0 rfl rfl)
theorem dX5_layFar_74 : decode cX5_layFar 74 = .ok (.iconst 1, 1) := dk_4 (dk_at dksX5_layFar_3 3 rfl rfl)
theorem dX5_layFar_75 : decode cX5_layFar 75 = .ok (.istore_n 3, 1) := dk_62 (dk_at dksX5_layFar_3 4 rfl rfl)
theorem dX5_layFar_76 : decode cX5_layFar 76 = .ok (.aload_n 0, 1) := dk_42 (dk_at dksX5_layFar_3 5 rfl rfl)
theorem dX5_layFar_77 : decode cX5_layFar 77 = .ok (.iload 5, 2) := dk_21 5 (dk_at dksX5_layFar_3 6 rfl rfl)
theorem dX5_layFar_79 : decode cX5_layFar 79 = .ok (.iconst 4, 1) := dk_7 (dk_at dksX5_layFar_3 8 rfl rfl)
theorem dX5_layFar_80 : decode cX5_layFar 80 = .ok (.idiv, 1) := dk_108 (dk_at dksX5_layFar_3 9 rfl rfl)
theorem dX5_layFar_81 : decode cX5_layFar 81 = .ok (.iload 5, 2) := dk_21 5 (dk_at dksX5_layFar_3 10 rfl rfl)
theorem dX5_layFar_83 : decode cX5_layFar 83 = .ok (.iconst 4, 1) := dk_7 (dk_at dksX5_layFar_3 12 rfl rfl)
theorem dX5_layFar_84 : decode cX5_layFar 84 = .ok (.irem, 1) := dk_112 (dk_at dksX5_layFar_3 13 rfl rfl)
theorem dX5_layFar_85 : decode cX5_layFar 85 = .ok (.iconst 1, 1) := dk_4 (dk_at dksX5_layFar_3 14 rfl rfl)
theorem dX5_layFar_86 : decode cX5_layFar 86 = .ok (.invokevirtual 334, 3) := dk_182 1 78 (dk_at dksX5_layFar_3 15 rfl rfl)
theorem dX5_layFar_89 : decode cX5_layFar 89 = .ok (.istore 6, 2) := dk_54 6 (dk_at dksX5_layFar_3 18 rfl rfl)
theorem dX5_layFar_91 : decode cX5_layFar 91 = .ok (.iload 6, 2) := dk_21 6 (dk_at dksX5_layFar_3 20 rfl rfl)
theorem dX5_layFar_93 : decode cX5_layFar 93 = .ok (.iconst (-1), 1) := dk_2 (dk_at dksX5_layFar_3 22 rfl rfl)
theorem dX5_layFar_94 : decode cX5_layFar 94 = .ok (.if_icmp .eq 41, 3) := dk_159 0 41 (dk_at dksX5_layFar_4 0 rfl rfl)
theorem dX5_layFar_97 : decode cX5_layFar 97 = .ok (.aload_n 0, 1) := dk_42 (dk_at dksX5_layFar_4 3 rfl rfl)
theorem dX5_layFar_98 : decode cX5_layFar 98 = .ok (.getfield 44, 3) := dk_180 0 44 (dk_at dksX5_layFar_4 4 rfl rfl)
theorem dX5_layFar_101 : decode cX5_layFar 101 = .ok (.iconst 4, 1) := dk_7 (dk_at dksX5_layFar_4 7 rfl rfl)
theorem dX5_layFar_102 : decode cX5_layFar 102 = .ok (.iload 6, 2) := dk_21 6 (dk_at dksX5_layFar_4 8 rfl rfl)
theorem dX5_layFar_104 : decode cX5_layFar 104 = .ok (.imul, 1) := dk_104 (dk_at dksX5_layFar_4 10 rfl rfl)
theorem dX5_layFar_105 : decode cX5_layFar 105 = .ok (.iload 5, 2) := dk_21 5 (dk_at dksX5_layFar_4 11 rfl rfl)
theorem dX5_layFar_107 : decode cX5_layFar 107 = .ok (.iconst 4, 1) := dk_7 (dk_at dksX5_layFar_4 13 rfl rfl)
theorem dX5_layFar_108 : decode cX5_layFar 108 = .ok (.irem, 1) := dk_112 (dk_at dksX5_layFar_4 14 rfl rfl)
theorem dX5_layFar_109 : decode cX5_layFar 109 = .ok (.iadd, 1) := dk_96 (dk_at dksX5_layFar_4 15 rfl rfl)
theorem dX5_layFar_110 : decode cX5_layFar 110 = .ok (.iaload, 1) := dk_46 (dk_at dksX5_layFar_4 16 rfl rfl)
theorem dX5_layFar_111 : decode cX5_layFar 111 = .ok (.sipush 9999, 3) := dk_17 39 15 (dk_at dksX5_layFar_4 17 rfl rfl)
theorem dX5_layFar_114 : decode cX5_layFar 114 = .ok (.if_icmp .ne 21, 3) := dk_160 0 21 (dk_at dksX5_layFar_4 20 rfl rfl)
theorem dX5_layFar_117 : decode cX5_layFar 117 = .ok (.aload_n 0, 1) := dk_42 (dk_at dksX5_layFar_4 23 rfl rfl)
theorem dX5_layFar_118 : decode cX5_layFar 118 = .ok (.getfield 44, 3) := dk_180 0 44 (dk_at dksX5_layFar_5 0 rfl rfl)
theorem dX5_layFar_121 : decode cX5_layFar 121 = .ok (.iconst 4, 1) := dk_7 (dk_at dksX5_layFar_5 3 rfl rfl)
theorem dX5_layFar_122 : decode cX5_layFar 122 = .ok (.iload 6, 2) := dk_21 6 (dk_at dksX5_layFar_5 4 rfl rfl)
theorem dX5_layFar_124 : decode cX5_layFar 124 = .ok (.imul, 1) := dk_104 (dk_at dksX5_layFar_5 6 rfl rfl)
theorem dX5_layFar_125 : decode cX5_layFar 125 = .ok (.iload 5, 2) := dk_21 5 (dk_at dksX5_layFar_5 7 rfl rfl)
theorem dX5_layFar_127 : decode cX5_layFar 127 = .ok (.iconst 4, 1) := dk_7 (dk_at dksX5_layFar_5 9 rfl rfl)
theorem dX5_layFar_128 : decode cX5_layFar 128 = .ok (.irem, 1) := dk_112 (dk_at dksX5_layFar_5 10 rfl rfl)
theorem dX5_layFar_129 : decode cX5_layFar 129 = .ok (.iadd, 1) := dk_96 (dk_at dksX5_layFar_5 11 rfl rfl)
theorem dX5_layFar_130 : decode cX5_layFar 130 = .ok (.iload 4, 2) := dk_21 4 (dk_at dksX5_layFar_5 12 rfl rfl)
theorem dX5_layFar_132 : decode cX5_layFar 132 = .ok (.iconst 1, 1) := dk_4 (dk_at dksX5_layFar_5 14 rfl rfl)
theorem dX5_layFar_133 : decode cX5_layFar 133 = .ok (.iadd, 1) := dk_96 (dk_at dksX5_layFar_5 15 rfl rfl)
theorem dX5_layFar_134 : decode cX5_layFar 134 = .ok (.iastore, 1) := dk_79 (dk_at dksX5_layFar_5 16 rfl rfl)
theorem dX5_layFar_135 : decode cX5_layFar 135 = .ok (.iconst 0, 1) := dk_3 (dk_at dksX5_layFar_5 17 rfl rfl)
theorem dX5_layFar_136 : decode cX5_layFar 136 = .ok (.istore 7, 2) := dk_54 7 (dk_at dksX5_layFar_5 18 rfl rfl)
theorem dX5_layFar_138 : decode cX5_layFar 138 = .ok (.iload 7, 2) := dk_21 7 (dk_at dksX5_layFar_5 20 rfl rfl)
theorem dX5_layFar_140 : decode cX5_layFar 140 = .ok (.iconst 2, 1) := dk_5 (dk_at dksX5_layFar_5 22 rfl rfl)
theorem dX5_layFar_141 : decode cX5_layFar 141 = .ok (.if_icmp .ge 61, 3) := dk_162 0 61 (dk_at dksX5_layFar_6 0 rfl rfl)
theorem dX5_layFar_144 : decode cX5_layFar 144 = .ok (.iload 5, 2) := dk_21 5 (dk_at dksX5_layFar_6 3 rfl rfl)
theorem dX5_layFar_146 : decode cX5_layFar 146 = .ok (.iconst 4, 1) := dk_7 (dk_at dksX5_layFar_6 5 rfl rfl)
theorem dX5_layFar_147 : decode cX5_layFar 147 = .ok (.idiv, 1) := dk_108 (dk_at dksX5_layFar_6 6 rfl rfl)
theorem dX5_layFar_148 : decode cX5_layFar 148 = .ok (.iconst 4, 1) := dk_7 (dk_at dksX5_layFar_6 7 rfl rfl)
theorem dX5_layFar_149 : decode cX5_layFar 149 = .ok (.imul, 1) := dk_104 (dk_at dksX5_layFar_6 8 rfl rfl)
theorem dX5_layFar_150 : decode cX5_layFar 150 = .ok (.iload 5, 2) := dk_21 5 (dk_at dksX5_layFar_6 9 rfl rfl)
theorem dX5_layFar_152 : decode cX5_layFar 152 = .ok (.iconst 4, 1) := dk_7 (dk_at dksX5_layFar_6 11 rfl rfl)
theorem dX5_layFar_153 : decode cX5_layFar 153 = .ok (.irem, 1) := dk_112 (dk_at dksX5_layFar_6 12 rfl rfl)
theorem dX5_layFar_154 : decode cX5_layFar 154 = .ok (.iload 7, 2) := dk_21 7 (dk_at dksX5_layFar_6 13 rfl rfl)
theorem dX5_layFar_156 : decode cX5_layFar 156 = .ok (.invokestatic 263, 3) := dk_184 1 7 (dk_at dksX5_layFar_6 15 rfl rfl)
theorem dX5_layFar_159 : decode cX5_layFar 159 = .ok (.iadd, 1) := dk_96 (dk_at dksX5_layFar_6 18 rfl rfl)
theorem dX5_layFar_160 : decode cX5_layFar 160 = .ok (.istore 8, 2) := dk_54 8 (dk_at dksX5_layFar_6 19 rfl rfl)
theorem dX5_layFar_162 : decode cX5_layFar 162 = .ok (.aload_n 0, 1) := dk_42 (dk_at dksX5_layFar_6 21 rfl rfl)
theorem dX5_layFar_163 : decode cX5_layFar 163 = .ok (.getfield 44, 3) := dk_180 0 44 (dk_at dksX5_layFar_7 0 rfl rfl)
theorem dX5_layFar_166 : decode cX5_layFar 166 = .ok (.iload 8, 2) := dk_21 8 (dk_at dksX5_layFar_7 3 rfl rfl)
theorem dX5_layFar_168 : decode cX5_layFar 168 = .ok (.aload_n 0, 1) := dk_42 (dk_at dksX5_layFar_7 5 rfl rfl)
theorem dX5_layFar_169 : decode cX5_layFar 169 = .ok (.getfield 44, 3) := dk_180 0 44 (dk_at dksX5_layFar_7 6 rfl rfl)
theorem dX5_layFar_172 : decode cX5_layFar 172 = .ok (.iload 8, 2) := dk_21 8 (dk_at dksX5_layFar_7 9 rfl rfl)
theorem dX5_layFar_174 : decode cX5_layFar 174 = .ok (.iaload, 1) := dk_46 (dk_at dksX5_layFar_7 11 rfl rfl)
theorem dX5_layFar_175 : decode cX5_layFar 175 = .ok (.sipush 9999, 3) := dk_17 39 15 (dk_at dksX5_layFar_7 12 rfl rfl)
theorem dX5_layFar_178 : decode cX5_layFar 178 = .ok (.if_icmp .ne 10, 3) := dk_160 0 10 (dk_at dksX5_layFar_7 15 rfl rfl)
theorem dX5_layFar_181 : decode cX5_layFar 181 = .ok (.iload 4, 2) := dk_21 4 (dk_at dksX5_layFar_7 18 rfl rfl)
theorem dX5_layFar_183 : decode cX5_layFar 183 = .ok (.iconst 1, 1) := dk_4 (dk_at dksX5_layFar_7 20 rfl rfl)
theorem dX5_layFar_184 : decode cX5_layFar 184 = .ok (.iadd, 1) := dk_96 (dk_at dksX5_layFar_7 21 rfl rfl)
theorem dX5_layFar_185 : decode cX5_layFar 185 = .ok (.goto 10, 3) := dk_167 0 10 (dk_at dksX5_layFar_8 0 rfl rfl)
theorem dX5_layFar_188 : decode cX5_layFar 188 = .ok (.aload_n 0, 1) := dk_42 (dk_at dksX5_layFar_8 3 rfl rfl)
theorem dX5_layFar_189 : decode cX5_layFar 189 = .ok (.getfield 44, 3) := dk_180 0 44 (dk_at dksX5_layFar_8 4 rfl rfl)
theorem dX5_layFar_192 : decode cX5_layFar 192 = .ok (.iload 8, 2) := dk_21 8 (dk_at dksX5_layFar_8 7 rfl rfl)
theorem dX5_layFar_194 : decode cX5_layFar 194 = .ok (.iaload, 1) := dk_46 (dk_at dksX5_layFar_8 9 rfl rfl)
theorem dX5_layFar_195 : decode cX5_layFar 195 = .ok (.iastore, 1) := dk_79 (dk_at dksX5_layFar_8 10 rfl rfl)
theorem dX5_layFar_196 : decode cX5_layFar 196 = .ok (.iinc 7 1, 3) := dk_132 7 1 (dk_at dksX5_layFar_8 11 rfl rfl)
theorem dX5_layFar_199 : decode cX5_layFar 199 = .ok (.goto (-61), 3) := dk_167 255 195 (dk_at dksX5_layFar_8 14 rfl rfl)
theorem dX5_layFar_202 : decode cX5_layFar 202 = .ok (.iinc 5 1, 3) := dk_132 5 1 (dk_at dksX5_layFar_8 17 rfl rfl)
theorem dX5_layFar_205 : decode cX5_layFar 205 = .ok (.goto (-154), 3) := dk_167 255 102 (dk_at dksX5_layFar_8 20 rfl rfl)
theorem dX5_layFar_208 : decode cX5_layFar 208 = .ok (.iinc 4 1, 3) := dk_132 4 1 (dk_at dksX5_layFar_9 0 rfl rfl)
theorem dX5_layFar_211 : decode cX5_layFar 211 = .ok (.goto (-169), 3) := dk_167 255 87 (dk_at dksX5_layFar_9 3 rfl rfl)
theorem dX5_layFar_214 : decode cX5_layFar 214 = .ok (.return_, 1) := dk_177 (dk_at dksX5_layFar_9 6 rfl rfl)
abbrev cX5_onBy : ByteArray := prog_17_method_88_code
def yX5_onBy : MethodName := ⟨RX5, "onBy", "(III)I"⟩
def dkwX5_onBy_2 : List UInt8 := [4, 159, 0, 13, 21, 4, 21, 5, 184, 0, 108, 167, 0, 4, 2, 172]
abbrev dktX5_onBy_2 : List UInt8 := dkwX5_onBy_2 ++ []
def dkwX5_onBy_1 : List UInt8 := [54, 5, 21, 4, 21, 5, 184, 1, 35, 153, 0, 29, 42, 180, 0, 9, 21, 4, 21, 5, 184, 0, 108, 46]
abbrev dktX5_onBy_1 : List UInt8 := dkwX5_onBy_1 ++ dktX5_onBy_2
def dkwX5_onBy_0 : List UInt8 := [27, 16, 12, 112, 29, 28, 184, 1, 29, 104, 96, 54, 4, 27, 16, 12, 108, 29, 28, 184, 1, 32, 104, 96]
abbrev dktX5_onBy_0 : List UInt8 := dkwX5_onBy_0 ++ dktX5_onBy_1
theorem dksX5_onBy_0 : cX5_onBy.data.toList.drop 0 = dktX5_onBy_0 := by decide +kernel
theorem dksX5_onBy_1 : cX5_onBy.data.toList.drop 24 = dktX5_onBy_1 := dk_seg dksX5_onBy_0 24 rfl rfl
theorem dksX5_onBy_2 : cX5_onBy.data.toList.drop 48 = dktX5_onBy_2 := dk_seg dksX5_onBy_1 24 rfl rfl
theorem dX5_onBy_0 : decode cX5_onBy 0 = .ok (.iload_n 1, 1) := dk_27 (dk_at dksX5_onBy_0 0 rfl rfl)
theorem dX5_onBy_1 : decode cX5_onBy 1 = .ok (.bipush 12, 2) := dk_16 12 (dk_at dksX5_onBy_0 1 rfl rfl)
theorem dX5_onBy_3 : decode cX5_onBy 3 = .ok (.irem, 1) := dk_112 (dk_at dksX5_onBy_0 3 rfl rfl)
theorem dX5_onBy_4 : decode cX5_onBy 4 = .ok (.iload_n 3, 1) := dk_29 (dk_at dksX5_onBy_0 4 rfl rfl)
theorem dX5_onBy_5 : decode cX5_onBy 5 = .ok (.iload_n 2, 1) := dk_28 (dk_at dksX5_onBy_0 5 rfl rfl)
theorem dX5_onBy_6 : decode cX5_onBy 6 = .ok (.invokestatic 285, 3) := dk_184 1 29 (dk_at dksX5_onBy_0 6 rfl rfl)
theorem dX5_onBy_9 : decode cX5_onBy 9 = .ok (.imul, 1) := dk_104 (dk_at dksX5_onBy_0 9 rfl rfl)
theorem dX5_onBy_10 : decode cX5_onBy 10 = .ok (.iadd, 1) := dk_96 (dk_at dksX5_onBy_0 10 rfl rfl)
theorem dX5_onBy_11 : decode cX5_onBy 11 = .ok (.istore 4, 2) := dk_54 4 (dk_at dksX5_onBy_0 11 rfl rfl)
theorem dX5_onBy_13 : decode cX5_onBy 13 = .ok (.iload_n 1, 1) := dk_27 (dk_at dksX5_onBy_0 13 rfl rfl)
theorem dX5_onBy_14 : decode cX5_onBy 14 = .ok (.bipush 12, 2) := dk_16 12 (dk_at dksX5_onBy_0 14 rfl rfl)
theorem dX5_onBy_16 : decode cX5_onBy 16 = .ok (.idiv, 1) := dk_108 (dk_at dksX5_onBy_0 16 rfl rfl)
theorem dX5_onBy_17 : decode cX5_onBy 17 = .ok (.iload_n 3, 1) := dk_29 (dk_at dksX5_onBy_0 17 rfl rfl)
theorem dX5_onBy_18 : decode cX5_onBy 18 = .ok (.iload_n 2, 1) := dk_28 (dk_at dksX5_onBy_0 18 rfl rfl)
theorem dX5_onBy_19 : decode cX5_onBy 19 = .ok (.invokestatic 288, 3) := dk_184 1 32 (dk_at dksX5_onBy_0 19 rfl rfl)
theorem dX5_onBy_22 : decode cX5_onBy 22 = .ok (.imul, 1) := dk_104 (dk_at dksX5_onBy_0 22 rfl rfl)
theorem dX5_onBy_23 : decode cX5_onBy 23 = .ok (.iadd, 1) := dk_96 (dk_at dksX5_onBy_0 23 rfl rfl)
theorem dX5_onBy_24 : decode cX5_onBy 24 = .ok (.istore 5, 2) := dk_54 5 (dk_at dksX5_onBy_1 0 rfl rfl)
theorem dX5_onBy_26 : decode cX5_onBy 26 = .ok (.iload 4, 2) := dk_21 4 (dk_at dksX5_onBy_1 2 rfl rfl)
theorem dX5_onBy_28 : decode cX5_onBy 28 = .ok (.iload 5, 2) := dk_21 5 (dk_at dksX5_onBy_1 4 rfl rfl)
theorem dX5_onBy_30 : decode cX5_onBy 30 = .ok (.invokestatic 291, 3) := dk_184 1 35 (dk_at dksX5_onBy_1 6 rfl rfl)
theorem dX5_onBy_33 : decode cX5_onBy 33 = .ok (.ifCond .eq 29, 3) := dk_153 0 29 (dk_at dksX5_onBy_1 9 rfl rfl)
theorem dX5_onBy_36 : decode cX5_onBy 36 = .ok (.aload_n 0, 1) := dk_42 (dk_at dksX5_onBy_1 12 rfl rfl)
theorem dX5_onBy_37 : decode cX5_onBy 37 = .ok (.getfield 9, 3) := dk_180 0 9 (dk_at dksX5_onBy_1 13 rfl rfl)
theorem dX5_onBy_40 : decode cX5_onBy 40 = .ok (.iload 4, 2) := dk_21 4 (dk_at dksX5_onBy_1 16 rfl rfl)
theorem dX5_onBy_42 : decode cX5_onBy 42 = .ok (.iload 5, 2) := dk_21 5 (dk_at dksX5_onBy_1 18 rfl rfl)
theorem dX5_onBy_44 : decode cX5_onBy 44 = .ok (.invokestatic 108, 3) := dk_184 0 108 (dk_at dksX5_onBy_1 20 rfl rfl)
theorem dX5_onBy_47 : decode cX5_onBy 47 = .ok (.iaload, 1) := dk_46 (dk_at dksX5_onBy_1 23 rfl rfl)
theorem dX5_onBy_48 : decode cX5_onBy 48 = .ok (.iconst 1, 1) := dk_4 (dk_at dksX5_onBy_2 0 rfl rfl)
theorem dX5_onBy_49 : decode cX5_onBy 49 = .ok (.if_icmp .eq 13, 3) := dk_159 0 13 (dk_at dksX5_onBy_2 1 rfl rfl)
theorem dX5_onBy_52 : decode cX5_onBy 52 = .ok (.iload 4, 2) := dk_21 4 (dk_at dksX5_onBy_2 4 rfl rfl)
theorem dX5_onBy_54 : decode cX5_onBy 54 = .ok (.iload 5, 2) := dk_21 5 (dk_at dksX5_onBy_2 6 rfl rfl)
theorem dX5_onBy_56 : decode cX5_onBy 56 = .ok (.invokestatic 108, 3) := dk_184 0 108 (dk_at dksX5_onBy_2 8 rfl rfl)
theorem dX5_onBy_59 : decode cX5_onBy 59 = .ok (.goto 4, 3) := dk_167 0 4 (dk_at dksX5_onBy_2 11 rfl rfl)
theorem dX5_onBy_62 : decode cX5_onBy 62 = .ok (.iconst (-1), 1) := dk_2 (dk_at dksX5_onBy_2 14 rfl rfl)
theorem dX5_onBy_63 : decode cX5_onBy 63 = .ok (.ireturn, 1) := dk_172 (dk_at dksX5_onBy_2 15 rfl rfl)
abbrev cX5_laySteps : ByteArray := prog_17_method_90_code
def yX5_laySteps : MethodName := ⟨RX5, "laySteps", "(II)V"⟩
def dkwX5_laySteps_6 : List UInt8 := [182, 1, 81, 132, 3, 1, 167, 255, 111, 177]
abbrev dktX5_laySteps_6 : List UInt8 := dkwX5_laySteps_6 ++ []
def dkwX5_laySteps_5 : List UInt8 := [180, 0, 41, 29, 17, 2, 64, 104, 21, 4, 96, 21, 5, 79, 132, 4, 1, 167, 255, 131, 42, 29]
abbrev dktX5_laySteps_5 : List UInt8 := dkwX5_laySteps_5 ++ dktX5_laySteps_6
def dkwX5_laySteps_4 : List UInt8 := [96, 7, 112, 96, 46, 54, 7, 21, 6, 21, 7, 162, 0, 8, 21, 6, 167, 0, 5, 21, 7, 54, 5, 42]
abbrev dktX5_laySteps_4 : List UInt8 := dkwX5_laySteps_4 ++ dktX5_laySteps_5
def dkwX5_laySteps_3 : List UInt8 := [46, 54, 6, 42, 180, 0, 41, 29, 4, 100, 17, 2, 64, 104, 21, 4, 7, 108, 7, 104, 96, 21, 4, 6]
abbrev dktX5_laySteps_3 : List UInt8 := dkwX5_laySteps_3 ++ dktX5_laySteps_4
def dkwX5_laySteps_2 : List UInt8 := [180, 0, 41, 29, 4, 100, 17, 2, 64, 104, 21, 4, 7, 108, 7, 104, 96, 21, 4, 4, 96, 7, 112, 96]
abbrev dktX5_laySteps_2 : List UInt8 := dkwX5_laySteps_2 ++ dktX5_laySteps_3
def dkwX5_laySteps_1 : List UInt8 := [21, 4, 7, 27, 104, 28, 96, 160, 0, 7, 3, 167, 0, 6, 17, 39, 15, 54, 5, 29, 158, 0, 75, 42]
abbrev dktX5_laySteps_1 : List UInt8 := dkwX5_laySteps_1 ++ dktX5_laySteps_2
def dkwX5_laySteps_0 : List UInt8 := [3, 62, 29, 16, 7, 162, 0, 145, 3, 54, 4, 21, 4, 17, 2, 64, 162, 0, 123, 29, 154, 0, 17]
abbrev dktX5_laySteps_0 : List UInt8 := dkwX5_laySteps_0 ++ dktX5_laySteps_1
theorem dksX5_laySteps_0 : cX5_laySteps.data.toList.drop 0 = dktX5_laySteps_0 := by decide +kernel
theorem dksX5_laySteps_1 : cX5_laySteps.data.toList.drop 23 = dktX5_laySteps_1 := dk_seg dksX5_laySteps_0 23 rfl rfl
theorem dksX5_laySteps_2 : cX5_laySteps.data.toList.drop 47 = dktX5_laySteps_2 := dk_seg dksX5_laySteps_1 24 rfl rfl
theorem dksX5_laySteps_3 : cX5_laySteps.data.toList.drop 71 = dktX5_laySteps_3 := dk_seg dksX5_laySteps_2 24 rfl rfl
theorem dksX5_laySteps_4 : cX5_laySteps.data.toList.drop 95 = dktX5_laySteps_4 := dk_seg dksX5_laySteps_3 24 rfl rfl
theorem dksX5_laySteps_5 : cX5_laySteps.data.toList.drop 119 = dktX5_laySteps_5 := dk_seg dksX5_laySteps_4 24 rfl rfl
theorem dksX5_laySteps_6 : cX5_laySteps.data.toList.drop 141 = dktX5_laySteps_6 := dk_seg dksX5_laySteps_5 22 rfl rfl
theorem dX5_laySteps_0 : decode cX5_laySteps 0 = .ok (.iconst 0, 1) := dk_3 (dk_at dksX5_laySteps_0 0 rfl rfl)
theorem dX5_laySteps_1 : decode cX5_laySteps 1 = .ok (.istore_n 3, 1) := dk_62 (dk_at dksX5_laySteps_0 1 rfl rfl)
theorem dX5_laySteps_2 : decode cX5_laySteps 2 = .ok (.iload_n 3, 1) := dk_29 (dk_at dksX5_laySteps_0 2 rfl rfl)
theorem dX5_laySteps_3 : decode cX5_laySteps 3 = .ok (.bipush 7, 2) := dk_16 7 (dk_at dksX5_laySteps_0 3 rfl rfl)
theorem dX5_laySteps_5 : decode cX5_laySteps 5 = .ok (.if_icmp .ge 145, 3) := dk_162 0 145 (dk_at dksX5_laySteps_0 5 rfl rfl)
theorem dX5_laySteps_8 : decode cX5_laySteps 8 = .ok (.iconst 0, 1) := dk_3 (dk_at dksX5_laySteps_0 8 rfl rfl)
theorem dX5_laySteps_9 : decode cX5_laySteps 9 = .ok (.istore 4, 2) := dk_54 4 (dk_at dksX5_laySteps_0 9 rfl rfl)
theorem dX5_laySteps_11 : decode cX5_laySteps 11 = .ok (.iload 4, 2) := dk_21 4 (dk_at dksX5_laySteps_0 11 rfl rfl)
theorem dX5_laySteps_13 : decode cX5_laySteps 13 = .ok (.sipush 576, 3) := dk_17 2 64 (dk_at dksX5_laySteps_0 13 rfl rfl)
theorem dX5_laySteps_16 : decode cX5_laySteps 16 = .ok (.if_icmp .ge 123, 3) := dk_162 0 123 (dk_at dksX5_laySteps_0 16 rfl rfl)
theorem dX5_laySteps_19 : decode cX5_laySteps 19 = .ok (.iload_n 3, 1) := dk_29 (dk_at dksX5_laySteps_0 19 rfl rfl)
theorem dX5_laySteps_20 : decode cX5_laySteps 20 = .ok (.ifCond .ne 17, 3) := dk_154 0 17 (dk_at dksX5_laySteps_0 20 rfl rfl)
theorem dX5_laySteps_23 : decode cX5_laySteps 23 = .ok (.iload 4, 2) := dk_21 4 (dk_at dksX5_laySteps_1 0 rfl rfl)
theorem dX5_laySteps_25 : decode cX5_laySteps 25 = .ok (.iconst 4, 1) := dk_7 (dk_at dksX5_laySteps_1 2 rfl rfl)
theorem dX5_laySteps_26 : decode cX5_laySteps 26 = .ok (.iload_n 1, 1) := dk_27 (dk_at dksX5_laySteps_1 3 rfl rfl)
theorem dX5_laySteps_27 : decode cX5_laySteps 27 = .ok (.imul, 1) := dk_104 (dk_at dksX5_laySteps_1 4 rfl rfl)
theorem dX5_laySteps_28 : decode cX5_laySteps 28 = .ok (.iload_n 2, 1) := dk_28 (dk_at dksX5_laySteps_1 5 rfl rfl)
theorem dX5_laySteps_29 : decode cX5_laySteps 29 = .ok (.iadd, 1) := dk_96 (dk_at dksX5_laySteps_1 6 rfl rfl)
theorem dX5_laySteps_30 : decode cX5_laySteps 30 = .ok (.if_icmp .ne 7, 3) := dk_160 0 7 (dk_at dksX5_laySteps_1 7 rfl rfl)
theorem dX5_laySteps_33 : decode cX5_laySteps 33 = .ok (.iconst 0, 1) := dk_3 (dk_at dksX5_laySteps_1 10 rfl rfl)
theorem dX5_laySteps_34 : decode cX5_laySteps 34 = .ok (.goto 6, 3) := dk_167 0 6 (dk_at dksX5_laySteps_1 11 rfl rfl)
theorem dX5_laySteps_37 : decode cX5_laySteps 37 = .ok (.sipush 9999, 3) := dk_17 39 15 (dk_at dksX5_laySteps_1 14 rfl rfl)
theorem dX5_laySteps_40 : decode cX5_laySteps 40 = .ok (.istore 5, 2) := dk_54 5 (dk_at dksX5_laySteps_1 17 rfl rfl)
theorem dX5_laySteps_42 : decode cX5_laySteps 42 = .ok (.iload_n 3, 1) := dk_29 (dk_at dksX5_laySteps_1 19 rfl rfl)
theorem dX5_laySteps_43 : decode cX5_laySteps 43 = .ok (.ifCond .le 75, 3) := dk_158 0 75 (dk_at dksX5_laySteps_1 20 rfl rfl)
theorem dX5_laySteps_46 : decode cX5_laySteps 46 = .ok (.aload_n 0, 1) := dk_42 (dk_at dksX5_laySteps_1 23 rfl rfl)
theorem dX5_laySteps_47 : decode cX5_laySteps 47 = .ok (.getfield 41, 3) := dk_180 0 41 (dk_at dksX5_laySteps_2 0 rfl rfl)
theorem dX5_laySteps_50 : decode cX5_laySteps 50 = .ok (.iload_n 3, 1) := dk_29 (dk_at dksX5_laySteps_2 3 rfl rfl)
theorem dX5_laySteps_51 : decode cX5_laySteps 51 = .ok (.iconst 1, 1) := dk_4 (dk_at dksX5_laySteps_2 4 rfl rfl)
theorem dX5_laySteps_52 : decode cX5_laySteps 52 = .ok (.isub, 1) := dk_100 (dk_at dksX5_laySteps_2 5 rfl rfl)
theorem dX5_laySteps_53 : decode cX5_laySteps 53 = .ok (.sipush 576, 3) := dk_17 2 64 (dk_at dksX5_laySteps_2 6 rfl rfl)
theorem dX5_laySteps_56 : decode cX5_laySteps 56 = .ok (.imul, 1) := dk_104 (dk_at dksX5_laySteps_2 9 rfl rfl)
theorem dX5_laySteps_57 : decode cX5_laySteps 57 = .ok (.iload 4, 2) := dk_21 4 (dk_at dksX5_laySteps_2 10 rfl rfl)
theorem dX5_laySteps_59 : decode cX5_laySteps 59 = .ok (.iconst 4, 1) := dk_7 (dk_at dksX5_laySteps_2 12 rfl rfl)
theorem dX5_laySteps_60 : decode cX5_laySteps 60 = .ok (.idiv, 1) := dk_108 (dk_at dksX5_laySteps_2 13 rfl rfl)
theorem dX5_laySteps_61 : decode cX5_laySteps 61 = .ok (.iconst 4, 1) := dk_7 (dk_at dksX5_laySteps_2 14 rfl rfl)
theorem dX5_laySteps_62 : decode cX5_laySteps 62 = .ok (.imul, 1) := dk_104 (dk_at dksX5_laySteps_2 15 rfl rfl)
theorem dX5_laySteps_63 : decode cX5_laySteps 63 = .ok (.iadd, 1) := dk_96 (dk_at dksX5_laySteps_2 16 rfl rfl)
theorem dX5_laySteps_64 : decode cX5_laySteps 64 = .ok (.iload 4, 2) := dk_21 4 (dk_at dksX5_laySteps_2 17 rfl rfl)
theorem dX5_laySteps_66 : decode cX5_laySteps 66 = .ok (.iconst 1, 1) := dk_4 (dk_at dksX5_laySteps_2 19 rfl rfl)
theorem dX5_laySteps_67 : decode cX5_laySteps 67 = .ok (.iadd, 1) := dk_96 (dk_at dksX5_laySteps_2 20 rfl rfl)
theorem dX5_laySteps_68 : decode cX5_laySteps 68 = .ok (.iconst 4, 1) := dk_7 (dk_at dksX5_laySteps_2 21 rfl rfl)
theorem dX5_laySteps_69 : decode cX5_laySteps 69 = .ok (.irem, 1) := dk_112 (dk_at dksX5_laySteps_2 22 rfl rfl)
theorem dX5_laySteps_70 : decode cX5_laySteps 70 = .ok (.iadd, 1) := dk_96 (dk_at dksX5_laySteps_2 23 rfl rfl)
theorem dX5_laySteps_71 : decode cX5_laySteps 71 = .ok (.iaload, 1) := dk_46 (dk_at dksX5_laySteps_3 0 rfl rfl)
theorem dX5_laySteps_72 : decode cX5_laySteps 72 = .ok (.istore 6, 2) := dk_54 6 (dk_at dksX5_laySteps_3 1 rfl rfl)
theorem dX5_laySteps_74 : decode cX5_laySteps 74 = .ok (.aload_n 0, 1) := dk_42 (dk_at dksX5_laySteps_3 3 rfl rfl)
theorem dX5_laySteps_75 : decode cX5_laySteps 75 = .ok (.getfield 41, 3) := dk_180 0 41 (dk_at dksX5_laySteps_3 4 rfl rfl)
theorem dX5_laySteps_78 : decode cX5_laySteps 78 = .ok (.iload_n 3, 1) := dk_29 (dk_at dksX5_laySteps_3 7 rfl rfl)
theorem dX5_laySteps_79 : decode cX5_laySteps 79 = .ok (.iconst 1, 1) := dk_4 (dk_at dksX5_laySteps_3 8 rfl rfl)
theorem dX5_laySteps_80 : decode cX5_laySteps 80 = .ok (.isub, 1) := dk_100 (dk_at dksX5_laySteps_3 9 rfl rfl)
theorem dX5_laySteps_81 : decode cX5_laySteps 81 = .ok (.sipush 576, 3) := dk_17 2 64 (dk_at dksX5_laySteps_3 10 rfl rfl)
theorem dX5_laySteps_84 : decode cX5_laySteps 84 = .ok (.imul, 1) := dk_104 (dk_at dksX5_laySteps_3 13 rfl rfl)
theorem dX5_laySteps_85 : decode cX5_laySteps 85 = .ok (.iload 4, 2) := dk_21 4 (dk_at dksX5_laySteps_3 14 rfl rfl)
theorem dX5_laySteps_87 : decode cX5_laySteps 87 = .ok (.iconst 4, 1) := dk_7 (dk_at dksX5_laySteps_3 16 rfl rfl)
theorem dX5_laySteps_88 : decode cX5_laySteps 88 = .ok (.idiv, 1) := dk_108 (dk_at dksX5_laySteps_3 17 rfl rfl)
theorem dX5_laySteps_89 : decode cX5_laySteps 89 = .ok (.iconst 4, 1) := dk_7 (dk_at dksX5_laySteps_3 18 rfl rfl)
theorem dX5_laySteps_90 : decode cX5_laySteps 90 = .ok (.imul, 1) := dk_104 (dk_at dksX5_laySteps_3 19 rfl rfl)
theorem dX5_laySteps_91 : decode cX5_laySteps 91 = .ok (.iadd, 1) := dk_96 (dk_at dksX5_laySteps_3 20 rfl rfl)
theorem dX5_laySteps_92 : decode cX5_laySteps 92 = .ok (.iload 4, 2) := dk_21 4 (dk_at dksX5_laySteps_3 21 rfl rfl)
theorem dX5_laySteps_94 : decode cX5_laySteps 94 = .ok (.iconst 3, 1) := dk_6 (dk_at dksX5_laySteps_3 23 rfl rfl)
theorem dX5_laySteps_95 : decode cX5_laySteps 95 = .ok (.iadd, 1) := dk_96 (dk_at dksX5_laySteps_4 0 rfl rfl)
theorem dX5_laySteps_96 : decode cX5_laySteps 96 = .ok (.iconst 4, 1) := dk_7 (dk_at dksX5_laySteps_4 1 rfl rfl)
theorem dX5_laySteps_97 : decode cX5_laySteps 97 = .ok (.irem, 1) := dk_112 (dk_at dksX5_laySteps_4 2 rfl rfl)
theorem dX5_laySteps_98 : decode cX5_laySteps 98 = .ok (.iadd, 1) := dk_96 (dk_at dksX5_laySteps_4 3 rfl rfl)
theorem dX5_laySteps_99 : decode cX5_laySteps 99 = .ok (.iaload, 1) := dk_46 (dk_at dksX5_laySteps_4 4 rfl rfl)
theorem dX5_laySteps_100 : decode cX5_laySteps 100 = .ok (.istore 7, 2) := dk_54 7 (dk_at dksX5_laySteps_4 5 rfl rfl)
theorem dX5_laySteps_102 : decode cX5_laySteps 102 = .ok (.iload 6, 2) := dk_21 6 (dk_at dksX5_laySteps_4 7 rfl rfl)
theorem dX5_laySteps_104 : decode cX5_laySteps 104 = .ok (.iload 7, 2) := dk_21 7 (dk_at dksX5_laySteps_4 9 rfl rfl)
theorem dX5_laySteps_106 : decode cX5_laySteps 106 = .ok (.if_icmp .ge 8, 3) := dk_162 0 8 (dk_at dksX5_laySteps_4 11 rfl rfl)
theorem dX5_laySteps_109 : decode cX5_laySteps 109 = .ok (.iload 6, 2) := dk_21 6 (dk_at dksX5_laySteps_4 14 rfl rfl)
theorem dX5_laySteps_111 : decode cX5_laySteps 111 = .ok (.goto 5, 3) := dk_167 0 5 (dk_at dksX5_laySteps_4 16 rfl rfl)
theorem dX5_laySteps_114 : decode cX5_laySteps 114 = .ok (.iload 7, 2) := dk_21 7 (dk_at dksX5_laySteps_4 19 rfl rfl)
theorem dX5_laySteps_116 : decode cX5_laySteps 116 = .ok (.istore 5, 2) := dk_54 5 (dk_at dksX5_laySteps_4 21 rfl rfl)
theorem dX5_laySteps_118 : decode cX5_laySteps 118 = .ok (.aload_n 0, 1) := dk_42 (dk_at dksX5_laySteps_4 23 rfl rfl)
theorem dX5_laySteps_119 : decode cX5_laySteps 119 = .ok (.getfield 41, 3) := dk_180 0 41 (dk_at dksX5_laySteps_5 0 rfl rfl)
theorem dX5_laySteps_122 : decode cX5_laySteps 122 = .ok (.iload_n 3, 1) := dk_29 (dk_at dksX5_laySteps_5 3 rfl rfl)
theorem dX5_laySteps_123 : decode cX5_laySteps 123 = .ok (.sipush 576, 3) := dk_17 2 64 (dk_at dksX5_laySteps_5 4 rfl rfl)
theorem dX5_laySteps_126 : decode cX5_laySteps 126 = .ok (.imul, 1) := dk_104 (dk_at dksX5_laySteps_5 7 rfl rfl)
theorem dX5_laySteps_127 : decode cX5_laySteps 127 = .ok (.iload 4, 2) := dk_21 4 (dk_at dksX5_laySteps_5 8 rfl rfl)
theorem dX5_laySteps_129 : decode cX5_laySteps 129 = .ok (.iadd, 1) := dk_96 (dk_at dksX5_laySteps_5 10 rfl rfl)
theorem dX5_laySteps_130 : decode cX5_laySteps 130 = .ok (.iload 5, 2) := dk_21 5 (dk_at dksX5_laySteps_5 11 rfl rfl)
theorem dX5_laySteps_132 : decode cX5_laySteps 132 = .ok (.iastore, 1) := dk_79 (dk_at dksX5_laySteps_5 13 rfl rfl)
theorem dX5_laySteps_133 : decode cX5_laySteps 133 = .ok (.iinc 4 1, 3) := dk_132 4 1 (dk_at dksX5_laySteps_5 14 rfl rfl)
theorem dX5_laySteps_136 : decode cX5_laySteps 136 = .ok (.goto (-125), 3) := dk_167 255 131 (dk_at dksX5_laySteps_5 17 rfl rfl)
theorem dX5_laySteps_139 : decode cX5_laySteps 139 = .ok (.aload_n 0, 1) := dk_42 (dk_at dksX5_laySteps_5 20 rfl rfl)
theorem dX5_laySteps_140 : decode cX5_laySteps 140 = .ok (.iload_n 3, 1) := dk_29 (dk_at dksX5_laySteps_5 21 rfl rfl)
theorem dX5_laySteps_141 : decode cX5_laySteps 141 = .ok (.invokevirtual 337, 3) := dk_182 1 81 (dk_at dksX5_laySteps_6 0 rfl rfl)
theorem dX5_laySteps_144 : decode cX5_laySteps 144 = .ok (.iinc 3 1, 3) := dk_132 3 1 (dk_at dksX5_laySteps_6 3 rfl rfl)
theorem dX5_laySteps_147 : decode cX5_laySteps 147 = .ok (.goto (-145), 3) := dk_167 255 111 (dk_at dksX5_laySteps_6 6 rfl rfl)
theorem dX5_laySteps_150 : decode cX5_laySteps 150 = .ok (.return_, 1) := dk_177 (dk_at dksX5_laySteps_6 9 rfl rfl)
abbrev cX5_straightOn : ByteArray := prog_17_method_89_code
def yX5_straightOn : MethodName := ⟨RX5, "straightOn", "(I)V"⟩
def dkwX5_straightOn_5 : List UInt8 := [167, 255, 140, 177]
abbrev dktX5_straightOn_5 : List UInt8 := dkwX5_straightOn_5 ++ []
def dkwX5_straightOn_4 : List UInt8 := [180, 0, 41, 27, 17, 2, 64, 104, 29, 96, 21, 5, 79, 132, 3, 1, 167, 255, 154, 132, 2, 1]
abbrev dktX5_straightOn_4 : List UInt8 := dkwX5_straightOn_4 ++ dktX5_straightOn_5
def dkwX5_straightOn_3 : List UInt8 := [96, 46, 4, 96, 54, 5, 21, 5, 42, 180, 0, 41, 27, 17, 2, 64, 104, 29, 96, 46, 162, 0, 17, 42]
abbrev dktX5_straightOn_3 : List UInt8 := dkwX5_straightOn_3 ++ dktX5_straightOn_4
def dkwX5_straightOn_2 : List UInt8 := [2, 160, 0, 6, 167, 0, 57, 42, 180, 0, 41, 27, 17, 2, 64, 104, 7, 21, 4, 104, 96, 29, 7, 112]
abbrev dktX5_straightOn_2 : List UInt8 := dkwX5_straightOn_2 ++ dktX5_straightOn_3
def dkwX5_straightOn_1 : List UInt8 := [46, 4, 160, 0, 7, 2, 167, 0, 14, 42, 29, 7, 108, 29, 7, 112, 2, 182, 1, 78, 54, 4, 21, 4]
abbrev dktX5_straightOn_1 : List UInt8 := dkwX5_straightOn_1 ++ dktX5_straightOn_2
def dkwX5_straightOn_0 : List UInt8 := [4, 61, 28, 16, 12, 162, 0, 116, 3, 62, 29, 17, 2, 64, 162, 0, 101, 42, 180, 0, 9, 29, 7, 108]
abbrev dktX5_straightOn_0 : List UInt8 := dkwX5_straightOn_0 ++ dktX5_straightOn_1
theorem dksX5_straightOn_0 : cX5_straightOn.data.toList.drop 0 = dktX5_straightOn_0 := by decide +kernel
theorem dksX5_straightOn_1 : cX5_straightOn.data.toList.drop 24 = dktX5_straightOn_1 := dk_seg dksX5_straightOn_0 24 rfl rfl
theorem dksX5_straightOn_2 : cX5_straightOn.data.toList.drop 48 = dktX5_straightOn_2 := dk_seg dksX5_straightOn_1 24 rfl rfl
theorem dksX5_straightOn_3 : cX5_straightOn.data.toList.drop 72 = dktX5_straightOn_3 := dk_seg dksX5_straightOn_2 24 rfl rfl
theorem dksX5_straightOn_4 : cX5_straightOn.data.toList.drop 96 = dktX5_straightOn_4 := dk_seg dksX5_straightOn_3 24 rfl rfl
theorem dksX5_straightOn_5 : cX5_straightOn.data.toList.drop 118 = dktX5_straightOn_5 := dk_seg dksX5_straightOn_4 22 rfl rfl
theorem dX5_straightOn_0 : decode cX5_straightOn 0 = .ok (.iconst 1, 1) := dk_4 (dk_at dksX5_straightOn_0 0 rfl rfl)
theorem dX5_straightOn_1 : decode cX5_straightOn 1 = .ok (.istore_n 2, 1) := dk_61 (dk_at dksX5_straightOn_0 1 rfl rfl)
theorem dX5_straightOn_2 : decode cX5_straightOn 2 = .ok (.iload_n 2, 1) := dk_28 (dk_at dksX5_straightOn_0 2 rfl rfl)
theorem dX5_straightOn_3 : decode cX5_straightOn 3 = .ok (.bipush 12, 2) := dk_16 12 (dk_at dksX5_straightOn_0 3 rfl rfl)
theorem dX5_straightOn_5 : decode cX5_straightOn 5 = .ok (.if_icmp .ge 116, 3) := dk_162 0 116 (dk_at dksX5_straightOn_0 5 rfl rfl)
theorem dX5_straightOn_8 : decode cX5_straightOn 8 = .ok (.iconst 0, 1) := dk_3 (dk_at dksX5_straightOn_0 8 rfl rfl)
theorem dX5_straightOn_9 : decode cX5_straightOn 9 = .ok (.istore_n 3, 1) := dk_62 (dk_at dksX5_straightOn_0 9 rfl rfl)
theorem dX5_straightOn_10 : decode cX5_straightOn 10 = .ok (.iload_n 3, 1) := dk_29 (dk_at dksX5_straightOn_0 10 rfl rfl)
theorem dX5_straightOn_11 : decode cX5_straightOn 11 = .ok (.sipush 576, 3) := dk_17 2 64 (dk_at dksX5_straightOn_0 11 rfl rfl)
theorem dX5_straightOn_14 : decode cX5_straightOn 14 = .ok (.if_icmp .ge 101, 3) := dk_162 0 101 (dk_at dksX5_straightOn_0 14 rfl rfl)
theorem dX5_straightOn_17 : decode cX5_straightOn 17 = .ok (.aload_n 0, 1) := dk_42 (dk_at dksX5_straightOn_0 17 rfl rfl)
theorem dX5_straightOn_18 : decode cX5_straightOn 18 = .ok (.getfield 9, 3) := dk_180 0 9 (dk_at dksX5_straightOn_0 18 rfl rfl)
theorem dX5_straightOn_21 : decode cX5_straightOn 21 = .ok (.iload_n 3, 1) := dk_29 (dk_at dksX5_straightOn_0 21 rfl rfl)
theorem dX5_straightOn_22 : decode cX5_straightOn 22 = .ok (.iconst 4, 1) := dk_7 (dk_at dksX5_straightOn_0 22 rfl rfl)
theorem dX5_straightOn_23 : decode cX5_straightOn 23 = .ok (.idiv, 1) := dk_108 (dk_at dksX5_straightOn_0 23 rfl rfl)
theorem dX5_straightOn_24 : decode cX5_straightOn 24 = .ok (.iaload, 1) := dk_46 (dk_at dksX5_straightOn_1 0 rfl rfl)
theorem dX5_straightOn_25 : decode cX5_straightOn 25 = .ok (.iconst 1, 1) := dk_4 (dk_at dksX5_straightOn_1 1 rfl rfl)
theorem dX5_straightOn_26 : decode cX5_straightOn 26 = .ok (.if_icmp .ne 7, 3) := dk_160 0 7 (dk_at dksX5_straightOn_1 2 rfl rfl)
theorem dX5_straightOn_29 : decode cX5_straightOn 29 = .ok (.iconst (-1), 1) := dk_2 (dk_at dksX5_straightOn_1 5 rfl rfl)
theorem dX5_straightOn_30 : decode cX5_straightOn 30 = .ok (.goto 14, 3) := dk_167 0 14 (dk_at dksX5_straightOn_1 6 rfl rfl)
theorem dX5_straightOn_33 : decode cX5_straightOn 33 = .ok (.aload_n 0, 1) := dk_42 (dk_at dksX5_straightOn_1 9 rfl rfl)
theorem dX5_straightOn_34 : decode cX5_straightOn 34 = .ok (.iload_n 3, 1) := dk_29 (dk_at dksX5_straightOn_1 10 rfl rfl)
theorem dX5_straightOn_35 : decode cX5_straightOn 35 = .ok (.iconst 4, 1) := dk_7 (dk_at dksX5_straightOn_1 11 rfl rfl)
theorem dX5_straightOn_36 : decode cX5_straightOn 36 = .ok (.idiv, 1) := dk_108 (dk_at dksX5_straightOn_1 12 rfl rfl)
theorem dX5_straightOn_37 : decode cX5_straightOn 37 = .ok (.iload_n 3, 1) := dk_29 (dk_at dksX5_straightOn_1 13 rfl rfl)
theorem dX5_straightOn_38 : decode cX5_straightOn 38 = .ok (.iconst 4, 1) := dk_7 (dk_at dksX5_straightOn_1 14 rfl rfl)
theorem dX5_straightOn_39 : decode cX5_straightOn 39 = .ok (.irem, 1) := dk_112 (dk_at dksX5_straightOn_1 15 rfl rfl)
theorem dX5_straightOn_40 : decode cX5_straightOn 40 = .ok (.iconst (-1), 1) := dk_2 (dk_at dksX5_straightOn_1 16 rfl rfl)
theorem dX5_straightOn_41 : decode cX5_straightOn 41 = .ok (.invokevirtual 334, 3) := dk_182 1 78 (dk_at dksX5_straightOn_1 17 rfl rfl)
theorem dX5_straightOn_44 : decode cX5_straightOn 44 = .ok (.istore 4, 2) := dk_54 4 (dk_at dksX5_straightOn_1 20 rfl rfl)
theorem dX5_straightOn_46 : decode cX5_straightOn 46 = .ok (.iload 4, 2) := dk_21 4 (dk_at dksX5_straightOn_1 22 rfl rfl)
theorem dX5_straightOn_48 : decode cX5_straightOn 48 = .ok (.iconst (-1), 1) := dk_2 (dk_at dksX5_straightOn_2 0 rfl rfl)
theorem dX5_straightOn_49 : decode cX5_straightOn 49 = .ok (.if_icmp .ne 6, 3) := dk_160 0 6 (dk_at dksX5_straightOn_2 1 rfl rfl)
theorem dX5_straightOn_52 : decode cX5_straightOn 52 = .ok (.goto 57, 3) := dk_167 0 57 (dk_at dksX5_straightOn_2 4 rfl rfl)
theorem dX5_straightOn_55 : decode cX5_straightOn 55 = .ok (.aload_n 0, 1) := dk_42 (dk_at dksX5_straightOn_2 7 rfl rfl)
theorem dX5_straightOn_56 : decode cX5_straightOn 56 = .ok (.getfield 41, 3) := dk_180 0 41 (dk_at dksX5_straightOn_2 8 rfl rfl)
theorem dX5_straightOn_59 : decode cX5_straightOn 59 = .ok (.iload_n 1, 1) := dk_27 (dk_at dksX5_straightOn_2 11 rfl rfl)
theorem dX5_straightOn_60 : decode cX5_straightOn 60 = .ok (.sipush 576, 3) := dk_17 2 64 (dk_at dksX5_straightOn_2 12 rfl rfl)
theorem dX5_straightOn_63 : decode cX5_straightOn 63 = .ok (.imul, 1) := dk_104 (dk_at dksX5_straightOn_2 15 rfl rfl)
theorem dX5_straightOn_64 : decode cX5_straightOn 64 = .ok (.iconst 4, 1) := dk_7 (dk_at dksX5_straightOn_2 16 rfl rfl)
theorem dX5_straightOn_65 : decode cX5_straightOn 65 = .ok (.iload 4, 2) := dk_21 4 (dk_at dksX5_straightOn_2 17 rfl rfl)
theorem dX5_straightOn_67 : decode cX5_straightOn 67 = .ok (.imul, 1) := dk_104 (dk_at dksX5_straightOn_2 19 rfl rfl)
theorem dX5_straightOn_68 : decode cX5_straightOn 68 = .ok (.iadd, 1) := dk_96 (dk_at dksX5_straightOn_2 20 rfl rfl)
theorem dX5_straightOn_69 : decode cX5_straightOn 69 = .ok (.iload_n 3, 1) := dk_29 (dk_at dksX5_straightOn_2 21 rfl rfl)
theorem dX5_straightOn_70 : decode cX5_straightOn 70 = .ok (.iconst 4, 1) := dk_7 (dk_at dksX5_straightOn_2 22 rfl rfl)
theorem dX5_straightOn_71 : decode cX5_straightOn 71 = .ok (.irem, 1) := dk_112 (dk_at dksX5_straightOn_2 23 rfl rfl)
theorem dX5_straightOn_72 : decode cX5_straightOn 72 = .ok (.iadd, 1) := dk_96 (dk_at dksX5_straightOn_3 0 rfl rfl)
theorem dX5_straightOn_73 : decode cX5_straightOn 73 = .ok (.iaload, 1) := dk_46 (dk_at dksX5_straightOn_3 1 rfl rfl)
theorem dX5_straightOn_74 : decode cX5_straightOn 74 = .ok (.iconst 1, 1) := dk_4 (dk_at dksX5_straightOn_3 2 rfl rfl)
theorem dX5_straightOn_75 : decode cX5_straightOn 75 = .ok (.iadd, 1) := dk_96 (dk_at dksX5_straightOn_3 3 rfl rfl)
theorem dX5_straightOn_76 : decode cX5_straightOn 76 = .ok (.istore 5, 2) := dk_54 5 (dk_at dksX5_straightOn_3 4 rfl rfl)
theorem dX5_straightOn_78 : decode cX5_straightOn 78 = .ok (.iload 5, 2) := dk_21 5 (dk_at dksX5_straightOn_3 6 rfl rfl)
theorem dX5_straightOn_80 : decode cX5_straightOn 80 = .ok (.aload_n 0, 1) := dk_42 (dk_at dksX5_straightOn_3 8 rfl rfl)
theorem dX5_straightOn_81 : decode cX5_straightOn 81 = .ok (.getfield 41, 3) := dk_180 0 41 (dk_at dksX5_straightOn_3 9 rfl rfl)
theorem dX5_straightOn_84 : decode cX5_straightOn 84 = .ok (.iload_n 1, 1) := dk_27 (dk_at dksX5_straightOn_3 12 rfl rfl)
theorem dX5_straightOn_85 : decode cX5_straightOn 85 = .ok (.sipush 576, 3) := dk_17 2 64 (dk_at dksX5_straightOn_3 13 rfl rfl)
theorem dX5_straightOn_88 : decode cX5_straightOn 88 = .ok (.imul, 1) := dk_104 (dk_at dksX5_straightOn_3 16 rfl rfl)
theorem dX5_straightOn_89 : decode cX5_straightOn 89 = .ok (.iload_n 3, 1) := dk_29 (dk_at dksX5_straightOn_3 17 rfl rfl)
theorem dX5_straightOn_90 : decode cX5_straightOn 90 = .ok (.iadd, 1) := dk_96 (dk_at dksX5_straightOn_3 18 rfl rfl)
theorem dX5_straightOn_91 : decode cX5_straightOn 91 = .ok (.iaload, 1) := dk_46 (dk_at dksX5_straightOn_3 19 rfl rfl)
theorem dX5_straightOn_92 : decode cX5_straightOn 92 = .ok (.if_icmp .ge 17, 3) := dk_162 0 17 (dk_at dksX5_straightOn_3 20 rfl rfl)
theorem dX5_straightOn_95 : decode cX5_straightOn 95 = .ok (.aload_n 0, 1) := dk_42 (dk_at dksX5_straightOn_3 23 rfl rfl)
theorem dX5_straightOn_96 : decode cX5_straightOn 96 = .ok (.getfield 41, 3) := dk_180 0 41 (dk_at dksX5_straightOn_4 0 rfl rfl)
theorem dX5_straightOn_99 : decode cX5_straightOn 99 = .ok (.iload_n 1, 1) := dk_27 (dk_at dksX5_straightOn_4 3 rfl rfl)
theorem dX5_straightOn_100 : decode cX5_straightOn 100 = .ok (.sipush 576, 3) := dk_17 2 64 (dk_at dksX5_straightOn_4 4 rfl rfl)
theorem dX5_straightOn_103 : decode cX5_straightOn 103 = .ok (.imul, 1) := dk_104 (dk_at dksX5_straightOn_4 7 rfl rfl)
theorem dX5_straightOn_104 : decode cX5_straightOn 104 = .ok (.iload_n 3, 1) := dk_29 (dk_at dksX5_straightOn_4 8 rfl rfl)
theorem dX5_straightOn_105 : decode cX5_straightOn 105 = .ok (.iadd, 1) := dk_96 (dk_at dksX5_straightOn_4 9 rfl rfl)
theorem dX5_straightOn_106 : decode cX5_straightOn 106 = .ok (.iload 5, 2) := dk_21 5 (dk_at dksX5_straightOn_4 10 rfl rfl)
theorem dX5_straightOn_108 : decode cX5_straightOn 108 = .ok (.iastore, 1) := dk_79 (dk_at dksX5_straightOn_4 12 rfl rfl)
theorem dX5_straightOn_109 : decode cX5_straightOn 109 = .ok (.iinc 3 1, 3) := dk_132 3 1 (dk_at dksX5_straightOn_4 13 rfl rfl)
theorem dX5_straightOn_112 : decode cX5_straightOn 112 = .ok (.goto (-102), 3) := dk_167 255 154 (dk_at dksX5_straightOn_4 16 rfl rfl)
theorem dX5_straightOn_115 : decode cX5_straightOn 115 = .ok (.iinc 2 1, 3) := dk_132 2 1 (dk_at dksX5_straightOn_4 19 rfl rfl)
theorem dX5_straightOn_118 : decode cX5_straightOn 118 = .ok (.goto (-116), 3) := dk_167 255 140 (dk_at dksX5_straightOn_5 0 rfl rfl)
theorem dX5_straightOn_121 : decode cX5_straightOn 121 = .ok (.return_, 1) := dk_177 (dk_at dksX5_straightOn_5 3 rfl rfl)
abbrev cX5_with : ByteArray := prog_17_method_96_code
def yX5_with : MethodName := ⟨RX5, "with", "(IIII)I"⟩
def dkwX5_with_7 : List UInt8 := [29, 104, 96, 21, 7, 96, 46, 184, 1, 94, 54, 6, 132, 7, 1, 167, 255, 220, 21, 6, 172]
abbrev dktX5_with_7 : List UInt8 := dkwX5_with_7 ++ []
def dkwX5_with_6 : List UInt8 := [3, 54, 7, 21, 7, 16, 12, 162, 0, 35, 21, 6, 42, 180, 0, 47, 21, 5, 17, 6, 192, 104, 16, 12]
abbrev dktX5_with_6 : List UInt8 := dkwX5_with_6 ++ dktX5_with_7
def dkwX5_with_5 : List UInt8 := [162, 0, 21, 42, 21, 5, 182, 1, 100, 42, 21, 5, 182, 1, 97, 132, 6, 1, 167, 255, 231, 3, 54, 6]
abbrev dktX5_with_5 : List UInt8 := dkwX5_with_5 ++ dktX5_with_6
def dkwX5_with_4 : List UInt8 := [132, 6, 1, 167, 255, 221, 42, 21, 5, 182, 1, 97, 3, 54, 6, 21, 6, 21, 4, 16, 10, 108]
abbrev dktX5_with_4 : List UInt8 := dkwX5_with_4 ++ dktX5_with_5
def dkwX5_with_3 : List UInt8 := [180, 0, 47, 21, 6, 21, 6, 6, 7, 27, 104, 28, 96, 104, 160, 0, 7, 4, 167, 0, 4, 3, 79]
abbrev dktX5_with_3 : List UInt8 := dkwX5_with_3 ++ dktX5_with_4
def dkwX5_with_2 : List UInt8 := [164, 0, 5, 2, 172, 21, 4, 16, 10, 112, 54, 5, 3, 54, 6, 21, 6, 17, 47, 64, 162, 0, 33, 42]
abbrev dktX5_with_2 : List UInt8 := dkwX5_with_2 ++ dktX5_with_3
def dkwX5_with_1 : List UInt8 := [153, 0, 25, 21, 4, 3, 17, 0, 209, 184, 0, 100, 153, 0, 13, 21, 4, 16, 10, 112, 16, 6]
abbrev dktX5_with_1 : List UInt8 := dkwX5_with_1 ++ dktX5_with_2
def dkwX5_with_0 : List UInt8 := [42, 27, 182, 1, 84, 153, 0, 42, 42, 29, 182, 1, 84, 153, 0, 34, 28, 3, 6, 184, 0, 100]
abbrev dktX5_with_0 : List UInt8 := dkwX5_with_0 ++ dktX5_with_1
theorem dksX5_with_0 : cX5_with.data.toList.drop 0 = dktX5_with_0 := by decide +kernel
theorem dksX5_with_1 : cX5_with.data.toList.drop 22 = dktX5_with_1 := dk_seg dksX5_with_0 22 rfl rfl
theorem dksX5_with_2 : cX5_with.data.toList.drop 44 = dktX5_with_2 := dk_seg dksX5_with_1 22 rfl rfl
theorem dksX5_with_3 : cX5_with.data.toList.drop 68 = dktX5_with_3 := dk_seg dksX5_with_2 24 rfl rfl
theorem dksX5_with_4 : cX5_with.data.toList.drop 91 = dktX5_with_4 := dk_seg dksX5_with_3 23 rfl rfl
theorem dksX5_with_5 : cX5_with.data.toList.drop 113 = dktX5_with_5 := dk_seg dksX5_with_4 22 rfl rfl
theorem dksX5_with_6 : cX5_with.data.toList.drop 137 = dktX5_with_6 := dk_seg dksX5_with_5 24 rfl rfl
theorem dksX5_with_7 : cX5_with.data.toList.drop 161 = dktX5_with_7 := dk_seg dksX5_with_6 24 rfl rfl
theorem dX5_with_0 : decode cX5_with 0 = .ok (.aload_n 0, 1) := dk_42 (dk_at dksX5_with_0 0 rfl rfl)
theorem dX5_with_1 : decode cX5_with 1 = .ok (.iload_n 1, 1) := dk_27 (dk_at dksX5_with_0 1 rfl rfl)
theorem dX5_with_2 : decode cX5_with 2 = .ok (.invokevirtual 340, 3) := dk_182 1 84 (dk_at dksX5_with_0 2 rfl rfl)
theorem dX5_with_5 : decode cX5_with 5 = .ok (.ifCond .eq 42, 3) := dk_153 0 42 (dk_at dksX5_with_0 5 rfl rfl)
theorem dX5_with_8 : decode cX5_with 8 = .ok (.aload_n 0, 1) := dk_42 (dk_at dksX5_with_0 8 rfl rfl)
theorem dX5_with_9 : decode cX5_with 9 = .ok (.iload_n 3, 1) := dk_29 (dk_at dksX5_with_0 9 rfl rfl)
theorem dX5_with_10 : decode cX5_with 10 = .ok (.invokevirtual 340, 3) := dk_182 1 84 (dk_at dksX5_with_0 10 rfl rfl)
theorem dX5_with_13 : decode cX5_with 13 = .ok (.ifCond .eq 34, 3) := dk_153 0 34 (dk_at dksX5_with_0 13 rfl rfl)
theorem dX5_with_16 : decode cX5_with 16 = .ok (.iload_n 2, 1) := dk_28 (dk_at dksX5_with_0 16 rfl rfl)
theorem dX5_with_17 : decode cX5_with 17 = .ok (.iconst 0, 1) := dk_3 (dk_at dksX5_with_0 17 rfl rfl)
theorem dX5_with_18 : decode cX5_with 18 = .ok (.iconst 3, 1) := dk_6 (dk_at dksX5_with_0 18 rfl rfl)
theorem dX5_with_19 : decode cX5_with 19 = .ok (.invokestatic 100, 3) := dk_184 0 100 (dk_at dksX5_with_0 19 rfl rfl)
theorem dX5_with_22 : decode cX5_with 22 = .ok (.ifCond .eq 25, 3) := dk_153 0 25 (dk_at dksX5_with_1 0 rfl rfl)
theorem dX5_with_25 : decode cX5_with 25 = .ok (.iload 4, 2) := dk_21 4 (dk_at dksX5_with_1 3 rfl rfl)
theorem dX5_with_27 : decode cX5_with 27 = .ok (.iconst 0, 1) := dk_3 (dk_at dksX5_with_1 5 rfl rfl)
theorem dX5_with_28 : decode cX5_with 28 = .ok (.sipush 209, 3) := dk_17 0 209 (dk_at dksX5_with_1 6 rfl rfl)
theorem dX5_with_31 : decode cX5_with 31 = .ok (.invokestatic 100, 3) := dk_184 0 100 (dk_at dksX5_with_1 9 rfl rfl)
theorem dX5_with_34 : decode cX5_with 34 = .ok (.ifCond .eq 13, 3) := dk_153 0 13 (dk_at dksX5_with_1 12 rfl rfl)
theorem dX5_with_37 : decode cX5_with 37 = .ok (.iload 4, 2) := dk_21 4 (dk_at dksX5_with_1 15 rfl rfl)
theorem dX5_with_39 : decode cX5_with 39 = .ok (.bipush 10, 2) := dk_16 10 (dk_at dksX5_with_1 17 rfl rfl)
theorem dX5_with_41 : decode cX5_with 41 = .ok (.irem, 1) := dk_112 (dk_at dksX5_with_1 19 rfl rfl)
theorem dX5_with_42 : decode cX5_with 42 = .ok (.bipush 6, 2) := dk_16 6 (dk_at dksX5_with_1 20 rfl rfl)
theorem dX5_with_44 : decode cX5_with 44 = .ok (.if_icmp .le 5, 3) := dk_164 0 5 (dk_at dksX5_with_2 0 rfl rfl)
theorem dX5_with_47 : decode cX5_with 47 = .ok (.iconst (-1), 1) := dk_2 (dk_at dksX5_with_2 3 rfl rfl)
theorem dX5_with_48 : decode cX5_with 48 = .ok (.ireturn, 1) := dk_172 (dk_at dksX5_with_2 4 rfl rfl)
theorem dX5_with_49 : decode cX5_with 49 = .ok (.iload 4, 2) := dk_21 4 (dk_at dksX5_with_2 5 rfl rfl)
theorem dX5_with_51 : decode cX5_with 51 = .ok (.bipush 10, 2) := dk_16 10 (dk_at dksX5_with_2 7 rfl rfl)
theorem dX5_with_53 : decode cX5_with 53 = .ok (.irem, 1) := dk_112 (dk_at dksX5_with_2 9 rfl rfl)
theorem dX5_with_54 : decode cX5_with 54 = .ok (.istore 5, 2) := dk_54 5 (dk_at dksX5_with_2 10 rfl rfl)
theorem dX5_with_56 : decode cX5_with 56 = .ok (.iconst 0, 1) := dk_3 (dk_at dksX5_with_2 12 rfl rfl)
theorem dX5_with_57 : decode cX5_with 57 = .ok (.istore 6, 2) := dk_54 6 (dk_at dksX5_with_2 13 rfl rfl)
theorem dX5_with_59 : decode cX5_with 59 = .ok (.iload 6, 2) := dk_21 6 (dk_at dksX5_with_2 15 rfl rfl)
theorem dX5_with_61 : decode cX5_with 61 = .ok (.sipush 12096, 3) := dk_17 47 64 (dk_at dksX5_with_2 17 rfl rfl)
theorem dX5_with_64 : decode cX5_with 64 = .ok (.if_icmp .ge 33, 3) := dk_162 0 33 (dk_at dksX5_with_2 20 rfl rfl)
theorem dX5_with_67 : decode cX5_with 67 = .ok (.aload_n 0, 1) := dk_42 (dk_at dksX5_with_2 23 rfl rfl)
theorem dX5_with_68 : decode cX5_with 68 = .ok (.getfield 47, 3) := dk_180 0 47 (dk_at dksX5_with_3 0 rfl rfl)
theorem dX5_with_71 : decode cX5_with 71 = .ok (.iload 6, 2) := dk_21 6 (dk_at dksX5_with_3 3 rfl rfl)
theorem dX5_with_73 : decode cX5_with 73 = .ok (.iload 6, 2) := dk_21 6 (dk_at dksX5_with_3 5 rfl rfl)
theorem dX5_with_75 : decode cX5_with 75 = .ok (.iconst 3, 1) := dk_6 (dk_at dksX5_with_3 7 rfl rfl)
theorem dX5_with_76 : decode cX5_with 76 = .ok (.iconst 4, 1) := dk_7 (dk_at dksX5_with_3 8 rfl rfl)
theorem dX5_with_77 : decode cX5_with 77 = .ok (.iload_n 1, 1) := dk_27 (dk_at dksX5_with_3 9 rfl rfl)
theorem dX5_with_78 : decode cX5_with 78 = .ok (.imul, 1) := dk_104 (dk_at dksX5_with_3 10 rfl rfl)
theorem dX5_with_79 : decode cX5_with 79 = .ok (.iload_n 2, 1) := dk_28 (dk_at dksX5_with_3 11 rfl rfl)
theorem dX5_with_80 : decode cX5_with 80 = .ok (.iadd, 1) := dk_96 (dk_at dksX5_with_3 12 rfl rfl)
theorem dX5_with_81 : decode cX5_with 81 = .ok (.imul, 1) := dk_104 (dk_at dksX5_with_3 13 rfl rfl)
theorem dX5_with_82 : decode cX5_with 82 = .ok (.if_icmp .ne 7, 3) := dk_160 0 7 (dk_at dksX5_with_3 14 rfl rfl)
theorem dX5_with_85 : decode cX5_with 85 = .ok (.iconst 1, 1) := dk_4 (dk_at dksX5_with_3 17 rfl rfl)
theorem dX5_with_86 : decode cX5_with 86 = .ok (.goto 4, 3) := dk_167 0 4 (dk_at dksX5_with_3 18 rfl rfl)
theorem dX5_with_89 : decode cX5_with 89 = .ok (.iconst 0, 1) := dk_3 (dk_at dksX5_with_3 21 rfl rfl)
theorem dX5_with_90 : decode cX5_with 90 = .ok (.iastore, 1) := dk_79 (dk_at dksX5_with_3 22 rfl rfl)
theorem dX5_with_91 : decode cX5_with 91 = .ok (.iinc 6 1, 3) := dk_132 6 1 (dk_at dksX5_with_4 0 rfl rfl)
theorem dX5_with_94 : decode cX5_with 94 = .ok (.goto (-35), 3) := dk_167 255 221 (dk_at dksX5_with_4 3 rfl rfl)
theorem dX5_with_97 : decode cX5_with 97 = .ok (.aload_n 0, 1) := dk_42 (dk_at dksX5_with_4 6 rfl rfl)
theorem dX5_with_98 : decode cX5_with 98 = .ok (.iload 5, 2) := dk_21 5 (dk_at dksX5_with_4 7 rfl rfl)
theorem dX5_with_100 : decode cX5_with 100 = .ok (.invokevirtual 353, 3) := dk_182 1 97 (dk_at dksX5_with_4 9 rfl rfl)
theorem dX5_with_103 : decode cX5_with 103 = .ok (.iconst 0, 1) := dk_3 (dk_at dksX5_with_4 12 rfl rfl)
theorem dX5_with_104 : decode cX5_with 104 = .ok (.istore 6, 2) := dk_54 6 (dk_at dksX5_with_4 13 rfl rfl)
theorem dX5_with_106 : decode cX5_with 106 = .ok (.iload 6, 2) := dk_21 6 (dk_at dksX5_with_4 15 rfl rfl)
theorem dX5_with_108 : decode cX5_with 108 = .ok (.iload 4, 2) := dk_21 4 (dk_at dksX5_with_4 17 rfl rfl)
theorem dX5_with_110 : decode cX5_with 110 = .ok (.bipush 10, 2) := dk_16 10 (dk_at dksX5_with_4 19 rfl rfl)
theorem dX5_with_112 : decode cX5_with 112 = .ok (.idiv, 1) := dk_108 (dk_at dksX5_with_4 21 rfl rfl)
theorem dX5_with_113 : decode cX5_with 113 = .ok (.if_icmp .ge 21, 3) := dk_162 0 21 (dk_at dksX5_with_5 0 rfl rfl)
theorem dX5_with_116 : decode cX5_with 116 = .ok (.aload_n 0, 1) := dk_42 (dk_at dksX5_with_5 3 rfl rfl)
theorem dX5_with_117 : decode cX5_with 117 = .ok (.iload 5, 2) := dk_21 5 (dk_at dksX5_with_5 4 rfl rfl)
theorem dX5_with_119 : decode cX5_with 119 = .ok (.invokevirtual 356, 3) := dk_182 1 100 (dk_at dksX5_with_5 6 rfl rfl)
theorem dX5_with_122 : decode cX5_with 122 = .ok (.aload_n 0, 1) := dk_42 (dk_at dksX5_with_5 9 rfl rfl)
theorem dX5_with_123 : decode cX5_with 123 = .ok (.iload 5, 2) := dk_21 5 (dk_at dksX5_with_5 10 rfl rfl)
theorem dX5_with_125 : decode cX5_with 125 = .ok (.invokevirtual 353, 3) := dk_182 1 97 (dk_at dksX5_with_5 12 rfl rfl)
theorem dX5_with_128 : decode cX5_with 128 = .ok (.iinc 6 1, 3) := dk_132 6 1 (dk_at dksX5_with_5 15 rfl rfl)
theorem dX5_with_131 : decode cX5_with 131 = .ok (.goto (-25), 3) := dk_167 255 231 (dk_at dksX5_with_5 18 rfl rfl)
theorem dX5_with_134 : decode cX5_with 134 = .ok (.iconst 0, 1) := dk_3 (dk_at dksX5_with_5 21 rfl rfl)
theorem dX5_with_135 : decode cX5_with 135 = .ok (.istore 6, 2) := dk_54 6 (dk_at dksX5_with_5 22 rfl rfl)
theorem dX5_with_137 : decode cX5_with 137 = .ok (.iconst 0, 1) := dk_3 (dk_at dksX5_with_6 0 rfl rfl)
theorem dX5_with_138 : decode cX5_with 138 = .ok (.istore 7, 2) := dk_54 7 (dk_at dksX5_with_6 1 rfl rfl)
theorem dX5_with_140 : decode cX5_with 140 = .ok (.iload 7, 2) := dk_21 7 (dk_at dksX5_with_6 3 rfl rfl)
theorem dX5_with_142 : decode cX5_with 142 = .ok (.bipush 12, 2) := dk_16 12 (dk_at dksX5_with_6 5 rfl rfl)
theorem dX5_with_144 : decode cX5_with 144 = .ok (.if_icmp .ge 35, 3) := dk_162 0 35 (dk_at dksX5_with_6 7 rfl rfl)
theorem dX5_with_147 : decode cX5_with 147 = .ok (.iload 6, 2) := dk_21 6 (dk_at dksX5_with_6 10 rfl rfl)
theorem dX5_with_149 : decode cX5_with 149 = .ok (.aload_n 0, 1) := dk_42 (dk_at dksX5_with_6 12 rfl rfl)
theorem dX5_with_150 : decode cX5_with 150 = .ok (.getfield 47, 3) := dk_180 0 47 (dk_at dksX5_with_6 13 rfl rfl)
theorem dX5_with_153 : decode cX5_with 153 = .ok (.iload 5, 2) := dk_21 5 (dk_at dksX5_with_6 16 rfl rfl)
theorem dX5_with_155 : decode cX5_with 155 = .ok (.sipush 1728, 3) := dk_17 6 192 (dk_at dksX5_with_6 18 rfl rfl)
theorem dX5_with_158 : decode cX5_with 158 = .ok (.imul, 1) := dk_104 (dk_at dksX5_with_6 21 rfl rfl)
theorem dX5_with_159 : decode cX5_with 159 = .ok (.bipush 12, 2) := dk_16 12 (dk_at dksX5_with_6 22 rfl rfl)
theorem dX5_with_161 : decode cX5_with 161 = .ok (.iload_n 3, 1) := dk_29 (dk_at dksX5_with_7 0 rfl rfl)
theorem dX5_with_162 : decode cX5_with 162 = .ok (.imul, 1) := dk_104 (dk_at dksX5_with_7 1 rfl rfl)
theorem dX5_with_163 : decode cX5_with 163 = .ok (.iadd, 1) := dk_96 (dk_at dksX5_with_7 2 rfl rfl)
theorem dX5_with_164 : decode cX5_with 164 = .ok (.iload 7, 2) := dk_21 7 (dk_at dksX5_with_7 3 rfl rfl)
theorem dX5_with_166 : decode cX5_with 166 = .ok (.iadd, 1) := dk_96 (dk_at dksX5_with_7 5 rfl rfl)
theorem dX5_with_167 : decode cX5_with 167 = .ok (.iaload, 1) := dk_46 (dk_at dksX5_with_7 6 rfl rfl)
theorem dX5_with_168 : decode cX5_with 168 = .ok (.invokestatic 350, 3) := dk_184 1 94 (dk_at dksX5_with_7 7 rfl rfl)
theorem dX5_with_171 : decode cX5_with 171 = .ok (.istore 6, 2) := dk_54 6 (dk_at dksX5_with_7 10 rfl rfl)
theorem dX5_with_173 : decode cX5_with 173 = .ok (.iinc 7 1, 3) := dk_132 7 1 (dk_at dksX5_with_7 12 rfl rfl)
theorem dX5_with_176 : decode cX5_with 176 = .ok (.goto (-36), 3) := dk_167 255 220 (dk_at dksX5_with_7 15 rfl rfl)
theorem dX5_with_179 : decode cX5_with 179 = .ok (.iload 6, 2) := dk_21 6 (dk_at dksX5_with_7 18 rfl rfl)
theorem dX5_with_181 : decode cX5_with 181 = .ok (.ireturn, 1) := dk_172 (dk_at dksX5_with_7 20 rfl rfl)
abbrev cX5_turnRows : ByteArray := prog_17_method_94_code
def yX5_turnRows : MethodName := ⟨RX5, "turnRows", "(I)V"⟩
def dkwX5_turnRows_4 : List UInt8 := [184, 1, 94, 79, 132, 4, 1, 167, 255, 174, 132, 3, 1, 167, 255, 158, 132, 2, 1, 167, 255, 145, 177]
abbrev dktX5_turnRows_4 : List UInt8 := dkwX5_turnRows_4 ++ []
def dkwX5_turnRows_3 : List UInt8 := [4, 96, 21, 4, 96, 42, 180, 0, 47, 21, 6, 46, 42, 180, 0, 47, 21, 6, 4, 96, 21, 4, 96, 46]
abbrev dktX5_turnRows_3 : List UInt8 := dkwX5_turnRows_3 ++ dktX5_turnRows_4
def dkwX5_turnRows_2 : List UInt8 := [17, 6, 192, 104, 6, 21, 5, 104, 96, 54, 6, 42, 180, 0, 47, 28, 17, 6, 192, 104, 6, 29, 104, 96]
abbrev dktX5_turnRows_2 : List UInt8 := dkwX5_turnRows_2 ++ dktX5_turnRows_3
def dkwX5_turnRows_1 : List UInt8 := [162, 0, 82, 29, 7, 108, 7, 104, 29, 7, 112, 4, 21, 4, 100, 184, 1, 7, 96, 54, 5, 28, 4, 100]
abbrev dktX5_turnRows_1 : List UInt8 := dkwX5_turnRows_1 ++ dktX5_turnRows_2
def dkwX5_turnRows_0 : List UInt8 := [4, 61, 28, 27, 163, 0, 112, 3, 62, 29, 17, 2, 64, 162, 0, 97, 3, 54, 4, 21, 4, 5]
abbrev dktX5_turnRows_0 : List UInt8 := dkwX5_turnRows_0 ++ dktX5_turnRows_1
theorem dksX5_turnRows_0 : cX5_turnRows.data.toList.drop 0 = dktX5_turnRows_0 := by decide +kernel
theorem dksX5_turnRows_1 : cX5_turnRows.data.toList.drop 22 = dktX5_turnRows_1 := dk_seg dksX5_turnRows_0 22 rfl rfl
theorem dksX5_turnRows_2 : cX5_turnRows.data.toList.drop 46 = dktX5_turnRows_2 := dk_seg dksX5_turnRows_1 24 rfl rfl
theorem dksX5_turnRows_3 : cX5_turnRows.data.toList.drop 70 = dktX5_turnRows_3 := dk_seg dksX5_turnRows_2 24 rfl rfl
theorem dksX5_turnRows_4 : cX5_turnRows.data.toList.drop 94 = dktX5_turnRows_4 := dk_seg dksX5_turnRows_3 24 rfl rfl
theorem dX5_turnRows_0 : decode cX5_turnRows 0 = .ok (.iconst 1, 1) := dk_4 (dk_at dksX5_turnRows_0 0 rfl rfl)
theorem dX5_turnRows_1 : decode cX5_turnRows 1 = .ok (.istore_n 2, 1) := dk_61 (dk_at dksX5_turnRows_0 1 rfl rfl)
theorem dX5_turnRows_2 : decode cX5_turnRows 2 = .ok (.iload_n 2, 1) := dk_28 (dk_at dksX5_turnRows_0 2 rfl rfl)
theorem dX5_turnRows_3 : decode cX5_turnRows 3 = .ok (.iload_n 1, 1) := dk_27 (dk_at dksX5_turnRows_0 3 rfl rfl)
theorem dX5_turnRows_4 : decode cX5_turnRows 4 = .ok (.if_icmp .gt 112, 3) := dk_163 0 112 (dk_at dksX5_turnRows_0 4 rfl rfl)
theorem dX5_turnRows_7 : decode cX5_turnRows 7 = .ok (.iconst 0, 1) := dk_3 (dk_at dksX5_turnRows_0 7 rfl rfl)
theorem dX5_turnRows_8 : decode cX5_turnRows 8 = .ok (.istore_n 3, 1) := dk_62 (dk_at dksX5_turnRows_0 8 rfl rfl)
theorem dX5_turnRows_9 : decode cX5_turnRows 9 = .ok (.iload_n 3, 1) := dk_29 (dk_at dksX5_turnRows_0 9 rfl rfl)
theorem dX5_turnRows_10 : decode cX5_turnRows 10 = .ok (.sipush 576, 3) := dk_17 2 64 (dk_at dksX5_turnRows_0 10 rfl rfl)
theorem dX5_turnRows_13 : decode cX5_turnRows 13 = .ok (.if_icmp .ge 97, 3) := dk_162 0 97 (dk_at dksX5_turnRows_0 13 rfl rfl)
theorem dX5_turnRows_16 : decode cX5_turnRows 16 = .ok (.iconst 0, 1) := dk_3 (dk_at dksX5_turnRows_0 16 rfl rfl)
theorem dX5_turnRows_17 : decode cX5_turnRows 17 = .ok (.istore 4, 2) := dk_54 4 (dk_at dksX5_turnRows_0 17 rfl rfl)
theorem dX5_turnRows_19 : decode cX5_turnRows 19 = .ok (.iload 4, 2) := dk_21 4 (dk_at dksX5_turnRows_0 19 rfl rfl)
theorem dX5_turnRows_21 : decode cX5_turnRows 21 = .ok (.iconst 2, 1) := dk_5 (dk_at dksX5_turnRows_0 21 rfl rfl)
theorem dX5_turnRows_22 : decode cX5_turnRows 22 = .ok (.if_icmp .ge 82, 3) := dk_162 0 82 (dk_at dksX5_turnRows_1 0 rfl rfl)
theorem dX5_turnRows_25 : decode cX5_turnRows 25 = .ok (.iload_n 3, 1) := dk_29 (dk_at dksX5_turnRows_1 3 rfl rfl)
theorem dX5_turnRows_26 : decode cX5_turnRows 26 = .ok (.iconst 4, 1) := dk_7 (dk_at dksX5_turnRows_1 4 rfl rfl)
theorem dX5_turnRows_27 : decode cX5_turnRows 27 = .ok (.idiv, 1) := dk_108 (dk_at dksX5_turnRows_1 5 rfl rfl)
theorem dX5_turnRows_28 : decode cX5_turnRows 28 = .ok (.iconst 4, 1) := dk_7 (dk_at dksX5_turnRows_1 6 rfl rfl)
theorem dX5_turnRows_29 : decode cX5_turnRows 29 = .ok (.imul, 1) := dk_104 (dk_at dksX5_turnRows_1 7 rfl rfl)
theorem dX5_turnRows_30 : decode cX5_turnRows 30 = .ok (.iload_n 3, 1) := dk_29 (dk_at dksX5_turnRows_1 8 rfl rfl)
theorem dX5_turnRows_31 : decode cX5_turnRows 31 = .ok (.iconst 4, 1) := dk_7 (dk_at dksX5_turnRows_1 9 rfl rfl)
theorem dX5_turnRows_32 : decode cX5_turnRows 32 = .ok (.irem, 1) := dk_112 (dk_at dksX5_turnRows_1 10 rfl rfl)
theorem dX5_turnRows_33 : decode cX5_turnRows 33 = .ok (.iconst 1, 1) := dk_4 (dk_at dksX5_turnRows_1 11 rfl rfl)
theorem dX5_turnRows_34 : decode cX5_turnRows 34 = .ok (.iload 4, 2) := dk_21 4 (dk_at dksX5_turnRows_1 12 rfl rfl)
theorem dX5_turnRows_36 : decode cX5_turnRows 36 = .ok (.isub, 1) := dk_100 (dk_at dksX5_turnRows_1 14 rfl rfl)
theorem dX5_turnRows_37 : decode cX5_turnRows 37 = .ok (.invokestatic 263, 3) := dk_184 1 7 (dk_at dksX5_turnRows_1 15 rfl rfl)
theorem dX5_turnRows_40 : decode cX5_turnRows 40 = .ok (.iadd, 1) := dk_96 (dk_at dksX5_turnRows_1 18 rfl rfl)
theorem dX5_turnRows_41 : decode cX5_turnRows 41 = .ok (.istore 5, 2) := dk_54 5 (dk_at dksX5_turnRows_1 19 rfl rfl)
theorem dX5_turnRows_43 : decode cX5_turnRows 43 = .ok (.iload_n 2, 1) := dk_28 (dk_at dksX5_turnRows_1 21 rfl rfl)
theorem dX5_turnRows_44 : decode cX5_turnRows 44 = .ok (.iconst 1, 1) := dk_4 (dk_at dksX5_turnRows_1 22 rfl rfl)
theorem dX5_turnRows_45 : decode cX5_turnRows 45 = .ok (.isub, 1) := dk_100 (dk_at dksX5_turnRows_1 23 rfl rfl)
theorem dX5_turnRows_46 : decode cX5_turnRows 46 = .ok (.sipush 1728, 3) := dk_17 6 192 (dk_at dksX5_turnRows_2 0 rfl rfl)
theorem dX5_turnRows_49 : decode cX5_turnRows 49 = .ok (.imul, 1) := dk_104 (dk_at dksX5_turnRows_2 3 rfl rfl)
theorem dX5_turnRows_50 : decode cX5_turnRows 50 = .ok (.iconst 3, 1) := dk_6 (dk_at dksX5_turnRows_2 4 rfl rfl)
theorem dX5_turnRows_51 : decode cX5_turnRows 51 = .ok (.iload 5, 2) := dk_21 5 (dk_at dksX5_turnRows_2 5 rfl rfl)
theorem dX5_turnRows_53 : decode cX5_turnRows 53 = .ok (.imul, 1) := dk_104 (dk_at dksX5_turnRows_2 7 rfl rfl)
theorem dX5_turnRows_54 : decode cX5_turnRows 54 = .ok (.iadd, 1) := dk_96 (dk_at dksX5_turnRows_2 8 rfl rfl)
theorem dX5_turnRows_55 : decode cX5_turnRows 55 = .ok (.istore 6, 2) := dk_54 6 (dk_at dksX5_turnRows_2 9 rfl rfl)
theorem dX5_turnRows_57 : decode cX5_turnRows 57 = .ok (.aload_n 0, 1) := dk_42 (dk_at dksX5_turnRows_2 11 rfl rfl)
theorem dX5_turnRows_58 : decode cX5_turnRows 58 = .ok (.getfield 47, 3) := dk_180 0 47 (dk_at dksX5_turnRows_2 12 rfl rfl)
theorem dX5_turnRows_61 : decode cX5_turnRows 61 = .ok (.iload_n 2, 1) := dk_28 (dk_at dksX5_turnRows_2 15 rfl rfl)
theorem dX5_turnRows_62 : decode cX5_turnRows 62 = .ok (.sipush 1728, 3) := dk_17 6 192 (dk_at dksX5_turnRows_2 16 rfl rfl)
theorem dX5_turnRows_65 : decode cX5_turnRows 65 = .ok (.imul, 1) := dk_104 (dk_at dksX5_turnRows_2 19 rfl rfl)
theorem dX5_turnRows_66 : decode cX5_turnRows 66 = .ok (.iconst 3, 1) := dk_6 (dk_at dksX5_turnRows_2 20 rfl rfl)
theorem dX5_turnRows_67 : decode cX5_turnRows 67 = .ok (.iload_n 3, 1) := dk_29 (dk_at dksX5_turnRows_2 21 rfl rfl)
theorem dX5_turnRows_68 : decode cX5_turnRows 68 = .ok (.imul, 1) := dk_104 (dk_at dksX5_turnRows_2 22 rfl rfl)
theorem dX5_turnRows_69 : decode cX5_turnRows 69 = .ok (.iadd, 1) := dk_96 (dk_at dksX5_turnRows_2 23 rfl rfl)
theorem dX5_turnRows_70 : decode cX5_turnRows 70 = .ok (.iconst 1, 1) := dk_4 (dk_at dksX5_turnRows_3 0 rfl rfl)
theorem dX5_turnRows_71 : decode cX5_turnRows 71 = .ok (.iadd, 1) := dk_96 (dk_at dksX5_turnRows_3 1 rfl rfl)
theorem dX5_turnRows_72 : decode cX5_turnRows 72 = .ok (.iload 4, 2) := dk_21 4 (dk_at dksX5_turnRows_3 2 rfl rfl)
theorem dX5_turnRows_74 : decode cX5_turnRows 74 = .ok (.iadd, 1) := dk_96 (dk_at dksX5_turnRows_3 4 rfl rfl)
theorem dX5_turnRows_75 : decode cX5_turnRows 75 = .ok (.aload_n 0, 1) := dk_42 (dk_at dksX5_turnRows_3 5 rfl rfl)
theorem dX5_turnRows_76 : decode cX5_turnRows 76 = .ok (.getfield 47, 3) := dk_180 0 47 (dk_at dksX5_turnRows_3 6 rfl rfl)
theorem dX5_turnRows_79 : decode cX5_turnRows 79 = .ok (.iload 6, 2) := dk_21 6 (dk_at dksX5_turnRows_3 9 rfl rfl)
theorem dX5_turnRows_81 : decode cX5_turnRows 81 = .ok (.iaload, 1) := dk_46 (dk_at dksX5_turnRows_3 11 rfl rfl)
theorem dX5_turnRows_82 : decode cX5_turnRows 82 = .ok (.aload_n 0, 1) := dk_42 (dk_at dksX5_turnRows_3 12 rfl rfl)
theorem dX5_turnRows_83 : decode cX5_turnRows 83 = .ok (.getfield 47, 3) := dk_180 0 47 (dk_at dksX5_turnRows_3 13 rfl rfl)
theorem dX5_turnRows_86 : decode cX5_turnRows 86 = .ok (.iload 6, 2) := dk_21 6 (dk_at dksX5_turnRows_3 16 rfl rfl)
theorem dX5_turnRows_88 : decode cX5_turnRows 88 = .ok (.iconst 1, 1) := dk_4 (dk_at dksX5_turnRows_3 18 rfl rfl)
theorem dX5_turnRows_89 : decode cX5_turnRows 89 = .ok (.iadd, 1) := dk_96 (dk_at dksX5_turnRows_3 19 rfl rfl)
theorem dX5_turnRows_90 : decode cX5_turnRows 90 = .ok (.iload 4, 2) := dk_21 4 (dk_at dksX5_turnRows_3 20 rfl rfl)
theorem dX5_turnRows_92 : decode cX5_turnRows 92 = .ok (.iadd, 1) := dk_96 (dk_at dksX5_turnRows_3 22 rfl rfl)
theorem dX5_turnRows_93 : decode cX5_turnRows 93 = .ok (.iaload, 1) := dk_46 (dk_at dksX5_turnRows_3 23 rfl rfl)
theorem dX5_turnRows_94 : decode cX5_turnRows 94 = .ok (.invokestatic 350, 3) := dk_184 1 94 (dk_at dksX5_turnRows_4 0 rfl rfl)
theorem dX5_turnRows_97 : decode cX5_turnRows 97 = .ok (.iastore, 1) := dk_79 (dk_at dksX5_turnRows_4 3 rfl rfl)
theorem dX5_turnRows_98 : decode cX5_turnRows 98 = .ok (.iinc 4 1, 3) := dk_132 4 1 (dk_at dksX5_turnRows_4 4 rfl rfl)
theorem dX5_turnRows_101 : decode cX5_turnRows 101 = .ok (.goto (-82), 3) := dk_167 255 174 (dk_at dksX5_turnRows_4 7 rfl rfl)
theorem dX5_turnRows_104 : decode cX5_turnRows 104 = .ok (.iinc 3 1, 3) := dk_132 3 1 (dk_at dksX5_turnRows_4 10 rfl rfl)
theorem dX5_turnRows_107 : decode cX5_turnRows 107 = .ok (.goto (-98), 3) := dk_167 255 158 (dk_at dksX5_turnRows_4 13 rfl rfl)
theorem dX5_turnRows_110 : decode cX5_turnRows 110 = .ok (.iinc 2 1, 3) := dk_132 2 1 (dk_at dksX5_turnRows_4 16 rfl rfl)
theorem dX5_turnRows_113 : decode cX5_turnRows 113 = .ok (.goto (-111), 3) := dk_167 255 145 (dk_at dksX5_turnRows_4 19 rfl rfl)
theorem dX5_turnRows_116 : decode cX5_turnRows 116 = .ok (.return_, 1) := dk_177 (dk_at dksX5_turnRows_4 22 rfl rfl)
abbrev cX5_plus : ByteArray := prog_17_method_93_code
def yX5_plus : MethodName := ⟨RX5, "plus", "(II)I"⟩
def dkwX5_plus_0 : List UInt8 := [26, 19, 1, 93, 27, 100, 161, 0, 13, 26, 19, 1, 93, 27, 100, 100, 167, 0, 6, 26, 27, 96, 172]
abbrev dktX5_plus_0 : List UInt8 := dkwX5_plus_0 ++ []
theorem dksX5_plus_0 : cX5_plus.data.toList.drop 0 = dktX5_plus_0 := by decide +kernel
theorem dX5_plus_0 : decode cX5_plus 0 = .ok (.iload_n 0, 1) := dk_26 (dk_at dksX5_plus_0 0 rfl rfl)
theorem dX5_plus_1 : decode cX5_plus 1 = .ok (.ldc_w 349, 3) := dk_19 1 93 (dk_at dksX5_plus_0 1 rfl rfl)
theorem dX5_plus_4 : decode cX5_plus 4 = .ok (.iload_n 1, 1) := dk_27 (dk_at dksX5_plus_0 4 rfl rfl)
theorem dX5_plus_5 : decode cX5_plus 5 = .ok (.isub, 1) := dk_100 (dk_at dksX5_plus_0 5 rfl rfl)
theorem dX5_plus_6 : decode cX5_plus 6 = .ok (.if_icmp .lt 13, 3) := dk_161 0 13 (dk_at dksX5_plus_0 6 rfl rfl)
theorem dX5_plus_9 : decode cX5_plus 9 = .ok (.iload_n 0, 1) := dk_26 (dk_at dksX5_plus_0 9 rfl rfl)
theorem dX5_plus_10 : decode cX5_plus 10 = .ok (.ldc_w 349, 3) := dk_19 1 93 (dk_at dksX5_plus_0 10 rfl rfl)
theorem dX5_plus_13 : decode cX5_plus 13 = .ok (.iload_n 1, 1) := dk_27 (dk_at dksX5_plus_0 13 rfl rfl)
theorem dX5_plus_14 : decode cX5_plus 14 = .ok (.isub, 1) := dk_100 (dk_at dksX5_plus_0 14 rfl rfl)
theorem dX5_plus_15 : decode cX5_plus 15 = .ok (.isub, 1) := dk_100 (dk_at dksX5_plus_0 15 rfl rfl)
theorem dX5_plus_16 : decode cX5_plus 16 = .ok (.goto 6, 3) := dk_167 0 6 (dk_at dksX5_plus_0 16 rfl rfl)
theorem dX5_plus_19 : decode cX5_plus 19 = .ok (.iload_n 0, 1) := dk_26 (dk_at dksX5_plus_0 19 rfl rfl)
theorem dX5_plus_20 : decode cX5_plus 20 = .ok (.iload_n 1, 1) := dk_27 (dk_at dksX5_plus_0 20 rfl rfl)
theorem dX5_plus_21 : decode cX5_plus 21 = .ok (.iadd, 1) := dk_96 (dk_at dksX5_plus_0 21 rfl rfl)
theorem dX5_plus_22 : decode cX5_plus 22 = .ok (.ireturn, 1) := dk_172 (dk_at dksX5_plus_0 22 rfl rfl)
abbrev cX5_stepRows : ByteArray := prog_17_method_95_code
def yX5_stepRows : MethodName := ⟨RX5, "stepRows", "(I)V"⟩
def dkwX5_stepRows_8 : List UInt8 := [177]
abbrev dktX5_stepRows_8 : List UInt8 := dkwX5_stepRows_8 ++ []
def dkwX5_stepRows_7 : List UInt8 := [132, 2, 1, 167, 255, 93, 42, 180, 0, 50, 42, 180, 0, 47, 27, 4, 96, 17, 6, 192, 104, 184, 0, 86]
abbrev dktX5_stepRows_7 : List UInt8 := dkwX5_stepRows_7 ++ dktX5_stepRows_8
def dkwX5_stepRows_6 : List UInt8 := [180, 0, 50, 28, 17, 6, 192, 104, 6, 29, 104, 96, 5, 96, 3, 79, 132, 3, 1, 167, 255, 106]
abbrev dktX5_stepRows_6 : List UInt8 := dkwX5_stepRows_6 ++ dktX5_stepRows_7
def dkwX5_stepRows_5 : List UInt8 := [104, 96, 21, 6, 79, 42, 180, 0, 50, 28, 17, 6, 192, 104, 6, 29, 104, 96, 4, 96, 3, 79, 42]
abbrev dktX5_stepRows_5 : List UInt8 := dkwX5_stepRows_5 ++ dktX5_stepRows_6
def dkwX5_stepRows_4 : List UInt8 := [180, 0, 47, 21, 5, 5, 96, 46, 184, 1, 94, 54, 6, 42, 180, 0, 50, 28, 17, 6, 192, 104, 6, 29]
abbrev dktX5_stepRows_4 : List UInt8 := dkwX5_stepRows_4 ++ dktX5_stepRows_5
def dkwX5_stepRows_3 : List UInt8 := [167, 0, 34, 42, 180, 0, 47, 21, 5, 46, 42, 180, 0, 47, 21, 5, 4, 96, 46, 184, 1, 94, 42]
abbrev dktX5_stepRows_3 : List UInt8 := dkwX5_stepRows_3 ++ dktX5_stepRows_4
def dkwX5_stepRows_2 : List UInt8 := [17, 6, 192, 104, 6, 7, 21, 4, 104, 29, 7, 112, 96, 104, 96, 54, 5, 21, 4, 2, 160, 0, 7, 3]
abbrev dktX5_stepRows_2 : List UInt8 := dkwX5_stepRows_2 ++ dktX5_stepRows_3
def dkwX5_stepRows_1 : List UInt8 := [4, 160, 0, 7, 2, 167, 0, 14, 42, 29, 7, 108, 29, 7, 112, 2, 182, 1, 78, 54, 4, 28]
abbrev dktX5_stepRows_1 : List UInt8 := dkwX5_stepRows_1 ++ dktX5_stepRows_2
def dkwX5_stepRows_0 : List UInt8 := [3, 61, 28, 27, 163, 0, 164, 3, 62, 29, 17, 2, 64, 162, 0, 149, 42, 180, 0, 9, 29, 7, 108, 46]
abbrev dktX5_stepRows_0 : List UInt8 := dkwX5_stepRows_0 ++ dktX5_stepRows_1
theorem dksX5_stepRows_0 : cX5_stepRows.data.toList.drop 0 = dktX5_stepRows_0 := by decide +kernel
theorem dksX5_stepRows_1 : cX5_stepRows.data.toList.drop 24 = dktX5_stepRows_1 := dk_seg dksX5_stepRows_0 24 rfl rfl
theorem dksX5_stepRows_2 : cX5_stepRows.data.toList.drop 46 = dktX5_stepRows_2 := dk_seg dksX5_stepRows_1 22 rfl rfl
theorem dksX5_stepRows_3 : cX5_stepRows.data.toList.drop 70 = dktX5_stepRows_3 := dk_seg dksX5_stepRows_2 24 rfl rfl
theorem dksX5_stepRows_4 : cX5_stepRows.data.toList.drop 93 = dktX5_stepRows_4 := dk_seg dksX5_stepRows_3 23 rfl rfl
theorem dksX5_stepRows_5 : cX5_stepRows.data.toList.drop 117 = dktX5_stepRows_5 := dk_seg dksX5_stepRows_4 24 rfl rfl
theorem dksX5_stepRows_6 : cX5_stepRows.data.toList.drop 140 = dktX5_stepRows_6 := dk_seg dksX5_stepRows_5 23 rfl rfl
theorem dksX5_stepRows_7 : cX5_stepRows.data.toList.drop 162 = dktX5_stepRows_7 := dk_seg dksX5_stepRows_6 22 rfl rfl
theorem dksX5_stepRows_8 : cX5_stepRows.data.toList.drop 186 = dktX5_stepRows_8 := dk_seg dksX5_stepRows_7 24 rfl rfl
theorem dX5_stepRows_0 : decode cX5_stepRows 0 = .ok (.iconst 0, 1) := dk_3 (dk_at dksX5_stepRows_0 0 rfl rfl)
theorem dX5_stepRows_1 : decode cX5_stepRows 1 = .ok (.istore_n 2, 1) := dk_61 (dk_at dksX5_stepRows_0 1 rfl rfl)
theorem dX5_stepRows_2 : decode cX5_stepRows 2 = .ok (.iload_n 2, 1) := dk_28 (dk_at dksX5_stepRows_0 2 rfl rfl)
theorem dX5_stepRows_3 : decode cX5_stepRows 3 = .ok (.iload_n 1, 1) := dk_27 (dk_at dksX5_stepRows_0 3 rfl rfl)
theorem dX5_stepRows_4 : decode cX5_stepRows 4 = .ok (.if_icmp .gt 164, 3) := dk_163 0 164 (dk_at dksX5_stepRows_0 4 rfl rfl)
theorem dX5_stepRows_7 : decode cX5_stepRows 7 = .ok (.iconst 0, 1) := dk_3 (dk_at dksX5_stepRows_0 7 rfl rfl)
theorem dX5_stepRows_8 : decode cX5_stepRows 8 = .ok (.istore_n 3, 1) := dk_62 (dk_at dksX5_stepRows_0 8 rfl rfl)
theorem dX5_stepRows_9 : decode cX5_stepRows 9 = .ok (.iload_n 3, 1) := dk_29 (dk_at dksX5_stepRows_0 9 rfl rfl)
theorem dX5_stepRows_10 : decode cX5_stepRows 10 = .ok (.sipush 576, 3) := dk_17 2 64 (dk_at dksX5_stepRows_0 10 rfl rfl)
theorem dX5_stepRows_13 : decode cX5_stepRows 13 = .ok (.if_icmp .ge 149, 3) := dk_162 0 149 (dk_at dksX5_stepRows_0 13 rfl rfl)
theorem dX5_stepRows_16 : decode cX5_stepRows 16 = .ok (.aload_n 0, 1) := dk_42 (dk_at dksX5_stepRows_0 16 rfl rfl)
theorem dX5_stepRows_17 : decode cX5_stepRows 17 = .ok (.getfield 9, 3) := dk_180 0 9 (dk_at dksX5_stepRows_0 17 rfl rfl)
theorem dX5_stepRows_20 : decode cX5_stepRows 20 = .ok (.iload_n 3, 1) := dk_29 (dk_at dksX5_stepRows_0 20 rfl rfl)
theorem dX5_stepRows_21 : decode cX5_stepRows 21 = .ok (.iconst 4, 1) := dk_7 (dk_at dksX5_stepRows_0 21 rfl rfl)
theorem dX5_stepRows_22 : decode cX5_stepRows 22 = .ok (.idiv, 1) := dk_108 (dk_at dksX5_stepRows_0 22 rfl rfl)
theorem dX5_stepRows_23 : decode cX5_stepRows 23 = .ok (.iaload, 1) := dk_46 (dk_at dksX5_stepRows_0 23 rfl rfl)
theorem dX5_stepRows_24 : decode cX5_stepRows 24 = .ok (.iconst 1, 1) := dk_4 (dk_at dksX5_stepRows_1 0 rfl rfl)
theorem dX5_stepRows_25 : decode cX5_stepRows 25 = .ok (.if_icmp .ne 7, 3) := dk_160 0 7 (dk_at dksX5_stepRows_1 1 rfl rfl)
theorem dX5_stepRows_28 : decode cX5_stepRows 28 = .ok (.iconst (-1), 1) := dk_2 (dk_at dksX5_stepRows_1 4 rfl rfl)
theorem dX5_stepRows_29 : decode cX5_stepRows 29 = .ok (.goto 14, 3) := dk_167 0 14 (dk_at dksX5_stepRows_1 5 rfl rfl)
theorem dX5_stepRows_32 : decode cX5_stepRows 32 = .ok (.aload_n 0, 1) := dk_42 (dk_at dksX5_stepRows_1 8 rfl rfl)
theorem dX5_stepRows_33 : decode cX5_stepRows 33 = .ok (.iload_n 3, 1) := dk_29 (dk_at dksX5_stepRows_1 9 rfl rfl)
theorem dX5_stepRows_34 : decode cX5_stepRows 34 = .ok (.iconst 4, 1) := dk_7 (dk_at dksX5_stepRows_1 10 rfl rfl)
theorem dX5_stepRows_35 : decode cX5_stepRows 35 = .ok (.idiv, 1) := dk_108 (dk_at dksX5_stepRows_1 11 rfl rfl)
theorem dX5_stepRows_36 : decode cX5_stepRows 36 = .ok (.iload_n 3, 1) := dk_29 (dk_at dksX5_stepRows_1 12 rfl rfl)
theorem dX5_stepRows_37 : decode cX5_stepRows 37 = .ok (.iconst 4, 1) := dk_7 (dk_at dksX5_stepRows_1 13 rfl rfl)
theorem dX5_stepRows_38 : decode cX5_stepRows 38 = .ok (.irem, 1) := dk_112 (dk_at dksX5_stepRows_1 14 rfl rfl)
theorem dX5_stepRows_39 : decode cX5_stepRows 39 = .ok (.iconst (-1), 1) := dk_2 (dk_at dksX5_stepRows_1 15 rfl rfl)
theorem dX5_stepRows_40 : decode cX5_stepRows 40 = .ok (.invokevirtual 334, 3) := dk_182 1 78 (dk_at dksX5_stepRows_1 16 rfl rfl)
theorem dX5_stepRows_43 : decode cX5_stepRows 43 = .ok (.istore 4, 2) := dk_54 4 (dk_at dksX5_stepRows_1 19 rfl rfl)
theorem dX5_stepRows_45 : decode cX5_stepRows 45 = .ok (.iload_n 2, 1) := dk_28 (dk_at dksX5_stepRows_1 21 rfl rfl)
theorem dX5_stepRows_46 : decode cX5_stepRows 46 = .ok (.sipush 1728, 3) := dk_17 6 192 (dk_at dksX5_stepRows_2 0 rfl rfl)
theorem dX5_stepRows_49 : decode cX5_stepRows 49 = .ok (.imul, 1) := dk_104 (dk_at dksX5_stepRows_2 3 rfl rfl)
theorem dX5_stepRows_50 : decode cX5_stepRows 50 = .ok (.iconst 3, 1) := dk_6 (dk_at dksX5_stepRows_2 4 rfl rfl)
theorem dX5_stepRows_51 : decode cX5_stepRows 51 = .ok (.iconst 4, 1) := dk_7 (dk_at dksX5_stepRows_2 5 rfl rfl)
theorem dX5_stepRows_52 : decode cX5_stepRows 52 = .ok (.iload 4, 2) := dk_21 4 (dk_at dksX5_stepRows_2 6 rfl rfl)
theorem dX5_stepRows_54 : decode cX5_stepRows 54 = .ok (.imul, 1) := dk_104 (dk_at dksX5_stepRows_2 8 rfl rfl)
theorem dX5_stepRows_55 : decode cX5_stepRows 55 = .ok (.iload_n 3, 1) := dk_29 (dk_at dksX5_stepRows_2 9 rfl rfl)
theorem dX5_stepRows_56 : decode cX5_stepRows 56 = .ok (.iconst 4, 1) := dk_7 (dk_at dksX5_stepRows_2 10 rfl rfl)
theorem dX5_stepRows_57 : decode cX5_stepRows 57 = .ok (.irem, 1) := dk_112 (dk_at dksX5_stepRows_2 11 rfl rfl)
theorem dX5_stepRows_58 : decode cX5_stepRows 58 = .ok (.iadd, 1) := dk_96 (dk_at dksX5_stepRows_2 12 rfl rfl)
theorem dX5_stepRows_59 : decode cX5_stepRows 59 = .ok (.imul, 1) := dk_104 (dk_at dksX5_stepRows_2 13 rfl rfl)
theorem dX5_stepRows_60 : decode cX5_stepRows 60 = .ok (.iadd, 1) := dk_96 (dk_at dksX5_stepRows_2 14 rfl rfl)
theorem dX5_stepRows_61 : decode cX5_stepRows 61 = .ok (.istore 5, 2) := dk_54 5 (dk_at dksX5_stepRows_2 15 rfl rfl)
theorem dX5_stepRows_63 : decode cX5_stepRows 63 = .ok (.iload 4, 2) := dk_21 4 (dk_at dksX5_stepRows_2 17 rfl rfl)
theorem dX5_stepRows_65 : decode cX5_stepRows 65 = .ok (.iconst (-1), 1) := dk_2 (dk_at dksX5_stepRows_2 19 rfl rfl)
theorem dX5_stepRows_66 : decode cX5_stepRows 66 = .ok (.if_icmp .ne 7, 3) := dk_160 0 7 (dk_at dksX5_stepRows_2 20 rfl rfl)
theorem dX5_stepRows_69 : decode cX5_stepRows 69 = .ok (.iconst 0, 1) := dk_3 (dk_at dksX5_stepRows_2 23 rfl rfl)
theorem dX5_stepRows_70 : decode cX5_stepRows 70 = .ok (.goto 34, 3) := dk_167 0 34 (dk_at dksX5_stepRows_3 0 rfl rfl)
theorem dX5_stepRows_73 : decode cX5_stepRows 73 = .ok (.aload_n 0, 1) := dk_42 (dk_at dksX5_stepRows_3 3 rfl rfl)
theorem dX5_stepRows_74 : decode cX5_stepRows 74 = .ok (.getfield 47, 3) := dk_180 0 47 (dk_at dksX5_stepRows_3 4 rfl rfl)
theorem dX5_stepRows_77 : decode cX5_stepRows 77 = .ok (.iload 5, 2) := dk_21 5 (dk_at dksX5_stepRows_3 7 rfl rfl)
theorem dX5_stepRows_79 : decode cX5_stepRows 79 = .ok (.iaload, 1) := dk_46 (dk_at dksX5_stepRows_3 9 rfl rfl)
theorem dX5_stepRows_80 : decode cX5_stepRows 80 = .ok (.aload_n 0, 1) := dk_42 (dk_at dksX5_stepRows_3 10 rfl rfl)
theorem dX5_stepRows_81 : decode cX5_stepRows 81 = .ok (.getfield 47, 3) := dk_180 0 47 (dk_at dksX5_stepRows_3 11 rfl rfl)
theorem dX5_stepRows_84 : decode cX5_stepRows 84 = .ok (.iload 5, 2) := dk_21 5 (dk_at dksX5_stepRows_3 14 rfl rfl)
theorem dX5_stepRows_86 : decode cX5_stepRows 86 = .ok (.iconst 1, 1) := dk_4 (dk_at dksX5_stepRows_3 16 rfl rfl)
theorem dX5_stepRows_87 : decode cX5_stepRows 87 = .ok (.iadd, 1) := dk_96 (dk_at dksX5_stepRows_3 17 rfl rfl)
theorem dX5_stepRows_88 : decode cX5_stepRows 88 = .ok (.iaload, 1) := dk_46 (dk_at dksX5_stepRows_3 18 rfl rfl)
theorem dX5_stepRows_89 : decode cX5_stepRows 89 = .ok (.invokestatic 350, 3) := dk_184 1 94 (dk_at dksX5_stepRows_3 19 rfl rfl)
theorem dX5_stepRows_92 : decode cX5_stepRows 92 = .ok (.aload_n 0, 1) := dk_42 (dk_at dksX5_stepRows_3 22 rfl rfl)
theorem dX5_stepRows_93 : decode cX5_stepRows 93 = .ok (.getfield 47, 3) := dk_180 0 47 (dk_at dksX5_stepRows_4 0 rfl rfl)
theorem dX5_stepRows_96 : decode cX5_stepRows 96 = .ok (.iload 5, 2) := dk_21 5 (dk_at dksX5_stepRows_4 3 rfl rfl)
theorem dX5_stepRows_98 : decode cX5_stepRows 98 = .ok (.iconst 2, 1) := dk_5 (dk_at dksX5_stepRows_4 5 rfl rfl)
theorem dX5_stepRows_99 : decode cX5_stepRows 99 = .ok (.iadd, 1) := dk_96 (dk_at dksX5_stepRows_4 6 rfl rfl)
theorem dX5_stepRows_100 : decode cX5_stepRows 100 = .ok (.iaload, 1) := dk_46 (dk_at dksX5_stepRows_4 7 rfl rfl)
theorem dX5_stepRows_101 : decode cX5_stepRows 101 = .ok (.invokestatic 350, 3) := dk_184 1 94 (dk_at dksX5_stepRows_4 8 rfl rfl)
theorem dX5_stepRows_104 : decode cX5_stepRows 104 = .ok (.istore 6, 2) := dk_54 6 (dk_at dksX5_stepRows_4 11 rfl rfl)
theorem dX5_stepRows_106 : decode cX5_stepRows 106 = .ok (.aload_n 0, 1) := dk_42 (dk_at dksX5_stepRows_4 13 rfl rfl)
theorem dX5_stepRows_107 : decode cX5_stepRows 107 = .ok (.getfield 50, 3) := dk_180 0 50 (dk_at dksX5_stepRows_4 14 rfl rfl)
theorem dX5_stepRows_110 : decode cX5_stepRows 110 = .ok (.iload_n 2, 1) := dk_28 (dk_at dksX5_stepRows_4 17 rfl rfl)
theorem dX5_stepRows_111 : decode cX5_stepRows 111 = .ok (.sipush 1728, 3) := dk_17 6 192 (dk_at dksX5_stepRows_4 18 rfl rfl)
theorem dX5_stepRows_114 : decode cX5_stepRows 114 = .ok (.imul, 1) := dk_104 (dk_at dksX5_stepRows_4 21 rfl rfl)
theorem dX5_stepRows_115 : decode cX5_stepRows 115 = .ok (.iconst 3, 1) := dk_6 (dk_at dksX5_stepRows_4 22 rfl rfl)
theorem dX5_stepRows_116 : decode cX5_stepRows 116 = .ok (.iload_n 3, 1) := dk_29 (dk_at dksX5_stepRows_4 23 rfl rfl)
theorem dX5_stepRows_117 : decode cX5_stepRows 117 = .ok (.imul, 1) := dk_104 (dk_at dksX5_stepRows_5 0 rfl rfl)
theorem dX5_stepRows_118 : decode cX5_stepRows 118 = .ok (.iadd, 1) := dk_96 (dk_at dksX5_stepRows_5 1 rfl rfl)
theorem dX5_stepRows_119 : decode cX5_stepRows 119 = .ok (.iload 6, 2) := dk_21 6 (dk_at dksX5_stepRows_5 2 rfl rfl)
theorem dX5_stepRows_121 : decode cX5_stepRows 121 = .ok (.iastore, 1) := dk_79 (dk_at dksX5_stepRows_5 4 rfl rfl)
theorem dX5_stepRows_122 : decode cX5_stepRows 122 = .ok (.aload_n 0, 1) := dk_42 (dk_at dksX5_stepRows_5 5 rfl rfl)
theorem dX5_stepRows_123 : decode cX5_stepRows 123 = .ok (.getfield 50, 3) := dk_180 0 50 (dk_at dksX5_stepRows_5 6 rfl rfl)
theorem dX5_stepRows_126 : decode cX5_stepRows 126 = .ok (.iload_n 2, 1) := dk_28 (dk_at dksX5_stepRows_5 9 rfl rfl)
theorem dX5_stepRows_127 : decode cX5_stepRows 127 = .ok (.sipush 1728, 3) := dk_17 6 192 (dk_at dksX5_stepRows_5 10 rfl rfl)
theorem dX5_stepRows_130 : decode cX5_stepRows 130 = .ok (.imul, 1) := dk_104 (dk_at dksX5_stepRows_5 13 rfl rfl)
theorem dX5_stepRows_131 : decode cX5_stepRows 131 = .ok (.iconst 3, 1) := dk_6 (dk_at dksX5_stepRows_5 14 rfl rfl)
theorem dX5_stepRows_132 : decode cX5_stepRows 132 = .ok (.iload_n 3, 1) := dk_29 (dk_at dksX5_stepRows_5 15 rfl rfl)
theorem dX5_stepRows_133 : decode cX5_stepRows 133 = .ok (.imul, 1) := dk_104 (dk_at dksX5_stepRows_5 16 rfl rfl)
theorem dX5_stepRows_134 : decode cX5_stepRows 134 = .ok (.iadd, 1) := dk_96 (dk_at dksX5_stepRows_5 17 rfl rfl)
theorem dX5_stepRows_135 : decode cX5_stepRows 135 = .ok (.iconst 1, 1) := dk_4 (dk_at dksX5_stepRows_5 18 rfl rfl)
theorem dX5_stepRows_136 : decode cX5_stepRows 136 = .ok (.iadd, 1) := dk_96 (dk_at dksX5_stepRows_5 19 rfl rfl)
theorem dX5_stepRows_137 : decode cX5_stepRows 137 = .ok (.iconst 0, 1) := dk_3 (dk_at dksX5_stepRows_5 20 rfl rfl)
theorem dX5_stepRows_138 : decode cX5_stepRows 138 = .ok (.iastore, 1) := dk_79 (dk_at dksX5_stepRows_5 21 rfl rfl)
theorem dX5_stepRows_139 : decode cX5_stepRows 139 = .ok (.aload_n 0, 1) := dk_42 (dk_at dksX5_stepRows_5 22 rfl rfl)
theorem dX5_stepRows_140 : decode cX5_stepRows 140 = .ok (.getfield 50, 3) := dk_180 0 50 (dk_at dksX5_stepRows_6 0 rfl rfl)
theorem dX5_stepRows_143 : decode cX5_stepRows 143 = .ok (.iload_n 2, 1) := dk_28 (dk_at dksX5_stepRows_6 3 rfl rfl)
theorem dX5_stepRows_144 : decode cX5_stepRows 144 = .ok (.sipush 1728, 3) := dk_17 6 192 (dk_at dksX5_stepRows_6 4 rfl rfl)
theorem dX5_stepRows_147 : decode cX5_stepRows 147 = .ok (.imul, 1) := dk_104 (dk_at dksX5_stepRows_6 7 rfl rfl)
theorem dX5_stepRows_148 : decode cX5_stepRows 148 = .ok (.iconst 3, 1) := dk_6 (dk_at dksX5_stepRows_6 8 rfl rfl)
theorem dX5_stepRows_149 : decode cX5_stepRows 149 = .ok (.iload_n 3, 1) := dk_29 (dk_at dksX5_stepRows_6 9 rfl rfl)
theorem dX5_stepRows_150 : decode cX5_stepRows 150 = .ok (.imul, 1) := dk_104 (dk_at dksX5_stepRows_6 10 rfl rfl)
theorem dX5_stepRows_151 : decode cX5_stepRows 151 = .ok (.iadd, 1) := dk_96 (dk_at dksX5_stepRows_6 11 rfl rfl)
theorem dX5_stepRows_152 : decode cX5_stepRows 152 = .ok (.iconst 2, 1) := dk_5 (dk_at dksX5_stepRows_6 12 rfl rfl)
theorem dX5_stepRows_153 : decode cX5_stepRows 153 = .ok (.iadd, 1) := dk_96 (dk_at dksX5_stepRows_6 13 rfl rfl)
theorem dX5_stepRows_154 : decode cX5_stepRows 154 = .ok (.iconst 0, 1) := dk_3 (dk_at dksX5_stepRows_6 14 rfl rfl)
theorem dX5_stepRows_155 : decode cX5_stepRows 155 = .ok (.iastore, 1) := dk_79 (dk_at dksX5_stepRows_6 15 rfl rfl)
theorem dX5_stepRows_156 : decode cX5_stepRows 156 = .ok (.iinc 3 1, 3) := dk_132 3 1 (dk_at dksX5_stepRows_6 16 rfl rfl)
theorem dX5_stepRows_159 : decode cX5_stepRows 159 = .ok (.goto (-150), 3) := dk_167 255 106 (dk_at dksX5_stepRows_6 19 rfl rfl)
theorem dX5_stepRows_162 : decode cX5_stepRows 162 = .ok (.iinc 2 1, 3) := dk_132 2 1 (dk_at dksX5_stepRows_7 0 rfl rfl)
theorem dX5_stepRows_165 : decode cX5_stepRows 165 = .ok (.goto (-163), 3) := dk_167 255 93 (dk_at dksX5_stepRows_7 3 rfl rfl)
theorem dX5_stepRows_168 : decode cX5_stepRows 168 = .ok (.aload_n 0, 1) := dk_42 (dk_at dksX5_stepRows_7 6 rfl rfl)
theorem dX5_stepRows_169 : decode cX5_stepRows 169 = .ok (.getfield 50, 3) := dk_180 0 50 (dk_at dksX5_stepRows_7 7 rfl rfl)
theorem dX5_stepRows_172 : decode cX5_stepRows 172 = .ok (.aload_n 0, 1) := dk_42 (dk_at dksX5_stepRows_7 10 rfl rfl)
theorem dX5_stepRows_173 : decode cX5_stepRows 173 = .ok (.getfield 47, 3) := dk_180 0 47 (dk_at dksX5_stepRows_7 11 rfl rfl)
theorem dX5_stepRows_176 : decode cX5_stepRows 176 = .ok (.iload_n 1, 1) := dk_27 (dk_at dksX5_stepRows_7 14 rfl rfl)
theorem dX5_stepRows_177 : decode cX5_stepRows 177 = .ok (.iconst 1, 1) := dk_4 (dk_at dksX5_stepRows_7 15 rfl rfl)
theorem dX5_stepRows_178 : decode cX5_stepRows 178 = .ok (.iadd, 1) := dk_96 (dk_at dksX5_stepRows_7 16 rfl rfl)
theorem dX5_stepRows_179 : decode cX5_stepRows 179 = .ok (.sipush 1728, 3) := dk_17 6 192 (dk_at dksX5_stepRows_7 17 rfl rfl)
theorem dX5_stepRows_182 : decode cX5_stepRows 182 = .ok (.imul, 1) := dk_104 (dk_at dksX5_stepRows_7 20 rfl rfl)
theorem dX5_stepRows_183 : decode cX5_stepRows 183 = .ok (.invokestatic 86, 3) := dk_184 0 86 (dk_at dksX5_stepRows_7 21 rfl rfl)
theorem dX5_stepRows_186 : decode cX5_stepRows 186 = .ok (.return_, 1) := dk_177 (dk_at dksX5_stepRows_8 0 rfl rfl)
abbrev cX5_seen : ByteArray := prog_17_method_100_code
def yX5_seen : MethodName := ⟨RX5, "seen", "(II)I"⟩
def dkwX5_seen_3 : List UInt8 := [167, 255, 232, 29, 172]
abbrev dktX5_seen_3 : List UInt8 := dkwX5_seen_3 ++ []
def dkwX5_seen_2 : List UInt8 := [17, 0, 144, 162, 0, 22, 29, 42, 27, 21, 4, 182, 1, 109, 184, 0, 249, 96, 62, 132, 4, 1]
abbrev dktX5_seen_2 : List UInt8 := dkwX5_seen_2 ++ dktX5_seen_3
def dkwX5_seen_1 : List UInt8 := [28, 2, 159, 0, 13, 42, 27, 28, 182, 1, 109, 184, 0, 249, 172, 3, 62, 3, 54, 4, 21, 4]
abbrev dktX5_seen_1 : List UInt8 := dkwX5_seen_1 ++ dktX5_seen_2
def dkwX5_seen_0 : List UInt8 := [27, 3, 17, 0, 143, 184, 0, 100, 153, 0, 14, 28, 2, 17, 0, 143, 184, 0, 100, 154, 0, 5, 2, 172]
abbrev dktX5_seen_0 : List UInt8 := dkwX5_seen_0 ++ dktX5_seen_1
theorem dksX5_seen_0 : cX5_seen.data.toList.drop 0 = dktX5_seen_0 := by decide +kernel
theorem dksX5_seen_1 : cX5_seen.data.toList.drop 24 = dktX5_seen_1 := dk_seg dksX5_seen_0 24 rfl rfl
theorem dksX5_seen_2 : cX5_seen.data.toList.drop 46 = dktX5_seen_2 := dk_seg dksX5_seen_1 22 rfl rfl
theorem dksX5_seen_3 : cX5_seen.data.toList.drop 68 = dktX5_seen_3 := dk_seg dksX5_seen_2 22 rfl rfl
theorem dX5_seen_0 : decode cX5_seen 0 = .ok (.iload_n 1, 1) := dk_27 (dk_at dksX5_seen_0 0 rfl rfl)
theorem dX5_seen_1 : decode cX5_seen 1 = .ok (.iconst 0, 1) := dk_3 (dk_at dksX5_seen_0 1 rfl rfl)
theorem dX5_seen_2 : decode cX5_seen 2 = .ok (.sipush 143, 3) := dk_17 0 143 (dk_at dksX5_seen_0 2 rfl rfl)
theorem dX5_seen_5 : decode cX5_seen 5 = .ok (.invokestatic 100, 3) := dk_184 0 100 (dk_at dksX5_seen_0 5 rfl rfl)
theorem dX5_seen_8 : decode cX5_seen 8 = .ok (.ifCond .eq 14, 3) := dk_153 0 14 (dk_at dksX5_seen_0 8 rfl rfl)
theorem dX5_seen_11 : decode cX5_seen 11 = .ok (.iload_n 2, 1) := dk_28 (dk_at dksX5_seen_0 11 rfl rfl)
theorem dX5_seen_12 : decode cX5_seen 12 = .ok (.iconst (-1), 1) := dk_2 (dk_at dksX5_seen_0 12 rfl rfl)
theorem dX5_seen_13 : decode cX5_seen 13 = .ok (.sipush 143, 3) := dk_17 0 143 (dk_at dksX5_seen_0 13 rfl rfl)
theorem dX5_seen_16 : decode cX5_seen 16 = .ok (.invokestatic 100, 3) := dk_184 0 100 (dk_at dksX5_seen_0 16 rfl rfl)
theorem dX5_seen_19 : decode cX5_seen 19 = .ok (.ifCond .ne 5, 3) := dk_154 0 5 (dk_at dksX5_seen_0 19 rfl rfl)
theorem dX5_seen_22 : decode cX5_seen 22 = .ok (.iconst (-1), 1) := dk_2 (dk_at dksX5_seen_0 22 rfl rfl)
theorem dX5_seen_23 : decode cX5_seen 23 = .ok (.ireturn, 1) := dk_172 (dk_at dksX5_seen_0 23 rfl rfl)
theorem dX5_seen_24 : decode cX5_seen 24 = .ok (.iload_n 2, 1) := dk_28 (dk_at dksX5_seen_1 0 rfl rfl)
theorem dX5_seen_25 : decode cX5_seen 25 = .ok (.iconst (-1), 1) := dk_2 (dk_at dksX5_seen_1 1 rfl rfl)
theorem dX5_seen_26 : decode cX5_seen 26 = .ok (.if_icmp .eq 13, 3) := dk_159 0 13 (dk_at dksX5_seen_1 2 rfl rfl)
theorem dX5_seen_29 : decode cX5_seen 29 = .ok (.aload_n 0, 1) := dk_42 (dk_at dksX5_seen_1 5 rfl rfl)
theorem dX5_seen_30 : decode cX5_seen 30 = .ok (.iload_n 1, 1) := dk_27 (dk_at dksX5_seen_1 6 rfl rfl)
theorem dX5_seen_31 : decode cX5_seen 31 = .ok (.iload_n 2, 1) := dk_28 (dk_at dksX5_seen_1 7 rfl rfl)
theorem dX5_seen_32 : decode cX5_seen 32 = .ok (.invokevirtual 365, 3) := dk_182 1 109 (dk_at dksX5_seen_1 8 rfl rfl)
theorem dX5_seen_35 : decode cX5_seen 35 = .ok (.invokestatic 249, 3) := dk_184 0 249 (dk_at dksX5_seen_1 11 rfl rfl)
theorem dX5_seen_38 : decode cX5_seen 38 = .ok (.ireturn, 1) := dk_172 (dk_at dksX5_seen_1 14 rfl rfl)
theorem dX5_seen_39 : decode cX5_seen 39 = .ok (.iconst 0, 1) := dk_3 (dk_at dksX5_seen_1 15 rfl rfl)
theorem dX5_seen_40 : decode cX5_seen 40 = .ok (.istore_n 3, 1) := dk_62 (dk_at dksX5_seen_1 16 rfl rfl)
theorem dX5_seen_41 : decode cX5_seen 41 = .ok (.iconst 0, 1) := dk_3 (dk_at dksX5_seen_1 17 rfl rfl)
theorem dX5_seen_42 : decode cX5_seen 42 = .ok (.istore 4, 2) := dk_54 4 (dk_at dksX5_seen_1 18 rfl rfl)
theorem dX5_seen_44 : decode cX5_seen 44 = .ok (.iload 4, 2) := dk_21 4 (dk_at dksX5_seen_1 20 rfl rfl)
theorem dX5_seen_46 : decode cX5_seen 46 = .ok (.sipush 144, 3) := dk_17 0 144 (dk_at dksX5_seen_2 0 rfl rfl)
theorem dX5_seen_49 : decode cX5_seen 49 = .ok (.if_icmp .ge 22, 3) := dk_162 0 22 (dk_at dksX5_seen_2 3 rfl rfl)
theorem dX5_seen_52 : decode cX5_seen 52 = .ok (.iload_n 3, 1) := dk_29 (dk_at dksX5_seen_2 6 rfl rfl)
theorem dX5_seen_53 : decode cX5_seen 53 = .ok (.aload_n 0, 1) := dk_42 (dk_at dksX5_seen_2 7 rfl rfl)
theorem dX5_seen_54 : decode cX5_seen 54 = .ok (.iload_n 1, 1) := dk_27 (dk_at dksX5_seen_2 8 rfl rfl)
theorem dX5_seen_55 : decode cX5_seen 55 = .ok (.iload 4, 2) := dk_21 4 (dk_at dksX5_seen_2 9 rfl rfl)
theorem dX5_seen_57 : decode cX5_seen 57 = .ok (.invokevirtual 365, 3) := dk_182 1 109 (dk_at dksX5_seen_2 11 rfl rfl)
theorem dX5_seen_60 : decode cX5_seen 60 = .ok (.invokestatic 249, 3) := dk_184 0 249 (dk_at dksX5_seen_2 14 rfl rfl)
theorem dX5_seen_63 : decode cX5_seen 63 = .ok (.iadd, 1) := dk_96 (dk_at dksX5_seen_2 17 rfl rfl)
theorem dX5_seen_64 : decode cX5_seen 64 = .ok (.istore_n 3, 1) := dk_62 (dk_at dksX5_seen_2 18 rfl rfl)
theorem dX5_seen_65 : decode cX5_seen 65 = .ok (.iinc 4 1, 3) := dk_132 4 1 (dk_at dksX5_seen_2 19 rfl rfl)
theorem dX5_seen_68 : decode cX5_seen 68 = .ok (.goto (-24), 3) := dk_167 255 232 (dk_at dksX5_seen_3 0 rfl rfl)
theorem dX5_seen_71 : decode cX5_seen 71 = .ok (.iload_n 3, 1) := dk_29 (dk_at dksX5_seen_3 3 rfl rfl)
theorem dX5_seen_72 : decode cX5_seen 72 = .ok (.ireturn, 1) := dk_172 (dk_at dksX5_seen_3 4 rfl rfl)
abbrev cX5_sees : ByteArray := prog_17_method_99_code
def yX5_sees : MethodName := ⟨RX5, "sees", "(II)Z"⟩
def dkwX5_sees_8 : List UInt8 := [167, 255, 128, 4, 172]
abbrev dktX5_sees_8 : List UInt8 := dkwX5_sees_8 ++ []
def dkwX5_sees_7 : List UInt8 := [54, 10, 42, 180, 0, 9, 21, 9, 21, 10, 184, 0, 108, 46, 4, 160, 0, 5, 3, 172, 132, 8, 1]
abbrev dktX5_sees_7 : List UInt8 := dkwX5_sees_7 ++ dktX5_sees_8
def dkwX5_sees_6 : List UInt8 := [184, 1, 106, 96, 167, 0, 19, 21, 4, 21, 6, 158, 0, 8, 21, 8, 167, 0, 6, 21, 8, 116, 96]
abbrev dktX5_sees_6 : List UInt8 := dkwX5_sees_6 ++ dktX5_sees_7
def dkwX5_sees_5 : List UInt8 := [21, 5, 184, 1, 103, 160, 0, 26, 21, 4, 5, 21, 8, 104, 21, 6, 104, 21, 7, 96, 5, 21, 7, 104]
abbrev dktX5_sees_5 : List UInt8 := dkwX5_sees_5 ++ dktX5_sees_6
def dkwX5_sees_4 : List UInt8 := [29, 5, 21, 8, 104, 21, 5, 104, 21, 7, 96, 5, 21, 7, 104, 184, 1, 106, 96, 54, 9, 21, 7]
abbrev dktX5_sees_4 : List UInt8 := dkwX5_sees_4 ++ dktX5_sees_5
def dkwX5_sees_3 : List UInt8 := [184, 1, 103, 160, 0, 21, 29, 21, 5, 158, 0, 8, 21, 8, 167, 0, 6, 21, 8, 116, 96, 167, 0, 22]
abbrev dktX5_sees_3 : List UInt8 := dkwX5_sees_3 ++ dktX5_sees_4
def dkwX5_sees_2 : List UInt8 := [167, 0, 8, 21, 6, 184, 1, 103, 54, 7, 4, 54, 8, 21, 8, 21, 7, 162, 0, 127, 21, 7, 21, 5]
abbrev dktX5_sees_2 : List UInt8 := dkwX5_sees_2 ++ dktX5_sees_3
def dkwX5_sees_1 : List UInt8 := [21, 4, 100, 54, 6, 21, 5, 184, 1, 103, 21, 6, 184, 1, 103, 161, 0, 11, 21, 5, 184, 1, 103]
abbrev dktX5_sees_1 : List UInt8 := dkwX5_sees_1 ++ dktX5_sees_2
def dkwX5_sees_0 : List UInt8 := [27, 16, 12, 112, 62, 27, 16, 12, 108, 54, 4, 28, 16, 12, 112, 29, 100, 54, 5, 28, 16, 12, 108]
abbrev dktX5_sees_0 : List UInt8 := dkwX5_sees_0 ++ dktX5_sees_1
theorem dksX5_sees_0 : cX5_sees.data.toList.drop 0 = dktX5_sees_0 := by decide +kernel
theorem dksX5_sees_1 : cX5_sees.data.toList.drop 23 = dktX5_sees_1 := dk_seg dksX5_sees_0 23 rfl rfl
theorem dksX5_sees_2 : cX5_sees.data.toList.drop 46 = dktX5_sees_2 := dk_seg dksX5_sees_1 23 rfl rfl
theorem dksX5_sees_3 : cX5_sees.data.toList.drop 70 = dktX5_sees_3 := dk_seg dksX5_sees_2 24 rfl rfl
theorem dksX5_sees_4 : cX5_sees.data.toList.drop 94 = dktX5_sees_4 := dk_seg dksX5_sees_3 24 rfl rfl
theorem dksX5_sees_5 : cX5_sees.data.toList.drop 117 = dktX5_sees_5 := dk_seg dksX5_sees_4 23 rfl rfl
theorem dksX5_sees_6 : cX5_sees.data.toList.drop 141 = dktX5_sees_6 := dk_seg dksX5_sees_5 24 rfl rfl
theorem dksX5_sees_7 : cX5_sees.data.toList.drop 164 = dktX5_sees_7 := dk_seg dksX5_sees_6 23 rfl rfl
theorem dksX5_sees_8 : cX5_sees.data.toList.drop 187 = dktX5_sees_8 := dk_seg dksX5_sees_7 23 rfl rfl
theorem dX5_sees_0 : decode cX5_sees 0 = .ok (.iload_n 1, 1) := dk_27 (dk_at dksX5_sees_0 0 rfl rfl)
theorem dX5_sees_1 : decode cX5_sees 1 = .ok (.bipush 12, 2) := dk_16 12 (dk_at dksX5_sees_0 1 rfl rfl)
theorem dX5_sees_3 : decode cX5_sees 3 = .ok (.irem, 1) := dk_112 (dk_at dksX5_sees_0 3 rfl rfl)
theorem dX5_sees_4 : decode cX5_sees 4 = .ok (.istore_n 3, 1) := dk_62 (dk_at dksX5_sees_0 4 rfl rfl)
theorem dX5_sees_5 : decode cX5_sees 5 = .ok (.iload_n 1, 1) := dk_27 (dk_at dksX5_sees_0 5 rfl rfl)
theorem dX5_sees_6 : decode cX5_sees 6 = .ok (.bipush 12, 2) := dk_16 12 (dk_at dksX5_sees_0 6 rfl rfl)
theorem dX5_sees_8 : decode cX5_sees 8 = .ok (.idiv, 1) := dk_108 (dk_at dksX5_sees_0 8 rfl rfl)
theorem dX5_sees_9 : decode cX5_sees 9 = .ok (.istore 4, 2) := dk_54 4 (dk_at dksX5_sees_0 9 rfl rfl)
theorem dX5_sees_11 : decode cX5_sees 11 = .ok (.iload_n 2, 1) := dk_28 (dk_at dksX5_sees_0 11 rfl rfl)
theorem dX5_sees_12 : decode cX5_sees 12 = .ok (.bipush 12, 2) := dk_16 12 (dk_at dksX5_sees_0 12 rfl rfl)
theorem dX5_sees_14 : decode cX5_sees 14 = .ok (.irem, 1) := dk_112 (dk_at dksX5_sees_0 14 rfl rfl)
theorem dX5_sees_15 : decode cX5_sees 15 = .ok (.iload_n 3, 1) := dk_29 (dk_at dksX5_sees_0 15 rfl rfl)
theorem dX5_sees_16 : decode cX5_sees 16 = .ok (.isub, 1) := dk_100 (dk_at dksX5_sees_0 16 rfl rfl)
theorem dX5_sees_17 : decode cX5_sees 17 = .ok (.istore 5, 2) := dk_54 5 (dk_at dksX5_sees_0 17 rfl rfl)
theorem dX5_sees_19 : decode cX5_sees 19 = .ok (.iload_n 2, 1) := dk_28 (dk_at dksX5_sees_0 19 rfl rfl)
theorem dX5_sees_20 : decode cX5_sees 20 = .ok (.bipush 12, 2) := dk_16 12 (dk_at dksX5_sees_0 20 rfl rfl)
theorem dX5_sees_22 : decode cX5_sees 22 = .ok (.idiv, 1) := dk_108 (dk_at dksX5_sees_0 22 rfl rfl)
theorem dX5_sees_23 : decode cX5_sees 23 = .ok (.iload 4, 2) := dk_21 4 (dk_at dksX5_sees_1 0 rfl rfl)
theorem dX5_sees_25 : decode cX5_sees 25 = .ok (.isub, 1) := dk_100 (dk_at dksX5_sees_1 2 rfl rfl)
theorem dX5_sees_26 : decode cX5_sees 26 = .ok (.istore 6, 2) := dk_54 6 (dk_at dksX5_sees_1 3 rfl rfl)
theorem dX5_sees_28 : decode cX5_sees 28 = .ok (.iload 5, 2) := dk_21 5 (dk_at dksX5_sees_1 5 rfl rfl)
theorem dX5_sees_30 : decode cX5_sees 30 = .ok (.invokestatic 359, 3) := dk_184 1 103 (dk_at dksX5_sees_1 7 rfl rfl)
theorem dX5_sees_33 : decode cX5_sees 33 = .ok (.iload 6, 2) := dk_21 6 (dk_at dksX5_sees_1 10 rfl rfl)
theorem dX5_sees_35 : decode cX5_sees 35 = .ok (.invokestatic 359, 3) := dk_184 1 103 (dk_at dksX5_sees_1 12 rfl rfl)
theorem dX5_sees_38 : decode cX5_sees 38 = .ok (.if_icmp .lt 11, 3) := dk_161 0 11 (dk_at dksX5_sees_1 15 rfl rfl)
theorem dX5_sees_41 : decode cX5_sees 41 = .ok (.iload 5, 2) := dk_21 5 (dk_at dksX5_sees_1 18 rfl rfl)
theorem dX5_sees_43 : decode cX5_sees 43 = .ok (.invokestatic 359, 3) := dk_184 1 103 (dk_at dksX5_sees_1 20 rfl rfl)
theorem dX5_sees_46 : decode cX5_sees 46 = .ok (.goto 8, 3) := dk_167 0 8 (dk_at dksX5_sees_2 0 rfl rfl)
theorem dX5_sees_49 : decode cX5_sees 49 = .ok (.iload 6, 2) := dk_21 6 (dk_at dksX5_sees_2 3 rfl rfl)
theorem dX5_sees_51 : decode cX5_sees 51 = .ok (.invokestatic 359, 3) := dk_184 1 103 (dk_at dksX5_sees_2 5 rfl rfl)
theorem dX5_sees_54 : decode cX5_sees 54 = .ok (.istore 7, 2) := dk_54 7 (dk_at dksX5_sees_2 8 rfl rfl)
theorem dX5_sees_56 : decode cX5_sees 56 = .ok (.iconst 1, 1) := dk_4 (dk_at dksX5_sees_2 10 rfl rfl)
theorem dX5_sees_57 : decode cX5_sees 57 = .ok (.istore 8, 2) := dk_54 8 (dk_at dksX5_sees_2 11 rfl rfl)
theorem dX5_sees_59 : decode cX5_sees 59 = .ok (.iload 8, 2) := dk_21 8 (dk_at dksX5_sees_2 13 rfl rfl)
theorem dX5_sees_61 : decode cX5_sees 61 = .ok (.iload 7, 2) := dk_21 7 (dk_at dksX5_sees_2 15 rfl rfl)
theorem dX5_sees_63 : decode cX5_sees 63 = .ok (.if_icmp .ge 127, 3) := dk_162 0 127 (dk_at dksX5_sees_2 17 rfl rfl)
theorem dX5_sees_66 : decode cX5_sees 66 = .ok (.iload 7, 2) := dk_21 7 (dk_at dksX5_sees_2 20 rfl rfl)
theorem dX5_sees_68 : decode cX5_sees 68 = .ok (.iload 5, 2) := dk_21 5 (dk_at dksX5_sees_2 22 rfl rfl)
theorem dX5_sees_70 : decode cX5_sees 70 = .ok (.invokestatic 359, 3) := dk_184 1 103 (dk_at dksX5_sees_3 0 rfl rfl)
theorem dX5_sees_73 : decode cX5_sees 73 = .ok (.if_icmp .ne 21, 3) := dk_160 0 21 (dk_at dksX5_sees_3 3 rfl rfl)
theorem dX5_sees_76 : decode cX5_sees 76 = .ok (.iload_n 3, 1) := dk_29 (dk_at dksX5_sees_3 6 rfl rfl)
theorem dX5_sees_77 : decode cX5_sees 77 = .ok (.iload 5, 2) := dk_21 5 (dk_at dksX5_sees_3 7 rfl rfl)
theorem dX5_sees_79 : decode cX5_sees 79 = .ok (.ifCond .le 8, 3) := dk_158 0 8 (dk_at dksX5_sees_3 9 rfl rfl)
theorem dX5_sees_82 : decode cX5_sees 82 = .ok (.iload 8, 2) := dk_21 8 (dk_at dksX5_sees_3 12 rfl rfl)
theorem dX5_sees_84 : decode cX5_sees 84 = .ok (.goto 6, 3) := dk_167 0 6 (dk_at dksX5_sees_3 14 rfl rfl)
theorem dX5_sees_87 : decode cX5_sees 87 = .ok (.iload 8, 2) := dk_21 8 (dk_at dksX5_sees_3 17 rfl rfl)
theorem dX5_sees_89 : decode cX5_sees 89 = .ok (.ineg, 1) := dk_116 (dk_at dksX5_sees_3 19 rfl rfl)
theorem dX5_sees_90 : decode cX5_sees 90 = .ok (.iadd, 1) := dk_96 (dk_at dksX5_sees_3 20 rfl rfl)
theorem dX5_sees_91 : decode cX5_sees 91 = .ok (.goto 22, 3) := dk_167 0 22 (dk_at dksX5_sees_3 21 rfl rfl)
theorem dX5_sees_94 : decode cX5_sees 94 = .ok (.iload_n 3, 1) := dk_29 (dk_at dksX5_sees_4 0 rfl rfl)
theorem dX5_sees_95 : decode cX5_sees 95 = .ok (.iconst 2, 1) := dk_5 (dk_at dksX5_sees_4 1 rfl rfl)
theorem dX5_sees_96 : decode cX5_sees 96 = .ok (.iload 8, 2) := dk_21 8 (dk_at dksX5_sees_4 2 rfl rfl)
theorem dX5_sees_98 : decode cX5_sees 98 = .ok (.imul, 1) := dk_104 (dk_at dksX5_sees_4 4 rfl rfl)
theorem dX5_sees_99 : decode cX5_sees 99 = .ok (.iload 5, 2) := dk_21 5 (dk_at dksX5_sees_4 5 rfl rfl)
theorem dX5_sees_101 : decode cX5_sees 101 = .ok (.imul, 1) := dk_104 (dk_at dksX5_sees_4 7 rfl rfl)
theorem dX5_sees_102 : decode cX5_sees 102 = .ok (.iload 7, 2) := dk_21 7 (dk_at dksX5_sees_4 8 rfl rfl)
theorem dX5_sees_104 : decode cX5_sees 104 = .ok (.iadd, 1) := dk_96 (dk_at dksX5_sees_4 10 rfl rfl)
theorem dX5_sees_105 : decode cX5_sees 105 = .ok (.iconst 2, 1) := dk_5 (dk_at dksX5_sees_4 11 rfl rfl)
theorem dX5_sees_106 : decode cX5_sees 106 = .ok (.iload 7, 2) := dk_21 7 (dk_at dksX5_sees_4 12 rfl rfl)
theorem dX5_sees_108 : decode cX5_sees 108 = .ok (.imul, 1) := dk_104 (dk_at dksX5_sees_4 14 rfl rfl)
theorem dX5_sees_109 : decode cX5_sees 109 = .ok (.invokestatic 362, 3) := dk_184 1 106 (dk_at dksX5_sees_4 15 rfl rfl)
theorem dX5_sees_112 : decode cX5_sees 112 = .ok (.iadd, 1) := dk_96 (dk_at dksX5_sees_4 18 rfl rfl)
theorem dX5_sees_113 : decode cX5_sees 113 = .ok (.istore 9, 2) := dk_54 9 (dk_at dksX5_sees_4 19 rfl rfl)
theorem dX5_sees_115 : decode cX5_sees 115 = .ok (.iload 7, 2) := dk_21 7 (dk_at dksX5_sees_4 21 rfl rfl)
theorem dX5_sees_117 : decode cX5_sees 117 = .ok (.iload 5, 2) := dk_21 5 (dk_at dksX5_sees_5 0 rfl rfl)
theorem dX5_sees_119 : decode cX5_sees 119 = .ok (.invokestatic 359, 3) := dk_184 1 103 (dk_at dksX5_sees_5 2 rfl rfl)
theorem dX5_sees_122 : decode cX5_sees 122 = .ok (.if_icmp .ne 26, 3) := dk_160 0 26 (dk_at dksX5_sees_5 5 rfl rfl)
theorem dX5_sees_125 : decode cX5_sees 125 = .ok (.iload 4, 2) := dk_21 4 (dk_at dksX5_sees_5 8 rfl rfl)
theorem dX5_sees_127 : decode cX5_sees 127 = .ok (.iconst 2, 1) := dk_5 (dk_at dksX5_sees_5 10 rfl rfl)
theorem dX5_sees_128 : decode cX5_sees 128 = .ok (.iload 8, 2) := dk_21 8 (dk_at dksX5_sees_5 11 rfl rfl)
theorem dX5_sees_130 : decode cX5_sees 130 = .ok (.imul, 1) := dk_104 (dk_at dksX5_sees_5 13 rfl rfl)
theorem dX5_sees_131 : decode cX5_sees 131 = .ok (.iload 6, 2) := dk_21 6 (dk_at dksX5_sees_5 14 rfl rfl)
theorem dX5_sees_133 : decode cX5_sees 133 = .ok (.imul, 1) := dk_104 (dk_at dksX5_sees_5 16 rfl rfl)
theorem dX5_sees_134 : decode cX5_sees 134 = .ok (.iload 7, 2) := dk_21 7 (dk_at dksX5_sees_5 17 rfl rfl)
theorem dX5_sees_136 : decode cX5_sees 136 = .ok (.iadd, 1) := dk_96 (dk_at dksX5_sees_5 19 rfl rfl)
theorem dX5_sees_137 : decode cX5_sees 137 = .ok (.iconst 2, 1) := dk_5 (dk_at dksX5_sees_5 20 rfl rfl)
theorem dX5_sees_138 : decode cX5_sees 138 = .ok (.iload 7, 2) := dk_21 7 (dk_at dksX5_sees_5 21 rfl rfl)
theorem dX5_sees_140 : decode cX5_sees 140 = .ok (.imul, 1) := dk_104 (dk_at dksX5_sees_5 23 rfl rfl)
theorem dX5_sees_141 : decode cX5_sees 141 = .ok (.invokestatic 362, 3) := dk_184 1 106 (dk_at dksX5_sees_6 0 rfl rfl)
theorem dX5_sees_144 : decode cX5_sees 144 = .ok (.iadd, 1) := dk_96 (dk_at dksX5_sees_6 3 rfl rfl)
theorem dX5_sees_145 : decode cX5_sees 145 = .ok (.goto 19, 3) := dk_167 0 19 (dk_at dksX5_sees_6 4 rfl rfl)
theorem dX5_sees_148 : decode cX5_sees 148 = .ok (.iload 4, 2) := dk_21 4 (dk_at dksX5_sees_6 7 rfl rfl)
theorem dX5_sees_150 : decode cX5_sees 150 = .ok (.iload 6, 2) := dk_21 6 (dk_at dksX5_sees_6 9 rfl rfl)
theorem dX5_sees_152 : decode cX5_sees 152 = .ok (.ifCond .le 8, 3) := dk_158 0 8 (dk_at dksX5_sees_6 11 rfl rfl)
theorem dX5_sees_155 : decode cX5_sees 155 = .ok (.iload 8, 2) := dk_21 8 (dk_at dksX5_sees_6 14 rfl rfl)
theorem dX5_sees_157 : decode cX5_sees 157 = .ok (.goto 6, 3) := dk_167 0 6 (dk_at dksX5_sees_6 16 rfl rfl)
theorem dX5_sees_160 : decode cX5_sees 160 = .ok (.iload 8, 2) := dk_21 8 (dk_at dksX5_sees_6 19 rfl rfl)
theorem dX5_sees_162 : decode cX5_sees 162 = .ok (.ineg, 1) := dk_116 (dk_at dksX5_sees_6 21 rfl rfl)
theorem dX5_sees_163 : decode cX5_sees 163 = .ok (.iadd, 1) := dk_96 (dk_at dksX5_sees_6 22 rfl rfl)
theorem dX5_sees_164 : decode cX5_sees 164 = .ok (.istore 10, 2) := dk_54 10 (dk_at dksX5_sees_7 0 rfl rfl)
theorem dX5_sees_166 : decode cX5_sees 166 = .ok (.aload_n 0, 1) := dk_42 (dk_at dksX5_sees_7 2 rfl rfl)
theorem dX5_sees_167 : decode cX5_sees 167 = .ok (.getfield 9, 3) := dk_180 0 9 (dk_at dksX5_sees_7 3 rfl rfl)
theorem dX5_sees_170 : decode cX5_sees 170 = .ok (.iload 9, 2) := dk_21 9 (dk_at dksX5_sees_7 6 rfl rfl)
theorem dX5_sees_172 : decode cX5_sees 172 = .ok (.iload 10, 2) := dk_21 10 (dk_at dksX5_sees_7 8 rfl rfl)
theorem dX5_sees_174 : decode cX5_sees 174 = .ok (.invokestatic 108, 3) := dk_184 0 108 (dk_at dksX5_sees_7 10 rfl rfl)
theorem dX5_sees_177 : decode cX5_sees 177 = .ok (.iaload, 1) := dk_46 (dk_at dksX5_sees_7 13 rfl rfl)
theorem dX5_sees_178 : decode cX5_sees 178 = .ok (.iconst 1, 1) := dk_4 (dk_at dksX5_sees_7 14 rfl rfl)
theorem dX5_sees_179 : decode cX5_sees 179 = .ok (.if_icmp .ne 5, 3) := dk_160 0 5 (dk_at dksX5_sees_7 15 rfl rfl)
theorem dX5_sees_182 : decode cX5_sees 182 = .ok (.iconst 0, 1) := dk_3 (dk_at dksX5_sees_7 18 rfl rfl)
theorem dX5_sees_183 : decode cX5_sees 183 = .ok (.ireturn, 1) := dk_172 (dk_at dksX5_sees_7 19 rfl rfl)
theorem dX5_sees_184 : decode cX5_sees 184 = .ok (.iinc 8 1, 3) := dk_132 8 1 (dk_at dksX5_sees_7 20 rfl rfl)
theorem dX5_sees_187 : decode cX5_sees 187 = .ok (.goto (-128), 3) := dk_167 255 128 (dk_at dksX5_sees_8 0 rfl rfl)
theorem dX5_sees_190 : decode cX5_sees 190 = .ok (.iconst 1, 1) := dk_4 (dk_at dksX5_sees_8 3 rfl rfl)
theorem dX5_sees_191 : decode cX5_sees 191 = .ok (.ireturn, 1) := dk_172 (dk_at dksX5_sees_8 4 rfl rfl)
abbrev cX5_abs : ByteArray := prog_17_method_97_code
def yX5_abs : MethodName := ⟨RX5, "abs", "(I)I"⟩
def dkwX5_abs_0 : List UInt8 := [26, 156, 0, 8, 26, 116, 167, 0, 4, 26, 172]
abbrev dktX5_abs_0 : List UInt8 := dkwX5_abs_0 ++ []
theorem dksX5_abs_0 : cX5_abs.data.toList.drop 0 = dktX5_abs_0 := by decide +kernel
theorem dX5_abs_0 : decode cX5_abs 0 = .ok (.iload_n 0, 1) := dk_26 (dk_at dksX5_abs_0 0 rfl rfl)
theorem dX5_abs_1 : decode cX5_abs 1 = .ok (.ifCond .ge 8, 3) := dk_156 0 8 (dk_at dksX5_abs_0 1 rfl rfl)
theorem dX5_abs_4 : decode cX5_abs 4 = .ok (.iload_n 0, 1) := dk_26 (dk_at dksX5_abs_0 4 rfl rfl)
theorem dX5_abs_5 : decode cX5_abs 5 = .ok (.ineg, 1) := dk_116 (dk_at dksX5_abs_0 5 rfl rfl)
theorem dX5_abs_6 : decode cX5_abs 6 = .ok (.goto 4, 3) := dk_167 0 4 (dk_at dksX5_abs_0 6 rfl rfl)
theorem dX5_abs_9 : decode cX5_abs 9 = .ok (.iload_n 0, 1) := dk_26 (dk_at dksX5_abs_0 9 rfl rfl)
theorem dX5_abs_10 : decode cX5_abs 10 = .ok (.ireturn, 1) := dk_172 (dk_at dksX5_abs_0 10 rfl rfl)
abbrev cX5_downBy : ByteArray := prog_17_method_98_code
def yX5_downBy : MethodName := ⟨RX5, "downBy", "(II)I"⟩
def dkwX5_downBy_0 : List UInt8 := [26, 156, 0, 15, 26, 116, 27, 96, 4, 100, 27, 108, 116, 167, 0, 6, 26, 27, 108, 172]
abbrev dktX5_downBy_0 : List UInt8 := dkwX5_downBy_0 ++ []
theorem dksX5_downBy_0 : cX5_downBy.data.toList.drop 0 = dktX5_downBy_0 := by decide +kernel
theorem dX5_downBy_0 : decode cX5_downBy 0 = .ok (.iload_n 0, 1) := dk_26 (dk_at dksX5_downBy_0 0 rfl rfl)
theorem dX5_downBy_1 : decode cX5_downBy 1 = .ok (.ifCond .ge 15, 3) := dk_156 0 15 (dk_at dksX5_downBy_0 1 rfl rfl)
theorem dX5_downBy_4 : decode cX5_downBy 4 = .ok (.iload_n 0, 1) := dk_26 (dk_at dksX5_downBy_0 4 rfl rfl)
theorem dX5_downBy_5 : decode cX5_downBy 5 = .ok (.ineg, 1) := dk_116 (dk_at dksX5_downBy_0 5 rfl rfl)
theorem dX5_downBy_6 : decode cX5_downBy 6 = .ok (.iload_n 1, 1) := dk_27 (dk_at dksX5_downBy_0 6 rfl rfl)
theorem dX5_downBy_7 : decode cX5_downBy 7 = .ok (.iadd, 1) := dk_96 (dk_at dksX5_downBy_0 7 rfl rfl)
theorem dX5_downBy_8 : decode cX5_downBy 8 = .ok (.iconst 1, 1) := dk_4 (dk_at dksX5_downBy_0 8 rfl rfl)
theorem dX5_downBy_9 : decode cX5_downBy 9 = .ok (.isub, 1) := dk_100 (dk_at dksX5_downBy_0 9 rfl rfl)
theorem dX5_downBy_10 : decode cX5_downBy 10 = .ok (.iload_n 1, 1) := dk_27 (dk_at dksX5_downBy_0 10 rfl rfl)
theorem dX5_downBy_11 : decode cX5_downBy 11 = .ok (.idiv, 1) := dk_108 (dk_at dksX5_downBy_0 11 rfl rfl)
theorem dX5_downBy_12 : decode cX5_downBy 12 = .ok (.ineg, 1) := dk_116 (dk_at dksX5_downBy_0 12 rfl rfl)
theorem dX5_downBy_13 : decode cX5_downBy 13 = .ok (.goto 6, 3) := dk_167 0 6 (dk_at dksX5_downBy_0 13 rfl rfl)
theorem dX5_downBy_16 : decode cX5_downBy 16 = .ok (.iload_n 0, 1) := dk_26 (dk_at dksX5_downBy_0 16 rfl rfl)
theorem dX5_downBy_17 : decode cX5_downBy 17 = .ok (.iload_n 1, 1) := dk_27 (dk_at dksX5_downBy_0 17 rfl rfl)
theorem dX5_downBy_18 : decode cX5_downBy 18 = .ok (.idiv, 1) := dk_108 (dk_at dksX5_downBy_0 18 rfl rfl)
theorem dX5_downBy_19 : decode cX5_downBy 19 = .ok (.ireturn, 1) := dk_172 (dk_at dksX5_downBy_0 19 rfl rfl)
abbrev cX5_known : ByteArray := prog_17_method_101_code
def yX5_known : MethodName := ⟨RX5, "known", "(II)I"⟩
def dkwX5_known_3 : List UInt8 := [42, 180, 0, 9, 29, 46, 96, 28, 79, 42, 180, 0, 9, 29, 46, 172]
abbrev dktX5_known_3 : List UInt8 := dkwX5_known_3 ++ []
def dkwX5_known_2 : List UInt8 := [29, 46, 16, 12, 160, 0, 5, 2, 172, 42, 180, 0, 9, 29, 92, 46, 4, 96, 79, 42, 180, 0, 9, 29]
abbrev dktX5_known_2 : List UInt8 := dkwX5_known_2 ++ dktX5_known_3
def dkwX5_known_1 : List UInt8 := [16, 13, 27, 104, 96, 62, 28, 2, 160, 0, 12, 42, 180, 0, 9, 29, 3, 79, 3, 172, 42, 180, 0, 9]
abbrev dktX5_known_1 : List UInt8 := dkwX5_known_1 ++ dktX5_known_2
def dkwX5_known_0 : List UInt8 := [27, 3, 4, 184, 0, 100, 153, 0, 12, 28, 2, 5, 184, 0, 100, 154, 0, 5, 2, 172, 17, 9, 53]
abbrev dktX5_known_0 : List UInt8 := dkwX5_known_0 ++ dktX5_known_1
theorem dksX5_known_0 : cX5_known.data.toList.drop 0 = dktX5_known_0 := by decide +kernel
theorem dksX5_known_1 : cX5_known.data.toList.drop 23 = dktX5_known_1 := dk_seg dksX5_known_0 23 rfl rfl
theorem dksX5_known_2 : cX5_known.data.toList.drop 47 = dktX5_known_2 := dk_seg dksX5_known_1 24 rfl rfl
theorem dksX5_known_3 : cX5_known.data.toList.drop 71 = dktX5_known_3 := dk_seg dksX5_known_2 24 rfl rfl
theorem dX5_known_0 : decode cX5_known 0 = .ok (.iload_n 1, 1) := dk_27 (dk_at dksX5_known_0 0 rfl rfl)
theorem dX5_known_1 : decode cX5_known 1 = .ok (.iconst 0, 1) := dk_3 (dk_at dksX5_known_0 1 rfl rfl)
theorem dX5_known_2 : decode cX5_known 2 = .ok (.iconst 1, 1) := dk_4 (dk_at dksX5_known_0 2 rfl rfl)
theorem dX5_known_3 : decode cX5_known 3 = .ok (.invokestatic 100, 3) := dk_184 0 100 (dk_at dksX5_known_0 3 rfl rfl)
theorem dX5_known_6 : decode cX5_known 6 = .ok (.ifCond .eq 12, 3) := dk_153 0 12 (dk_at dksX5_known_0 6 rfl rfl)
theorem dX5_known_9 : decode cX5_known 9 = .ok (.iload_n 2, 1) := dk_28 (dk_at dksX5_known_0 9 rfl rfl)
theorem dX5_known_10 : decode cX5_known 10 = .ok (.iconst (-1), 1) := dk_2 (dk_at dksX5_known_0 10 rfl rfl)
theorem dX5_known_11 : decode cX5_known 11 = .ok (.iconst 2, 1) := dk_5 (dk_at dksX5_known_0 11 rfl rfl)
theorem dX5_known_12 : decode cX5_known 12 = .ok (.invokestatic 100, 3) := dk_184 0 100 (dk_at dksX5_known_0 12 rfl rfl)
theorem dX5_known_15 : decode cX5_known 15 = .ok (.ifCond .ne 5, 3) := dk_154 0 5 (dk_at dksX5_known_0 15 rfl rfl)
theorem dX5_known_18 : decode cX5_known 18 = .ok (.iconst (-1), 1) := dk_2 (dk_at dksX5_known_0 18 rfl rfl)
theorem dX5_known_19 : decode cX5_known 19 = .ok (.ireturn, 1) := dk_172 (dk_at dksX5_known_0 19 rfl rfl)
theorem dX5_known_20 : decode cX5_known 20 = .ok (.sipush 2357, 3) := dk_17 9 53 (dk_at dksX5_known_0 20 rfl rfl)
theorem dX5_known_23 : decode cX5_known 23 = .ok (.bipush 13, 2) := dk_16 13 (dk_at dksX5_known_1 0 rfl rfl)
theorem dX5_known_25 : decode cX5_known 25 = .ok (.iload_n 1, 1) := dk_27 (dk_at dksX5_known_1 2 rfl rfl)
theorem dX5_known_26 : decode cX5_known 26 = .ok (.imul, 1) := dk_104 (dk_at dksX5_known_1 3 rfl rfl)
theorem dX5_known_27 : decode cX5_known 27 = .ok (.iadd, 1) := dk_96 (dk_at dksX5_known_1 4 rfl rfl)
theorem dX5_known_28 : decode cX5_known 28 = .ok (.istore_n 3, 1) := dk_62 (dk_at dksX5_known_1 5 rfl rfl)
theorem dX5_known_29 : decode cX5_known 29 = .ok (.iload_n 2, 1) := dk_28 (dk_at dksX5_known_1 6 rfl rfl)
theorem dX5_known_30 : decode cX5_known 30 = .ok (.iconst (-1), 1) := dk_2 (dk_at dksX5_known_1 7 rfl rfl)
theorem dX5_known_31 : decode cX5_known 31 = .ok (.if_icmp .ne 12, 3) := dk_160 0 12 (dk_at dksX5_known_1 8 rfl rfl)
theorem dX5_known_34 : decode cX5_known 34 = .ok (.aload_n 0, 1) := dk_42 (dk_at dksX5_known_1 11 rfl rfl)
theorem dX5_known_35 : decode cX5_known 35 = .ok (.getfield 9, 3) := dk_180 0 9 (dk_at dksX5_known_1 12 rfl rfl)
theorem dX5_known_38 : decode cX5_known 38 = .ok (.iload_n 3, 1) := dk_29 (dk_at dksX5_known_1 15 rfl rfl)
theorem dX5_known_39 : decode cX5_known 39 = .ok (.iconst 0, 1) := dk_3 (dk_at dksX5_known_1 16 rfl rfl)
theorem dX5_known_40 : decode cX5_known 40 = .ok (.iastore, 1) := dk_79 (dk_at dksX5_known_1 17 rfl rfl)
theorem dX5_known_41 : decode cX5_known 41 = .ok (.iconst 0, 1) := dk_3 (dk_at dksX5_known_1 18 rfl rfl)
theorem dX5_known_42 : decode cX5_known 42 = .ok (.ireturn, 1) := dk_172 (dk_at dksX5_known_1 19 rfl rfl)
theorem dX5_known_43 : decode cX5_known 43 = .ok (.aload_n 0, 1) := dk_42 (dk_at dksX5_known_1 20 rfl rfl)
theorem dX5_known_44 : decode cX5_known 44 = .ok (.getfield 9, 3) := dk_180 0 9 (dk_at dksX5_known_1 21 rfl rfl)
theorem dX5_known_47 : decode cX5_known 47 = .ok (.iload_n 3, 1) := dk_29 (dk_at dksX5_known_2 0 rfl rfl)
theorem dX5_known_48 : decode cX5_known 48 = .ok (.iaload, 1) := dk_46 (dk_at dksX5_known_2 1 rfl rfl)
theorem dX5_known_49 : decode cX5_known 49 = .ok (.bipush 12, 2) := dk_16 12 (dk_at dksX5_known_2 2 rfl rfl)
theorem dX5_known_51 : decode cX5_known 51 = .ok (.if_icmp .ne 5, 3) := dk_160 0 5 (dk_at dksX5_known_2 4 rfl rfl)
theorem dX5_known_54 : decode cX5_known 54 = .ok (.iconst (-1), 1) := dk_2 (dk_at dksX5_known_2 7 rfl rfl)
theorem dX5_known_55 : decode cX5_known 55 = .ok (.ireturn, 1) := dk_172 (dk_at dksX5_known_2 8 rfl rfl)
theorem dX5_known_56 : decode cX5_known 56 = .ok (.aload_n 0, 1) := dk_42 (dk_at dksX5_known_2 9 rfl rfl)
theorem dX5_known_57 : decode cX5_known 57 = .ok (.getfield 9, 3) := dk_180 0 9 (dk_at dksX5_known_2 10 rfl rfl)
theorem dX5_known_60 : decode cX5_known 60 = .ok (.iload_n 3, 1) := dk_29 (dk_at dksX5_known_2 13 rfl rfl)
theorem dX5_known_61 : decode cX5_known 61 = .ok (.dup2, 1) := dk_92 (dk_at dksX5_known_2 14 rfl rfl)
theorem dX5_known_62 : decode cX5_known 62 = .ok (.iaload, 1) := dk_46 (dk_at dksX5_known_2 15 rfl rfl)
theorem dX5_known_63 : decode cX5_known 63 = .ok (.iconst 1, 1) := dk_4 (dk_at dksX5_known_2 16 rfl rfl)
theorem dX5_known_64 : decode cX5_known 64 = .ok (.iadd, 1) := dk_96 (dk_at dksX5_known_2 17 rfl rfl)
theorem dX5_known_65 : decode cX5_known 65 = .ok (.iastore, 1) := dk_79 (dk_at dksX5_known_2 18 rfl rfl)
theorem dX5_known_66 : decode cX5_known 66 = .ok (.aload_n 0, 1) := dk_42 (dk_at dksX5_known_2 19 rfl rfl)
theorem dX5_known_67 : decode cX5_known 67 = .ok (.getfield 9, 3) := dk_180 0 9 (dk_at dksX5_known_2 20 rfl rfl)
theorem dX5_known_70 : decode cX5_known 70 = .ok (.iload_n 3, 1) := dk_29 (dk_at dksX5_known_2 23 rfl rfl)
theorem dX5_known_71 : decode cX5_known 71 = .ok (.aload_n 0, 1) := dk_42 (dk_at dksX5_known_3 0 rfl rfl)
theorem dX5_known_72 : decode cX5_known 72 = .ok (.getfield 9, 3) := dk_180 0 9 (dk_at dksX5_known_3 1 rfl rfl)
theorem dX5_known_75 : decode cX5_known 75 = .ok (.iload_n 3, 1) := dk_29 (dk_at dksX5_known_3 4 rfl rfl)
theorem dX5_known_76 : decode cX5_known 76 = .ok (.iaload, 1) := dk_46 (dk_at dksX5_known_3 5 rfl rfl)
theorem dX5_known_77 : decode cX5_known 77 = .ok (.iadd, 1) := dk_96 (dk_at dksX5_known_3 6 rfl rfl)
theorem dX5_known_78 : decode cX5_known 78 = .ok (.iload_n 2, 1) := dk_28 (dk_at dksX5_known_3 7 rfl rfl)
theorem dX5_known_79 : decode cX5_known 79 = .ok (.iastore, 1) := dk_79 (dk_at dksX5_known_3 8 rfl rfl)
theorem dX5_known_80 : decode cX5_known 80 = .ok (.aload_n 0, 1) := dk_42 (dk_at dksX5_known_3 9 rfl rfl)
theorem dX5_known_81 : decode cX5_known 81 = .ok (.getfield 9, 3) := dk_180 0 9 (dk_at dksX5_known_3 10 rfl rfl)
theorem dX5_known_84 : decode cX5_known 84 = .ok (.iload_n 3, 1) := dk_29 (dk_at dksX5_known_3 13 rfl rfl)
theorem dX5_known_85 : decode cX5_known 85 = .ok (.iaload, 1) := dk_46 (dk_at dksX5_known_3 14 rfl rfl)
theorem dX5_known_86 : decode cX5_known 86 = .ok (.ireturn, 1) := dk_172 (dk_at dksX5_known_3 15 rfl rfl)
abbrev cX5_one : ByteArray := prog_17_method_104_code
def yX5_one : MethodName := ⟨RX5, "one", "(I)I"⟩
def dkwX5_one_6 : List UInt8 := [153, 0, 7, 4, 167, 0, 4, 3, 96, 62, 132, 4, 1, 167, 255, 190, 29, 172]
abbrev dktX5_one_6 : List UInt8 := dkwX5_one_6 ++ []
def dkwX5_one_5 : List UInt8 := [182, 1, 115, 154, 0, 7, 4, 167, 0, 4, 3, 54, 5, 132, 6, 1, 167, 255, 223, 29, 21, 5]
abbrev dktX5_one_5 : List UInt8 := dkwX5_one_5 ++ dktX5_one_6
def dkwX5_one_4 : List UInt8 := [54, 5, 3, 54, 6, 21, 6, 21, 4, 162, 0, 32, 21, 5, 153, 0, 18, 42, 21, 4, 21, 6]
abbrev dktX5_one_4 : List UInt8 := dkwX5_one_4 ++ dktX5_one_5
def dkwX5_one_3 : List UInt8 := [3, 172, 28, 154, 0, 7, 4, 167, 0, 4, 3, 62, 3, 54, 4, 21, 4, 5, 28, 104, 162, 0, 64, 4]
abbrev dktX5_one_3 : List UInt8 := dkwX5_one_3 ++ dktX5_one_4
def dkwX5_one_2 : List UInt8 := [29, 2, 182, 1, 115, 153, 0, 5, 4, 172, 132, 3, 1, 167, 255, 235, 28, 154, 0, 7, 4, 167, 0, 4]
abbrev dktX5_one_2 : List UInt8 := dkwX5_one_2 ++ dktX5_one_3
def dkwX5_one_1 : List UInt8 := [28, 42, 180, 0, 9, 17, 9, 66, 46, 159, 0, 5, 3, 172, 3, 62, 29, 5, 28, 104, 162, 0, 20, 42]
abbrev dktX5_one_1 : List UInt8 := dkwX5_one_1 ++ dktX5_one_2
def dkwX5_one_0 : List UInt8 := [27, 3, 4, 184, 0, 100, 154, 0, 5, 2, 172, 42, 180, 0, 9, 17, 9, 53, 46, 61, 27, 154, 0, 53]
abbrev dktX5_one_0 : List UInt8 := dkwX5_one_0 ++ dktX5_one_1
theorem dksX5_one_0 : cX5_one.data.toList.drop 0 = dktX5_one_0 := by decide +kernel
theorem dksX5_one_1 : cX5_one.data.toList.drop 24 = dktX5_one_1 := dk_seg dksX5_one_0 24 rfl rfl
theorem dksX5_one_2 : cX5_one.data.toList.drop 48 = dktX5_one_2 := dk_seg dksX5_one_1 24 rfl rfl
theorem dksX5_one_3 : cX5_one.data.toList.drop 72 = dktX5_one_3 := dk_seg dksX5_one_2 24 rfl rfl
theorem dksX5_one_4 : cX5_one.data.toList.drop 96 = dktX5_one_4 := dk_seg dksX5_one_3 24 rfl rfl
theorem dksX5_one_5 : cX5_one.data.toList.drop 118 = dktX5_one_5 := dk_seg dksX5_one_4 22 rfl rfl
theorem dksX5_one_6 : cX5_one.data.toList.drop 140 = dktX5_one_6 := dk_seg dksX5_one_5 22 rfl rfl
theorem dX5_one_0 : decode cX5_one 0 = .ok (.iload_n 1, 1) := dk_27 (dk_at dksX5_one_0 0 rfl rfl)
theorem dX5_one_1 : decode cX5_one 1 = .ok (.iconst 0, 1) := dk_3 (dk_at dksX5_one_0 1 rfl rfl)
theorem dX5_one_2 : decode cX5_one 2 = .ok (.iconst 1, 1) := dk_4 (dk_at dksX5_one_0 2 rfl rfl)
theorem dX5_one_3 : decode cX5_one 3 = .ok (.invokestatic 100, 3) := dk_184 0 100 (dk_at dksX5_one_0 3 rfl rfl)
theorem dX5_one_6 : decode cX5_one 6 = .ok (.ifCond .ne 5, 3) := dk_154 0 5 (dk_at dksX5_one_0 6 rfl rfl)
theorem dX5_one_9 : decode cX5_one 9 = .ok (.iconst (-1), 1) := dk_2 (dk_at dksX5_one_0 9 rfl rfl)
theorem dX5_one_10 : decode cX5_one 10 = .ok (.ireturn, 1) := dk_172 (dk_at dksX5_one_0 10 rfl rfl)
theorem dX5_one_11 : decode cX5_one 11 = .ok (.aload_n 0, 1) := dk_42 (dk_at dksX5_one_0 11 rfl rfl)
theorem dX5_one_12 : decode cX5_one 12 = .ok (.getfield 9, 3) := dk_180 0 9 (dk_at dksX5_one_0 12 rfl rfl)
theorem dX5_one_15 : decode cX5_one 15 = .ok (.sipush 2357, 3) := dk_17 9 53 (dk_at dksX5_one_0 15 rfl rfl)
theorem dX5_one_18 : decode cX5_one 18 = .ok (.iaload, 1) := dk_46 (dk_at dksX5_one_0 18 rfl rfl)
theorem dX5_one_19 : decode cX5_one 19 = .ok (.istore_n 2, 1) := dk_61 (dk_at dksX5_one_0 19 rfl rfl)
theorem dX5_one_20 : decode cX5_one 20 = .ok (.iload_n 1, 1) := dk_27 (dk_at dksX5_one_0 20 rfl rfl)
theorem dX5_one_21 : decode cX5_one 21 = .ok (.ifCond .ne 53, 3) := dk_154 0 53 (dk_at dksX5_one_0 21 rfl rfl)
theorem dX5_one_24 : decode cX5_one 24 = .ok (.iload_n 2, 1) := dk_28 (dk_at dksX5_one_1 0 rfl rfl)
theorem dX5_one_25 : decode cX5_one 25 = .ok (.aload_n 0, 1) := dk_42 (dk_at dksX5_one_1 1 rfl rfl)
theorem dX5_one_26 : decode cX5_one 26 = .ok (.getfield 9, 3) := dk_180 0 9 (dk_at dksX5_one_1 2 rfl rfl)
theorem dX5_one_29 : decode cX5_one 29 = .ok (.sipush 2370, 3) := dk_17 9 66 (dk_at dksX5_one_1 5 rfl rfl)
theorem dX5_one_32 : decode cX5_one 32 = .ok (.iaload, 1) := dk_46 (dk_at dksX5_one_1 8 rfl rfl)
theorem dX5_one_33 : decode cX5_one 33 = .ok (.if_icmp .eq 5, 3) := dk_159 0 5 (dk_at dksX5_one_1 9 rfl rfl)
theorem dX5_one_36 : decode cX5_one 36 = .ok (.iconst 0, 1) := dk_3 (dk_at dksX5_one_1 12 rfl rfl)
theorem dX5_one_37 : decode cX5_one 37 = .ok (.ireturn, 1) := dk_172 (dk_at dksX5_one_1 13 rfl rfl)
theorem dX5_one_38 : decode cX5_one 38 = .ok (.iconst 0, 1) := dk_3 (dk_at dksX5_one_1 14 rfl rfl)
theorem dX5_one_39 : decode cX5_one 39 = .ok (.istore_n 3, 1) := dk_62 (dk_at dksX5_one_1 15 rfl rfl)
theorem dX5_one_40 : decode cX5_one 40 = .ok (.iload_n 3, 1) := dk_29 (dk_at dksX5_one_1 16 rfl rfl)
theorem dX5_one_41 : decode cX5_one 41 = .ok (.iconst 2, 1) := dk_5 (dk_at dksX5_one_1 17 rfl rfl)
theorem dX5_one_42 : decode cX5_one 42 = .ok (.iload_n 2, 1) := dk_28 (dk_at dksX5_one_1 18 rfl rfl)
theorem dX5_one_43 : decode cX5_one 43 = .ok (.imul, 1) := dk_104 (dk_at dksX5_one_1 19 rfl rfl)
theorem dX5_one_44 : decode cX5_one 44 = .ok (.if_icmp .ge 20, 3) := dk_162 0 20 (dk_at dksX5_one_1 20 rfl rfl)
theorem dX5_one_47 : decode cX5_one 47 = .ok (.aload_n 0, 1) := dk_42 (dk_at dksX5_one_1 23 rfl rfl)
theorem dX5_one_48 : decode cX5_one 48 = .ok (.iload_n 3, 1) := dk_29 (dk_at dksX5_one_2 0 rfl rfl)
theorem dX5_one_49 : decode cX5_one 49 = .ok (.iconst (-1), 1) := dk_2 (dk_at dksX5_one_2 1 rfl rfl)
theorem dX5_one_50 : decode cX5_one 50 = .ok (.invokevirtual 371, 3) := dk_182 1 115 (dk_at dksX5_one_2 2 rfl rfl)
theorem dX5_one_53 : decode cX5_one 53 = .ok (.ifCond .eq 5, 3) := dk_153 0 5 (dk_at dksX5_one_2 5 rfl rfl)
theorem dX5_one_56 : decode cX5_one 56 = .ok (.iconst 1, 1) := dk_4 (dk_at dksX5_one_2 8 rfl rfl)
theorem dX5_one_57 : decode cX5_one 57 = .ok (.ireturn, 1) := dk_172 (dk_at dksX5_one_2 9 rfl rfl)
theorem dX5_one_58 : decode cX5_one 58 = .ok (.iinc 3 1, 3) := dk_132 3 1 (dk_at dksX5_one_2 10 rfl rfl)
theorem dX5_one_61 : decode cX5_one 61 = .ok (.goto (-21), 3) := dk_167 255 235 (dk_at dksX5_one_2 13 rfl rfl)
theorem dX5_one_64 : decode cX5_one 64 = .ok (.iload_n 2, 1) := dk_28 (dk_at dksX5_one_2 16 rfl rfl)
theorem dX5_one_65 : decode cX5_one 65 = .ok (.ifCond .ne 7, 3) := dk_154 0 7 (dk_at dksX5_one_2 17 rfl rfl)
theorem dX5_one_68 : decode cX5_one 68 = .ok (.iconst 1, 1) := dk_4 (dk_at dksX5_one_2 20 rfl rfl)
theorem dX5_one_69 : decode cX5_one 69 = .ok (.goto 4, 3) := dk_167 0 4 (dk_at dksX5_one_2 21 rfl rfl)
theorem dX5_one_72 : decode cX5_one 72 = .ok (.iconst 0, 1) := dk_3 (dk_at dksX5_one_3 0 rfl rfl)
theorem dX5_one_73 : decode cX5_one 73 = .ok (.ireturn, 1) := dk_172 (dk_at dksX5_one_3 1 rfl rfl)
theorem dX5_one_74 : decode cX5_one 74 = .ok (.iload_n 2, 1) := dk_28 (dk_at dksX5_one_3 2 rfl rfl)
theorem dX5_one_75 : decode cX5_one 75 = .ok (.ifCond .ne 7, 3) := dk_154 0 7 (dk_at dksX5_one_3 3 rfl rfl)
theorem dX5_one_78 : decode cX5_one 78 = .ok (.iconst 1, 1) := dk_4 (dk_at dksX5_one_3 6 rfl rfl)
theorem dX5_one_79 : decode cX5_one 79 = .ok (.goto 4, 3) := dk_167 0 4 (dk_at dksX5_one_3 7 rfl rfl)
theorem dX5_one_82 : decode cX5_one 82 = .ok (.iconst 0, 1) := dk_3 (dk_at dksX5_one_3 10 rfl rfl)
theorem dX5_one_83 : decode cX5_one 83 = .ok (.istore_n 3, 1) := dk_62 (dk_at dksX5_one_3 11 rfl rfl)
theorem dX5_one_84 : decode cX5_one 84 = .ok (.iconst 0, 1) := dk_3 (dk_at dksX5_one_3 12 rfl rfl)
theorem dX5_one_85 : decode cX5_one 85 = .ok (.istore 4, 2) := dk_54 4 (dk_at dksX5_one_3 13 rfl rfl)
theorem dX5_one_87 : decode cX5_one 87 = .ok (.iload 4, 2) := dk_21 4 (dk_at dksX5_one_3 15 rfl rfl)
theorem dX5_one_89 : decode cX5_one 89 = .ok (.iconst 2, 1) := dk_5 (dk_at dksX5_one_3 17 rfl rfl)
theorem dX5_one_90 : decode cX5_one 90 = .ok (.iload_n 2, 1) := dk_28 (dk_at dksX5_one_3 18 rfl rfl)
theorem dX5_one_91 : decode cX5_one 91 = .ok (.imul, 1) := dk_104 (dk_at dksX5_one_3 19 rfl rfl)
theorem dX5_one_92 : decode cX5_one 92 = .ok (.if_icmp .ge 64, 3) := dk_162 0 64 (dk_at dksX5_one_3 20 rfl rfl)
theorem dX5_one_95 : decode cX5_one 95 = .ok (.iconst 1, 1) := dk_4 (dk_at dksX5_one_3 23 rfl rfl)
theorem dX5_one_96 : decode cX5_one 96 = .ok (.istore 5, 2) := dk_54 5 (dk_at dksX5_one_4 0 rfl rfl)
theorem dX5_one_98 : decode cX5_one 98 = .ok (.iconst 0, 1) := dk_3 (dk_at dksX5_one_4 2 rfl rfl)
theorem dX5_one_99 : decode cX5_one 99 = .ok (.istore 6, 2) := dk_54 6 (dk_at dksX5_one_4 3 rfl rfl)
theorem dX5_one_101 : decode cX5_one 101 = .ok (.iload 6, 2) := dk_21 6 (dk_at dksX5_one_4 5 rfl rfl)
theorem dX5_one_103 : decode cX5_one 103 = .ok (.iload 4, 2) := dk_21 4 (dk_at dksX5_one_4 7 rfl rfl)
theorem dX5_one_105 : decode cX5_one 105 = .ok (.if_icmp .ge 32, 3) := dk_162 0 32 (dk_at dksX5_one_4 9 rfl rfl)
theorem dX5_one_108 : decode cX5_one 108 = .ok (.iload 5, 2) := dk_21 5 (dk_at dksX5_one_4 12 rfl rfl)
theorem dX5_one_110 : decode cX5_one 110 = .ok (.ifCond .eq 18, 3) := dk_153 0 18 (dk_at dksX5_one_4 14 rfl rfl)
theorem dX5_one_113 : decode cX5_one 113 = .ok (.aload_n 0, 1) := dk_42 (dk_at dksX5_one_4 17 rfl rfl)
theorem dX5_one_114 : decode cX5_one 114 = .ok (.iload 4, 2) := dk_21 4 (dk_at dksX5_one_4 18 rfl rfl)
theorem dX5_one_116 : decode cX5_one 116 = .ok (.iload 6, 2) := dk_21 6 (dk_at dksX5_one_4 20 rfl rfl)
theorem dX5_one_118 : decode cX5_one 118 = .ok (.invokevirtual 371, 3) := dk_182 1 115 (dk_at dksX5_one_5 0 rfl rfl)
theorem dX5_one_121 : decode cX5_one 121 = .ok (.ifCond .ne 7, 3) := dk_154 0 7 (dk_at dksX5_one_5 3 rfl rfl)
theorem dX5_one_124 : decode cX5_one 124 = .ok (.iconst 1, 1) := dk_4 (dk_at dksX5_one_5 6 rfl rfl)
theorem dX5_one_125 : decode cX5_one 125 = .ok (.goto 4, 3) := dk_167 0 4 (dk_at dksX5_one_5 7 rfl rfl)
theorem dX5_one_128 : decode cX5_one 128 = .ok (.iconst 0, 1) := dk_3 (dk_at dksX5_one_5 10 rfl rfl)
theorem dX5_one_129 : decode cX5_one 129 = .ok (.istore 5, 2) := dk_54 5 (dk_at dksX5_one_5 11 rfl rfl)
theorem dX5_one_131 : decode cX5_one 131 = .ok (.iinc 6 1, 3) := dk_132 6 1 (dk_at dksX5_one_5 13 rfl rfl)
theorem dX5_one_134 : decode cX5_one 134 = .ok (.goto (-33), 3) := dk_167 255 223 (dk_at dksX5_one_5 16 rfl rfl)
theorem dX5_one_137 : decode cX5_one 137 = .ok (.iload_n 3, 1) := dk_29 (dk_at dksX5_one_5 19 rfl rfl)
theorem dX5_one_138 : decode cX5_one 138 = .ok (.iload 5, 2) := dk_21 5 (dk_at dksX5_one_5 20 rfl rfl)
theorem dX5_one_140 : decode cX5_one 140 = .ok (.ifCond .eq 7, 3) := dk_153 0 7 (dk_at dksX5_one_6 0 rfl rfl)
theorem dX5_one_143 : decode cX5_one 143 = .ok (.iconst 1, 1) := dk_4 (dk_at dksX5_one_6 3 rfl rfl)
theorem dX5_one_144 : decode cX5_one 144 = .ok (.goto 4, 3) := dk_167 0 4 (dk_at dksX5_one_6 4 rfl rfl)
theorem dX5_one_147 : decode cX5_one 147 = .ok (.iconst 0, 1) := dk_3 (dk_at dksX5_one_6 7 rfl rfl)
theorem dX5_one_148 : decode cX5_one 148 = .ok (.iadd, 1) := dk_96 (dk_at dksX5_one_6 8 rfl rfl)
theorem dX5_one_149 : decode cX5_one 149 = .ok (.istore_n 3, 1) := dk_62 (dk_at dksX5_one_6 9 rfl rfl)
theorem dX5_one_150 : decode cX5_one 150 = .ok (.iinc 4 1, 3) := dk_132 4 1 (dk_at dksX5_one_6 10 rfl rfl)
theorem dX5_one_153 : decode cX5_one 153 = .ok (.goto (-66), 3) := dk_167 255 190 (dk_at dksX5_one_6 13 rfl rfl)
theorem dX5_one_156 : decode cX5_one 156 = .ok (.iload_n 3, 1) := dk_29 (dk_at dksX5_one_6 16 rfl rfl)
theorem dX5_one_157 : decode cX5_one 157 = .ok (.ireturn, 1) := dk_172 (dk_at dksX5_one_6 17 rfl rfl)
abbrev cX5_areAlike : ByteArray := prog_17_method_103_code
def yX5_areAlike : MethodName := ⟨RX5, "areAlike", "(II)Z"⟩
def dkwX5_areAlike_2 : List UInt8 := [159, 0, 5, 3, 172, 132, 3, 1, 167, 255, 206, 4, 172]
abbrev dktX5_areAlike_2 : List UInt8 := dkwX5_areAlike_2 ++ []
def dkwX5_areAlike_1 : List UInt8 := [160, 0, 16, 42, 180, 0, 9, 17, 9, 67, 29, 96, 46, 167, 0, 9, 42, 28, 29, 182, 1, 112]
abbrev dktX5_areAlike_1 : List UInt8 := dkwX5_areAlike_1 ++ dktX5_areAlike_2
def dkwX5_areAlike_0 : List UInt8 := [3, 62, 29, 42, 180, 0, 9, 17, 9, 53, 46, 162, 0, 44, 42, 27, 29, 182, 1, 112, 28, 2]
abbrev dktX5_areAlike_0 : List UInt8 := dkwX5_areAlike_0 ++ dktX5_areAlike_1
theorem dksX5_areAlike_0 : cX5_areAlike.data.toList.drop 0 = dktX5_areAlike_0 := by decide +kernel
theorem dksX5_areAlike_1 : cX5_areAlike.data.toList.drop 22 = dktX5_areAlike_1 := dk_seg dksX5_areAlike_0 22 rfl rfl
theorem dksX5_areAlike_2 : cX5_areAlike.data.toList.drop 44 = dktX5_areAlike_2 := dk_seg dksX5_areAlike_1 22 rfl rfl
theorem dX5_areAlike_0 : decode cX5_areAlike 0 = .ok (.iconst 0, 1) := dk_3 (dk_at dksX5_areAlike_0 0 rfl rfl)
theorem dX5_areAlike_1 : decode cX5_areAlike 1 = .ok (.istore_n 3, 1) := dk_62 (dk_at dksX5_areAlike_0 1 rfl rfl)
theorem dX5_areAlike_2 : decode cX5_areAlike 2 = .ok (.iload_n 3, 1) := dk_29 (dk_at dksX5_areAlike_0 2 rfl rfl)
theorem dX5_areAlike_3 : decode cX5_areAlike 3 = .ok (.aload_n 0, 1) := dk_42 (dk_at dksX5_areAlike_0 3 rfl rfl)
theorem dX5_areAlike_4 : decode cX5_areAlike 4 = .ok (.getfield 9, 3) := dk_180 0 9 (dk_at dksX5_areAlike_0 4 rfl rfl)
theorem dX5_areAlike_7 : decode cX5_areAlike 7 = .ok (.sipush 2357, 3) := dk_17 9 53 (dk_at dksX5_areAlike_0 7 rfl rfl)
theorem dX5_areAlike_10 : decode cX5_areAlike 10 = .ok (.iaload, 1) := dk_46 (dk_at dksX5_areAlike_0 10 rfl rfl)
theorem dX5_areAlike_11 : decode cX5_areAlike 11 = .ok (.if_icmp .ge 44, 3) := dk_162 0 44 (dk_at dksX5_areAlike_0 11 rfl rfl)
theorem dX5_areAlike_14 : decode cX5_areAlike 14 = .ok (.aload_n 0, 1) := dk_42 (dk_at dksX5_areAlike_0 14 rfl rfl)
theorem dX5_areAlike_15 : decode cX5_areAlike 15 = .ok (.iload_n 1, 1) := dk_27 (dk_at dksX5_areAlike_0 15 rfl rfl)
theorem dX5_areAlike_16 : decode cX5_areAlike 16 = .ok (.iload_n 3, 1) := dk_29 (dk_at dksX5_areAlike_0 16 rfl rfl)
theorem dX5_areAlike_17 : decode cX5_areAlike 17 = .ok (.invokevirtual 368, 3) := dk_182 1 112 (dk_at dksX5_areAlike_0 17 rfl rfl)
theorem dX5_areAlike_20 : decode cX5_areAlike 20 = .ok (.iload_n 2, 1) := dk_28 (dk_at dksX5_areAlike_0 20 rfl rfl)
theorem dX5_areAlike_21 : decode cX5_areAlike 21 = .ok (.iconst (-1), 1) := dk_2 (dk_at dksX5_areAlike_0 21 rfl rfl)
theorem dX5_areAlike_22 : decode cX5_areAlike 22 = .ok (.if_icmp .ne 16, 3) := dk_160 0 16 (dk_at dksX5_areAlike_1 0 rfl rfl)
theorem dX5_areAlike_25 : decode cX5_areAlike 25 = .ok (.aload_n 0, 1) := dk_42 (dk_at dksX5_areAlike_1 3 rfl rfl)
theorem dX5_areAlike_26 : decode cX5_areAlike 26 = .ok (.getfield 9, 3) := dk_180 0 9 (dk_at dksX5_areAlike_1 4 rfl rfl)
theorem dX5_areAlike_29 : decode cX5_areAlike 29 = .ok (.sipush 2371, 3) := dk_17 9 67 (dk_at dksX5_areAlike_1 7 rfl rfl)
theorem dX5_areAlike_32 : decode cX5_areAlike 32 = .ok (.iload_n 3, 1) := dk_29 (dk_at dksX5_areAlike_1 10 rfl rfl)
theorem dX5_areAlike_33 : decode cX5_areAlike 33 = .ok (.iadd, 1) := dk_96 (dk_at dksX5_areAlike_1 11 rfl rfl)
theorem dX5_areAlike_34 : decode cX5_areAlike 34 = .ok (.iaload, 1) := dk_46 (dk_at dksX5_areAlike_1 12 rfl rfl)
theorem dX5_areAlike_35 : decode cX5_areAlike 35 = .ok (.goto 9, 3) := dk_167 0 9 (dk_at dksX5_areAlike_1 13 rfl rfl)
theorem dX5_areAlike_38 : decode cX5_areAlike 38 = .ok (.aload_n 0, 1) := dk_42 (dk_at dksX5_areAlike_1 16 rfl rfl)
theorem dX5_areAlike_39 : decode cX5_areAlike 39 = .ok (.iload_n 2, 1) := dk_28 (dk_at dksX5_areAlike_1 17 rfl rfl)
theorem dX5_areAlike_40 : decode cX5_areAlike 40 = .ok (.iload_n 3, 1) := dk_29 (dk_at dksX5_areAlike_1 18 rfl rfl)
theorem dX5_areAlike_41 : decode cX5_areAlike 41 = .ok (.invokevirtual 368, 3) := dk_182 1 112 (dk_at dksX5_areAlike_1 19 rfl rfl)
theorem dX5_areAlike_44 : decode cX5_areAlike 44 = .ok (.if_icmp .eq 5, 3) := dk_159 0 5 (dk_at dksX5_areAlike_2 0 rfl rfl)
theorem dX5_areAlike_47 : decode cX5_areAlike 47 = .ok (.iconst 0, 1) := dk_3 (dk_at dksX5_areAlike_2 3 rfl rfl)
theorem dX5_areAlike_48 : decode cX5_areAlike 48 = .ok (.ireturn, 1) := dk_172 (dk_at dksX5_areAlike_2 4 rfl rfl)
theorem dX5_areAlike_49 : decode cX5_areAlike 49 = .ok (.iinc 3 1, 3) := dk_132 3 1 (dk_at dksX5_areAlike_2 5 rfl rfl)
theorem dX5_areAlike_52 : decode cX5_areAlike 52 = .ok (.goto (-50), 3) := dk_167 255 206 (dk_at dksX5_areAlike_2 8 rfl rfl)
theorem dX5_areAlike_55 : decode cX5_areAlike 55 = .ok (.iconst 1, 1) := dk_4 (dk_at dksX5_areAlike_2 11 rfl rfl)
theorem dX5_areAlike_56 : decode cX5_areAlike 56 = .ok (.ireturn, 1) := dk_172 (dk_at dksX5_areAlike_2 12 rfl rfl)
abbrev cX5_otherwise : ByteArray := prog_17_method_102_code
def yX5_otherwise : MethodName := ⟨RX5, "otherwise", "(II)I"⟩
def dkwX5_otherwise_2 : List UInt8 := [21, 4, 172]
abbrev dktX5_otherwise_2 : List UInt8 := dkwX5_otherwise_2 ++ []
def dkwX5_otherwise_1 : List UInt8 := [46, 54, 4, 27, 5, 112, 4, 160, 0, 16, 21, 4, 5, 162, 0, 10, 4, 21, 4, 100, 167, 0, 5]
abbrev dktX5_otherwise_1 : List UInt8 := dkwX5_otherwise_1 ++ dktX5_otherwise_2
def dkwX5_otherwise_0 : List UInt8 := [42, 180, 0, 9, 17, 9, 53, 46, 62, 42, 180, 0, 9, 17, 9, 54, 27, 5, 108, 28, 96, 29, 112, 96]
abbrev dktX5_otherwise_0 : List UInt8 := dkwX5_otherwise_0 ++ dktX5_otherwise_1
theorem dksX5_otherwise_0 : cX5_otherwise.data.toList.drop 0 = dktX5_otherwise_0 := by decide +kernel
theorem dksX5_otherwise_1 : cX5_otherwise.data.toList.drop 24 = dktX5_otherwise_1 := dk_seg dksX5_otherwise_0 24 rfl rfl
theorem dksX5_otherwise_2 : cX5_otherwise.data.toList.drop 47 = dktX5_otherwise_2 := dk_seg dksX5_otherwise_1 23 rfl rfl
theorem dX5_otherwise_0 : decode cX5_otherwise 0 = .ok (.aload_n 0, 1) := dk_42 (dk_at dksX5_otherwise_0 0 rfl rfl)
theorem dX5_otherwise_1 : decode cX5_otherwise 1 = .ok (.getfield 9, 3) := dk_180 0 9 (dk_at dksX5_otherwise_0 1 rfl rfl)
theorem dX5_otherwise_4 : decode cX5_otherwise 4 = .ok (.sipush 2357, 3) := dk_17 9 53 (dk_at dksX5_otherwise_0 4 rfl rfl)
theorem dX5_otherwise_7 : decode cX5_otherwise 7 = .ok (.iaload, 1) := dk_46 (dk_at dksX5_otherwise_0 7 rfl rfl)
theorem dX5_otherwise_8 : decode cX5_otherwise 8 = .ok (.istore_n 3, 1) := dk_62 (dk_at dksX5_otherwise_0 8 rfl rfl)
theorem dX5_otherwise_9 : decode cX5_otherwise 9 = .ok (.aload_n 0, 1) := dk_42 (dk_at dksX5_otherwise_0 9 rfl rfl)
theorem dX5_otherwise_10 : decode cX5_otherwise 10 = .ok (.getfield 9, 3) := dk_180 0 9 (dk_at dksX5_otherwise_0 10 rfl rfl)
theorem dX5_otherwise_13 : decode cX5_otherwise 13 = .ok (.sipush 2358, 3) := dk_17 9 54 (dk_at dksX5_otherwise_0 13 rfl rfl)
theorem dX5_otherwise_16 : decode cX5_otherwise 16 = .ok (.iload_n 1, 1) := dk_27 (dk_at dksX5_otherwise_0 16 rfl rfl)
theorem dX5_otherwise_17 : decode cX5_otherwise 17 = .ok (.iconst 2, 1) := dk_5 (dk_at dksX5_otherwise_0 17 rfl rfl)
theorem dX5_otherwise_18 : decode cX5_otherwise 18 = .ok (.idiv, 1) := dk_108 (dk_at dksX5_otherwise_0 18 rfl rfl)
theorem dX5_otherwise_19 : decode cX5_otherwise 19 = .ok (.iload_n 2, 1) := dk_28 (dk_at dksX5_otherwise_0 19 rfl rfl)
theorem dX5_otherwise_20 : decode cX5_otherwise 20 = .ok (.iadd, 1) := dk_96 (dk_at dksX5_otherwise_0 20 rfl rfl)
theorem dX5_otherwise_21 : decode cX5_otherwise 21 = .ok (.iload_n 3, 1) := dk_29 (dk_at dksX5_otherwise_0 21 rfl rfl)
theorem dX5_otherwise_22 : decode cX5_otherwise 22 = .ok (.irem, 1) := dk_112 (dk_at dksX5_otherwise_0 22 rfl rfl)
theorem dX5_otherwise_23 : decode cX5_otherwise 23 = .ok (.iadd, 1) := dk_96 (dk_at dksX5_otherwise_0 23 rfl rfl)
theorem dX5_otherwise_24 : decode cX5_otherwise 24 = .ok (.iaload, 1) := dk_46 (dk_at dksX5_otherwise_1 0 rfl rfl)
theorem dX5_otherwise_25 : decode cX5_otherwise 25 = .ok (.istore 4, 2) := dk_54 4 (dk_at dksX5_otherwise_1 1 rfl rfl)
theorem dX5_otherwise_27 : decode cX5_otherwise 27 = .ok (.iload_n 1, 1) := dk_27 (dk_at dksX5_otherwise_1 3 rfl rfl)
theorem dX5_otherwise_28 : decode cX5_otherwise 28 = .ok (.iconst 2, 1) := dk_5 (dk_at dksX5_otherwise_1 4 rfl rfl)
theorem dX5_otherwise_29 : decode cX5_otherwise 29 = .ok (.irem, 1) := dk_112 (dk_at dksX5_otherwise_1 5 rfl rfl)
theorem dX5_otherwise_30 : decode cX5_otherwise 30 = .ok (.iconst 1, 1) := dk_4 (dk_at dksX5_otherwise_1 6 rfl rfl)
theorem dX5_otherwise_31 : decode cX5_otherwise 31 = .ok (.if_icmp .ne 16, 3) := dk_160 0 16 (dk_at dksX5_otherwise_1 7 rfl rfl)
theorem dX5_otherwise_34 : decode cX5_otherwise 34 = .ok (.iload 4, 2) := dk_21 4 (dk_at dksX5_otherwise_1 10 rfl rfl)
theorem dX5_otherwise_36 : decode cX5_otherwise 36 = .ok (.iconst 2, 1) := dk_5 (dk_at dksX5_otherwise_1 12 rfl rfl)
theorem dX5_otherwise_37 : decode cX5_otherwise 37 = .ok (.if_icmp .ge 10, 3) := dk_162 0 10 (dk_at dksX5_otherwise_1 13 rfl rfl)
theorem dX5_otherwise_40 : decode cX5_otherwise 40 = .ok (.iconst 1, 1) := dk_4 (dk_at dksX5_otherwise_1 16 rfl rfl)
theorem dX5_otherwise_41 : decode cX5_otherwise 41 = .ok (.iload 4, 2) := dk_21 4 (dk_at dksX5_otherwise_1 17 rfl rfl)
theorem dX5_otherwise_43 : decode cX5_otherwise 43 = .ok (.isub, 1) := dk_100 (dk_at dksX5_otherwise_1 19 rfl rfl)
theorem dX5_otherwise_44 : decode cX5_otherwise 44 = .ok (.goto 5, 3) := dk_167 0 5 (dk_at dksX5_otherwise_1 20 rfl rfl)
theorem dX5_otherwise_47 : decode cX5_otherwise 47 = .ok (.iload 4, 2) := dk_21 4 (dk_at dksX5_otherwise_2 0 rfl rfl)
theorem dX5_otherwise_49 : decode cX5_otherwise 49 = .ok (.ireturn, 1) := dk_172 (dk_at dksX5_otherwise_2 2 rfl rfl)
abbrev cX5_move : ByteArray := prog_17_method_105_code
def yX5_move : MethodName := ⟨RX5, "move", "(I)I"⟩
def dkwX5_move_3 : List UInt8 := [2, 160, 0, 7, 3, 167, 0, 4, 4, 96, 79, 42, 180, 0, 9, 17, 9, 79, 46, 172]
abbrev dktX5_move_3 : List UInt8 := dkwX5_move_3 ++ []
def dkwX5_move_2 : List UInt8 := [17, 9, 80, 42, 180, 0, 9, 17, 9, 79, 46, 96, 27, 79, 42, 180, 0, 9, 17, 9, 79, 92, 46, 27]
abbrev dktX5_move_2 : List UInt8 := dkwX5_move_2 ++ dktX5_move_3
def dkwX5_move_1 : List UInt8 := [79, 167, 0, 36, 42, 180, 0, 9, 17, 9, 79, 46, 16, 24, 160, 0, 5, 2, 172, 42, 180, 0, 9]
abbrev dktX5_move_1 : List UInt8 := dkwX5_move_1 ++ dktX5_move_2
def dkwX5_move_0 : List UInt8 := [27, 2, 5, 184, 0, 100, 154, 0, 5, 2, 172, 27, 2, 160, 0, 15, 42, 180, 0, 9, 17, 9, 79, 3]
abbrev dktX5_move_0 : List UInt8 := dkwX5_move_0 ++ dktX5_move_1
theorem dksX5_move_0 : cX5_move.data.toList.drop 0 = dktX5_move_0 := by decide +kernel
theorem dksX5_move_1 : cX5_move.data.toList.drop 24 = dktX5_move_1 := dk_seg dksX5_move_0 24 rfl rfl
theorem dksX5_move_2 : cX5_move.data.toList.drop 47 = dktX5_move_2 := dk_seg dksX5_move_1 23 rfl rfl
theorem dksX5_move_3 : cX5_move.data.toList.drop 71 = dktX5_move_3 := dk_seg dksX5_move_2 24 rfl rfl
theorem dX5_move_0 : decode cX5_move 0 = .ok (.iload_n 1, 1) := dk_27 (dk_at dksX5_move_0 0 rfl rfl)
theorem dX5_move_1 : decode cX5_move 1 = .ok (.iconst (-1), 1) := dk_2 (dk_at dksX5_move_0 1 rfl rfl)
theorem dX5_move_2 : decode cX5_move 2 = .ok (.iconst 2, 1) := dk_5 (dk_at dksX5_move_0 2 rfl rfl)
theorem dX5_move_3 : decode cX5_move 3 = .ok (.invokestatic 100, 3) := dk_184 0 100 (dk_at dksX5_move_0 3 rfl rfl)
theorem dX5_move_6 : decode cX5_move 6 = .ok (.ifCond .ne 5, 3) := dk_154 0 5 (dk_at dksX5_move_0 6 rfl rfl)
theorem dX5_move_9 : decode cX5_move 9 = .ok (.iconst (-1), 1) := dk_2 (dk_at dksX5_move_0 9 rfl rfl)
theorem dX5_move_10 : decode cX5_move 10 = .ok (.ireturn, 1) := dk_172 (dk_at dksX5_move_0 10 rfl rfl)
theorem dX5_move_11 : decode cX5_move 11 = .ok (.iload_n 1, 1) := dk_27 (dk_at dksX5_move_0 11 rfl rfl)
theorem dX5_move_12 : decode cX5_move 12 = .ok (.iconst (-1), 1) := dk_2 (dk_at dksX5_move_0 12 rfl rfl)
theorem dX5_move_13 : decode cX5_move 13 = .ok (.if_icmp .ne 15, 3) := dk_160 0 15 (dk_at dksX5_move_0 13 rfl rfl)
theorem dX5_move_16 : decode cX5_move 16 = .ok (.aload_n 0, 1) := dk_42 (dk_at dksX5_move_0 16 rfl rfl)
theorem dX5_move_17 : decode cX5_move 17 = .ok (.getfield 9, 3) := dk_180 0 9 (dk_at dksX5_move_0 17 rfl rfl)
theorem dX5_move_20 : decode cX5_move 20 = .ok (.sipush 2383, 3) := dk_17 9 79 (dk_at dksX5_move_0 20 rfl rfl)
theorem dX5_move_23 : decode cX5_move 23 = .ok (.iconst 0, 1) := dk_3 (dk_at dksX5_move_0 23 rfl rfl)
theorem dX5_move_24 : decode cX5_move 24 = .ok (.iastore, 1) := dk_79 (dk_at dksX5_move_1 0 rfl rfl)
theorem dX5_move_25 : decode cX5_move 25 = .ok (.goto 36, 3) := dk_167 0 36 (dk_at dksX5_move_1 1 rfl rfl)
theorem dX5_move_28 : decode cX5_move 28 = .ok (.aload_n 0, 1) := dk_42 (dk_at dksX5_move_1 4 rfl rfl)
theorem dX5_move_29 : decode cX5_move 29 = .ok (.getfield 9, 3) := dk_180 0 9 (dk_at dksX5_move_1 5 rfl rfl)
theorem dX5_move_32 : decode cX5_move 32 = .ok (.sipush 2383, 3) := dk_17 9 79 (dk_at dksX5_move_1 8 rfl rfl)
theorem dX5_move_35 : decode cX5_move 35 = .ok (.iaload, 1) := dk_46 (dk_at dksX5_move_1 11 rfl rfl)
theorem dX5_move_36 : decode cX5_move 36 = .ok (.bipush 24, 2) := dk_16 24 (dk_at dksX5_move_1 12 rfl rfl)
theorem dX5_move_38 : decode cX5_move 38 = .ok (.if_icmp .ne 5, 3) := dk_160 0 5 (dk_at dksX5_move_1 14 rfl rfl)
theorem dX5_move_41 : decode cX5_move 41 = .ok (.iconst (-1), 1) := dk_2 (dk_at dksX5_move_1 17 rfl rfl)
theorem dX5_move_42 : decode cX5_move 42 = .ok (.ireturn, 1) := dk_172 (dk_at dksX5_move_1 18 rfl rfl)
theorem dX5_move_43 : decode cX5_move 43 = .ok (.aload_n 0, 1) := dk_42 (dk_at dksX5_move_1 19 rfl rfl)
theorem dX5_move_44 : decode cX5_move 44 = .ok (.getfield 9, 3) := dk_180 0 9 (dk_at dksX5_move_1 20 rfl rfl)
theorem dX5_move_47 : decode cX5_move 47 = .ok (.sipush 2384, 3) := dk_17 9 80 (dk_at dksX5_move_2 0 rfl rfl)
theorem dX5_move_50 : decode cX5_move 50 = .ok (.aload_n 0, 1) := dk_42 (dk_at dksX5_move_2 3 rfl rfl)
theorem dX5_move_51 : decode cX5_move 51 = .ok (.getfield 9, 3) := dk_180 0 9 (dk_at dksX5_move_2 4 rfl rfl)
theorem dX5_move_54 : decode cX5_move 54 = .ok (.sipush 2383, 3) := dk_17 9 79 (dk_at dksX5_move_2 7 rfl rfl)
theorem dX5_move_57 : decode cX5_move 57 = .ok (.iaload, 1) := dk_46 (dk_at dksX5_move_2 10 rfl rfl)
theorem dX5_move_58 : decode cX5_move 58 = .ok (.iadd, 1) := dk_96 (dk_at dksX5_move_2 11 rfl rfl)
theorem dX5_move_59 : decode cX5_move 59 = .ok (.iload_n 1, 1) := dk_27 (dk_at dksX5_move_2 12 rfl rfl)
theorem dX5_move_60 : decode cX5_move 60 = .ok (.iastore, 1) := dk_79 (dk_at dksX5_move_2 13 rfl rfl)
theorem dX5_move_61 : decode cX5_move 61 = .ok (.aload_n 0, 1) := dk_42 (dk_at dksX5_move_2 14 rfl rfl)
theorem dX5_move_62 : decode cX5_move 62 = .ok (.getfield 9, 3) := dk_180 0 9 (dk_at dksX5_move_2 15 rfl rfl)
theorem dX5_move_65 : decode cX5_move 65 = .ok (.sipush 2383, 3) := dk_17 9 79 (dk_at dksX5_move_2 18 rfl rfl)
theorem dX5_move_68 : decode cX5_move 68 = .ok (.dup2, 1) := dk_92 (dk_at dksX5_move_2 21 rfl rfl)
theorem dX5_move_69 : decode cX5_move 69 = .ok (.iaload, 1) := dk_46 (dk_at dksX5_move_2 22 rfl rfl)
theorem dX5_move_70 : decode cX5_move 70 = .ok (.iload_n 1, 1) := dk_27 (dk_at dksX5_move_2 23 rfl rfl)
theorem dX5_move_71 : decode cX5_move 71 = .ok (.iconst (-1), 1) := dk_2 (dk_at dksX5_move_3 0 rfl rfl)
theorem dX5_move_72 : decode cX5_move 72 = .ok (.if_icmp .ne 7, 3) := dk_160 0 7 (dk_at dksX5_move_3 1 rfl rfl)
theorem dX5_move_75 : decode cX5_move 75 = .ok (.iconst 0, 1) := dk_3 (dk_at dksX5_move_3 4 rfl rfl)
theorem dX5_move_76 : decode cX5_move 76 = .ok (.goto 4, 3) := dk_167 0 4 (dk_at dksX5_move_3 5 rfl rfl)
theorem dX5_move_79 : decode cX5_move 79 = .ok (.iconst 1, 1) := dk_4 (dk_at dksX5_move_3 8 rfl rfl)
theorem dX5_move_80 : decode cX5_move 80 = .ok (.iadd, 1) := dk_96 (dk_at dksX5_move_3 9 rfl rfl)
theorem dX5_move_81 : decode cX5_move 81 = .ok (.iastore, 1) := dk_79 (dk_at dksX5_move_3 10 rfl rfl)
theorem dX5_move_82 : decode cX5_move 82 = .ok (.aload_n 0, 1) := dk_42 (dk_at dksX5_move_3 11 rfl rfl)
theorem dX5_move_83 : decode cX5_move 83 = .ok (.getfield 9, 3) := dk_180 0 9 (dk_at dksX5_move_3 12 rfl rfl)
theorem dX5_move_86 : decode cX5_move 86 = .ok (.sipush 2383, 3) := dk_17 9 79 (dk_at dksX5_move_3 15 rfl rfl)
theorem dX5_move_89 : decode cX5_move 89 = .ok (.iaload, 1) := dk_46 (dk_at dksX5_move_3 18 rfl rfl)
theorem dX5_move_90 : decode cX5_move 90 = .ok (.ireturn, 1) := dk_172 (dk_at dksX5_move_3 19 rfl rfl)
abbrev cX5_round : ByteArray := prog_17_method_108_code
def yX5_round : MethodName := ⟨RX5, "round", "(I)I"⟩
def dkwX5_round_3 : List UInt8 := [42, 182, 1, 130, 167, 0, 18, 28, 154, 0, 13, 42, 180, 1, 124, 184, 1, 103, 167, 0, 4, 2, 172]
abbrev dktX5_round_3 : List UInt8 := dkwX5_round_3 ++ []
def dkwX5_round_2 : List UInt8 := [154, 0, 10, 42, 180, 1, 121, 167, 0, 39, 27, 4, 160, 0, 7, 28, 167, 0, 30, 27, 5, 160, 0, 10]
abbrev dktX5_round_2 : List UInt8 := dkwX5_round_2 ++ dktX5_round_3
def dkwX5_round_1 : List UInt8 := [4, 100, 46, 184, 1, 103, 42, 180, 0, 56, 42, 180, 1, 118, 4, 100, 46, 184, 1, 103, 96, 61, 27]
abbrev dktX5_round_1 : List UInt8 := dkwX5_round_1 ++ dktX5_round_2
def dkwX5_round_0 : List UInt8 := [27, 3, 6, 184, 0, 100, 154, 0, 6, 16, 156, 172, 42, 182, 1, 127, 42, 180, 0, 53, 42, 180, 1, 118]
abbrev dktX5_round_0 : List UInt8 := dkwX5_round_0 ++ dktX5_round_1
theorem dksX5_round_0 : cX5_round.data.toList.drop 0 = dktX5_round_0 := by decide +kernel
theorem dksX5_round_1 : cX5_round.data.toList.drop 24 = dktX5_round_1 := dk_seg dksX5_round_0 24 rfl rfl
theorem dksX5_round_2 : cX5_round.data.toList.drop 47 = dktX5_round_2 := dk_seg dksX5_round_1 23 rfl rfl
theorem dksX5_round_3 : cX5_round.data.toList.drop 71 = dktX5_round_3 := dk_seg dksX5_round_2 24 rfl rfl
theorem dX5_round_0 : decode cX5_round 0 = .ok (.iload_n 1, 1) := dk_27 (dk_at dksX5_round_0 0 rfl rfl)
theorem dX5_round_1 : decode cX5_round 1 = .ok (.iconst 0, 1) := dk_3 (dk_at dksX5_round_0 1 rfl rfl)
theorem dX5_round_2 : decode cX5_round 2 = .ok (.iconst 3, 1) := dk_6 (dk_at dksX5_round_0 2 rfl rfl)
theorem dX5_round_3 : decode cX5_round 3 = .ok (.invokestatic 100, 3) := dk_184 0 100 (dk_at dksX5_round_0 3 rfl rfl)
theorem dX5_round_6 : decode cX5_round 6 = .ok (.ifCond .ne 6, 3) := dk_154 0 6 (dk_at dksX5_round_0 6 rfl rfl)
theorem dX5_round_9 : decode cX5_round 9 = .ok (.bipush (-100), 2) := dk_16 156 (dk_at dksX5_round_0 9 rfl rfl)
theorem dX5_round_11 : decode cX5_round 11 = .ok (.ireturn, 1) := dk_172 (dk_at dksX5_round_0 11 rfl rfl)
theorem dX5_round_12 : decode cX5_round 12 = .ok (.aload_n 0, 1) := dk_42 (dk_at dksX5_round_0 12 rfl rfl)
theorem dX5_round_13 : decode cX5_round 13 = .ok (.invokevirtual 383, 3) := dk_182 1 127 (dk_at dksX5_round_0 13 rfl rfl)
theorem dX5_round_16 : decode cX5_round 16 = .ok (.aload_n 0, 1) := dk_42 (dk_at dksX5_round_0 16 rfl rfl)
theorem dX5_round_17 : decode cX5_round 17 = .ok (.getfield 53, 3) := dk_180 0 53 (dk_at dksX5_round_0 17 rfl rfl)
theorem dX5_round_20 : decode cX5_round 20 = .ok (.aload_n 0, 1) := dk_42 (dk_at dksX5_round_0 20 rfl rfl)
theorem dX5_round_21 : decode cX5_round 21 = .ok (.getfield 374, 3) := dk_180 1 118 (dk_at dksX5_round_0 21 rfl rfl)
theorem dX5_round_24 : decode cX5_round 24 = .ok (.iconst 1, 1) := dk_4 (dk_at dksX5_round_1 0 rfl rfl)
theorem dX5_round_25 : decode cX5_round 25 = .ok (.isub, 1) := dk_100 (dk_at dksX5_round_1 1 rfl rfl)
theorem dX5_round_26 : decode cX5_round 26 = .ok (.iaload, 1) := dk_46 (dk_at dksX5_round_1 2 rfl rfl)
theorem dX5_round_27 : decode cX5_round 27 = .ok (.invokestatic 359, 3) := dk_184 1 103 (dk_at dksX5_round_1 3 rfl rfl)
theorem dX5_round_30 : decode cX5_round 30 = .ok (.aload_n 0, 1) := dk_42 (dk_at dksX5_round_1 6 rfl rfl)
theorem dX5_round_31 : decode cX5_round 31 = .ok (.getfield 56, 3) := dk_180 0 56 (dk_at dksX5_round_1 7 rfl rfl)
theorem dX5_round_34 : decode cX5_round 34 = .ok (.aload_n 0, 1) := dk_42 (dk_at dksX5_round_1 10 rfl rfl)
theorem dX5_round_35 : decode cX5_round 35 = .ok (.getfield 374, 3) := dk_180 1 118 (dk_at dksX5_round_1 11 rfl rfl)
theorem dX5_round_38 : decode cX5_round 38 = .ok (.iconst 1, 1) := dk_4 (dk_at dksX5_round_1 14 rfl rfl)
theorem dX5_round_39 : decode cX5_round 39 = .ok (.isub, 1) := dk_100 (dk_at dksX5_round_1 15 rfl rfl)
theorem dX5_round_40 : decode cX5_round 40 = .ok (.iaload, 1) := dk_46 (dk_at dksX5_round_1 16 rfl rfl)
theorem dX5_round_41 : decode cX5_round 41 = .ok (.invokestatic 359, 3) := dk_184 1 103 (dk_at dksX5_round_1 17 rfl rfl)
theorem dX5_round_44 : decode cX5_round 44 = .ok (.iadd, 1) := dk_96 (dk_at dksX5_round_1 20 rfl rfl)
theorem dX5_round_45 : decode cX5_round 45 = .ok (.istore_n 2, 1) := dk_61 (dk_at dksX5_round_1 21 rfl rfl)
theorem dX5_round_46 : decode cX5_round 46 = .ok (.iload_n 1, 1) := dk_27 (dk_at dksX5_round_1 22 rfl rfl)
theorem dX5_round_47 : decode cX5_round 47 = .ok (.ifCond .ne 10, 3) := dk_154 0 10 (dk_at dksX5_round_2 0 rfl rfl)
theorem dX5_round_50 : decode cX5_round 50 = .ok (.aload_n 0, 1) := dk_42 (dk_at dksX5_round_2 3 rfl rfl)
theorem dX5_round_51 : decode cX5_round 51 = .ok (.getfield 377, 3) := dk_180 1 121 (dk_at dksX5_round_2 4 rfl rfl)
theorem dX5_round_54 : decode cX5_round 54 = .ok (.goto 39, 3) := dk_167 0 39 (dk_at dksX5_round_2 7 rfl rfl)
theorem dX5_round_57 : decode cX5_round 57 = .ok (.iload_n 1, 1) := dk_27 (dk_at dksX5_round_2 10 rfl rfl)
theorem dX5_round_58 : decode cX5_round 58 = .ok (.iconst 1, 1) := dk_4 (dk_at dksX5_round_2 11 rfl rfl)
theorem dX5_round_59 : decode cX5_round 59 = .ok (.if_icmp .ne 7, 3) := dk_160 0 7 (dk_at dksX5_round_2 12 rfl rfl)
theorem dX5_round_62 : decode cX5_round 62 = .ok (.iload_n 2, 1) := dk_28 (dk_at dksX5_round_2 15 rfl rfl)
theorem dX5_round_63 : decode cX5_round 63 = .ok (.goto 30, 3) := dk_167 0 30 (dk_at dksX5_round_2 16 rfl rfl)
theorem dX5_round_66 : decode cX5_round 66 = .ok (.iload_n 1, 1) := dk_27 (dk_at dksX5_round_2 19 rfl rfl)
theorem dX5_round_67 : decode cX5_round 67 = .ok (.iconst 2, 1) := dk_5 (dk_at dksX5_round_2 20 rfl rfl)
theorem dX5_round_68 : decode cX5_round 68 = .ok (.if_icmp .ne 10, 3) := dk_160 0 10 (dk_at dksX5_round_2 21 rfl rfl)
theorem dX5_round_71 : decode cX5_round 71 = .ok (.aload_n 0, 1) := dk_42 (dk_at dksX5_round_3 0 rfl rfl)
theorem dX5_round_72 : decode cX5_round 72 = .ok (.invokevirtual 386, 3) := dk_182 1 130 (dk_at dksX5_round_3 1 rfl rfl)
theorem dX5_round_75 : decode cX5_round 75 = .ok (.goto 18, 3) := dk_167 0 18 (dk_at dksX5_round_3 4 rfl rfl)
theorem dX5_round_78 : decode cX5_round 78 = .ok (.iload_n 2, 1) := dk_28 (dk_at dksX5_round_3 7 rfl rfl)
theorem dX5_round_79 : decode cX5_round 79 = .ok (.ifCond .ne 13, 3) := dk_154 0 13 (dk_at dksX5_round_3 8 rfl rfl)
theorem dX5_round_82 : decode cX5_round 82 = .ok (.aload_n 0, 1) := dk_42 (dk_at dksX5_round_3 11 rfl rfl)
theorem dX5_round_83 : decode cX5_round 83 = .ok (.getfield 380, 3) := dk_180 1 124 (dk_at dksX5_round_3 12 rfl rfl)
theorem dX5_round_86 : decode cX5_round 86 = .ok (.invokestatic 359, 3) := dk_184 1 103 (dk_at dksX5_round_3 15 rfl rfl)
theorem dX5_round_89 : decode cX5_round 89 = .ok (.goto 4, 3) := dk_167 0 4 (dk_at dksX5_round_3 18 rfl rfl)
theorem dX5_round_92 : decode cX5_round 92 = .ok (.iconst (-1), 1) := dk_2 (dk_at dksX5_round_3 21 rfl rfl)
theorem dX5_round_93 : decode cX5_round 93 = .ok (.ireturn, 1) := dk_172 (dk_at dksX5_round_3 22 rfl rfl)
abbrev cX5_goesRound : ByteArray := prog_17_method_106_code
def yX5_goesRound : MethodName := ⟨RX5, "goesRound", "()V"⟩
def dkwX5_goesRound_9 : List UInt8 := [132, 1, 1, 167, 255, 73, 177]
abbrev dktX5_goesRound_9 : List UInt8 := dkwX5_goesRound_9 ++ []
def dkwX5_goesRound_8 : List UInt8 := [180, 1, 118, 4, 100, 46, 104, 100, 96, 181, 1, 124, 42, 89, 180, 1, 118, 4, 96, 181, 1, 118]
abbrev dktX5_goesRound_8 : List UInt8 := dkwX5_goesRound_8 ++ dktX5_goesRound_9
def dkwX5_goesRound_7 : List UInt8 := [42, 180, 0, 56, 42, 180, 1, 118, 46, 104, 42, 180, 0, 53, 42, 180, 1, 118, 46, 42, 180, 0, 56, 42]
abbrev dktX5_goesRound_7 : List UInt8 := dkwX5_goesRound_7 ++ dktX5_goesRound_8
def dkwX5_goesRound_6 : List UInt8 := [100, 46, 29, 184, 1, 32, 96, 79, 42, 89, 180, 1, 124, 42, 180, 0, 53, 42, 180, 1, 118, 4, 100, 46]
abbrev dktX5_goesRound_6 : List UInt8 := dkwX5_goesRound_6 ++ dktX5_goesRound_7
def dkwX5_goesRound_5 : List UInt8 := [46, 29, 184, 1, 29, 96, 79, 42, 180, 0, 56, 42, 180, 1, 118, 42, 180, 0, 56, 42, 180, 1, 118, 4]
abbrev dktX5_goesRound_5 : List UInt8 := dkwX5_goesRound_5 ++ dktX5_goesRound_6
def dkwX5_goesRound_4 : List UInt8 := [16, 24, 96, 7, 112, 62, 42, 180, 0, 53, 42, 180, 1, 118, 42, 180, 0, 53, 42, 180, 1, 118, 4, 100]
abbrev dktX5_goesRound_4 : List UInt8 := dkwX5_goesRound_4 ++ dktX5_goesRound_5
def dkwX5_goesRound_3 : List UInt8 := [160, 0, 7, 2, 167, 0, 4, 3, 96, 181, 1, 121, 28, 153, 0, 6, 167, 0, 125, 42, 180, 1, 121]
abbrev dktX5_goesRound_3 : List UInt8 := dkwX5_goesRound_3 ++ dktX5_goesRound_4
def dkwX5_goesRound_2 : List UInt8 := [17, 9, 80, 27, 96, 46, 61, 42, 89, 180, 1, 121, 28, 5, 160, 0, 7, 4, 167, 0, 13, 28, 4]
abbrev dktX5_goesRound_2 : List UInt8 := dkwX5_goesRound_2 ++ dktX5_goesRound_3
def dkwX5_goesRound_1 : List UInt8 := [42, 3, 181, 1, 124, 3, 60, 27, 42, 180, 0, 9, 17, 9, 79, 46, 162, 0, 177, 42, 180, 0, 9]
abbrev dktX5_goesRound_1 : List UInt8 := dkwX5_goesRound_1 ++ dktX5_goesRound_2
def dkwX5_goesRound_0 : List UInt8 := [42, 4, 181, 1, 118, 42, 180, 0, 53, 3, 3, 79, 42, 180, 0, 56, 3, 3, 79, 42, 3, 181, 1, 121]
abbrev dktX5_goesRound_0 : List UInt8 := dkwX5_goesRound_0 ++ dktX5_goesRound_1
theorem dksX5_goesRound_0 : cX5_goesRound.data.toList.drop 0 = dktX5_goesRound_0 := by decide +kernel
theorem dksX5_goesRound_1 : cX5_goesRound.data.toList.drop 24 = dktX5_goesRound_1 := dk_seg dksX5_goesRound_0 24 rfl rfl
theorem dksX5_goesRound_2 : cX5_goesRound.data.toList.drop 47 = dktX5_goesRound_2 := dk_seg dksX5_goesRound_1 23 rfl rfl
theorem dksX5_goesRound_3 : cX5_goesRound.data.toList.drop 70 = dktX5_goesRound_3 := dk_seg dksX5_goesRound_2 23 rfl rfl
theorem dksX5_goesRound_4 : cX5_goesRound.data.toList.drop 93 = dktX5_goesRound_4 := dk_seg dksX5_goesRound_3 23 rfl rfl
theorem dksX5_goesRound_5 : cX5_goesRound.data.toList.drop 117 = dktX5_goesRound_5 := dk_seg dksX5_goesRound_4 24 rfl rfl
theorem dksX5_goesRound_6 : cX5_goesRound.data.toList.drop 141 = dktX5_goesRound_6 := dk_seg dksX5_goesRound_5 24 rfl rfl
theorem dksX5_goesRound_7 : cX5_goesRound.data.toList.drop 165 = dktX5_goesRound_7 := dk_seg dksX5_goesRound_6 24 rfl rfl
theorem dksX5_goesRound_8 : cX5_goesRound.data.toList.drop 189 = dktX5_goesRound_8 := dk_seg dksX5_goesRound_7 24 rfl rfl
theorem dksX5_goesRound_9 : cX5_goesRound.data.toList.drop 211 = dktX5_goesRound_9 := dk_seg dksX5_goesRound_8 22 rfl rfl
theorem dX5_goesRound_0 : decode cX5_goesRound 0 = .ok (.aload_n 0, 1) := dk_42 (dk_at dksX5_goesRound_0 0 rfl rfl)
theorem dX5_goesRound_1 : decode cX5_goesRound 1 = .ok (.iconst 1, 1) := dk_4 (dk_at dksX5_goesRound_0 1 rfl rfl)
theorem dX5_goesRound_2 : decode cX5_goesRound 2 = .ok (.putfield 374, 3) := dk_181 1 118 (dk_at dksX5_goesRound_0 2 rfl rfl)
theorem dX5_goesRound_5 : decode cX5_goesRound 5 = .ok (.aload_n 0, 1) := dk_42 (dk_at dksX5_goesRound_0 5 rfl rfl)
theorem dX5_goesRound_6 : decode cX5_goesRound 6 = .ok (.getfield 53, 3) := dk_180 0 53 (dk_at dksX5_goesRound_0 6 rfl rfl)
theorem dX5_goesRound_9 : decode cX5_goesRound 9 = .ok (.iconst 0, 1) := dk_3 (dk_at dksX5_goesRound_0 9 rfl rfl)
theorem dX5_goesRound_10 : decode cX5_goesRound 10 = .ok (.iconst 0, 1) := dk_3 (dk_at dksX5_goesRound_0 10 rfl rfl)
theorem dX5_goesRound_11 : decode cX5_goesRound 11 = .ok (.iastore, 1) := dk_79 (dk_at dksX5_goesRound_0 11 rfl rfl)
theorem dX5_goesRound_12 : decode cX5_goesRound 12 = .ok (.aload_n 0, 1) := dk_42 (dk_at dksX5_goesRound_0 12 rfl rfl)
theorem dX5_goesRound_13 : decode cX5_goesRound 13 = .ok (.getfield 56, 3) := dk_180 0 56 (dk_at dksX5_goesRound_0 13 rfl rfl)
theorem dX5_goesRound_16 : decode cX5_goesRound 16 = .ok (.iconst 0, 1) := dk_3 (dk_at dksX5_goesRound_0 16 rfl rfl)
theorem dX5_goesRound_17 : decode cX5_goesRound 17 = .ok (.iconst 0, 1) := dk_3 (dk_at dksX5_goesRound_0 17 rfl rfl)
theorem dX5_goesRound_18 : decode cX5_goesRound 18 = .ok (.iastore, 1) := dk_79 (dk_at dksX5_goesRound_0 18 rfl rfl)
theorem dX5_goesRound_19 : decode cX5_goesRound 19 = .ok (.aload_n 0, 1) := dk_42 (dk_at dksX5_goesRound_0 19 rfl rfl)
theorem dX5_goesRound_20 : decode cX5_goesRound 20 = .ok (.iconst 0, 1) := dk_3 (dk_at dksX5_goesRound_0 20 rfl rfl)
theorem dX5_goesRound_21 : decode cX5_goesRound 21 = .ok (.putfield 377, 3) := dk_181 1 121 (dk_at dksX5_goesRound_0 21 rfl rfl)
theorem dX5_goesRound_24 : decode cX5_goesRound 24 = .ok (.aload_n 0, 1) := dk_42 (dk_at dksX5_goesRound_1 0 rfl rfl)
theorem dX5_goesRound_25 : decode cX5_goesRound 25 = .ok (.iconst 0, 1) := dk_3 (dk_at dksX5_goesRound_1 1 rfl rfl)
theorem dX5_goesRound_26 : decode cX5_goesRound 26 = .ok (.putfield 380, 3) := dk_181 1 124 (dk_at dksX5_goesRound_1 2 rfl rfl)
theorem dX5_goesRound_29 : decode cX5_goesRound 29 = .ok (.iconst 0, 1) := dk_3 (dk_at dksX5_goesRound_1 5 rfl rfl)
theorem dX5_goesRound_30 : decode cX5_goesRound 30 = .ok (.istore_n 1, 1) := dk_60 (dk_at dksX5_goesRound_1 6 rfl rfl)
theorem dX5_goesRound_31 : decode cX5_goesRound 31 = .ok (.iload_n 1, 1) := dk_27 (dk_at dksX5_goesRound_1 7 rfl rfl)
theorem dX5_goesRound_32 : decode cX5_goesRound 32 = .ok (.aload_n 0, 1) := dk_42 (dk_at dksX5_goesRound_1 8 rfl rfl)
theorem dX5_goesRound_33 : decode cX5_goesRound 33 = .ok (.getfield 9, 3) := dk_180 0 9 (dk_at dksX5_goesRound_1 9 rfl rfl)
theorem dX5_goesRound_36 : decode cX5_goesRound 36 = .ok (.sipush 2383, 3) := dk_17 9 79 (dk_at dksX5_goesRound_1 12 rfl rfl)
theorem dX5_goesRound_39 : decode cX5_goesRound 39 = .ok (.iaload, 1) := dk_46 (dk_at dksX5_goesRound_1 15 rfl rfl)
theorem dX5_goesRound_40 : decode cX5_goesRound 40 = .ok (.if_icmp .ge 177, 3) := dk_162 0 177 (dk_at dksX5_goesRound_1 16 rfl rfl)
theorem dX5_goesRound_43 : decode cX5_goesRound 43 = .ok (.aload_n 0, 1) := dk_42 (dk_at dksX5_goesRound_1 19 rfl rfl)
theorem dX5_goesRound_44 : decode cX5_goesRound 44 = .ok (.getfield 9, 3) := dk_180 0 9 (dk_at dksX5_goesRound_1 20 rfl rfl)
theorem dX5_goesRound_47 : decode cX5_goesRound 47 = .ok (.sipush 2384, 3) := dk_17 9 80 (dk_at dksX5_goesRound_2 0 rfl rfl)
theorem dX5_goesRound_50 : decode cX5_goesRound 50 = .ok (.iload_n 1, 1) := dk_27 (dk_at dksX5_goesRound_2 3 rfl rfl)
theorem dX5_goesRound_51 : decode cX5_goesRound 51 = .ok (.iadd, 1) := dk_96 (dk_at dksX5_goesRound_2 4 rfl rfl)
theorem dX5_goesRound_52 : decode cX5_goesRound 52 = .ok (.iaload, 1) := dk_46 (dk_at dksX5_goesRound_2 5 rfl rfl)
theorem dX5_goesRound_53 : decode cX5_goesRound 53 = .ok (.istore_n 2, 1) := dk_61 (dk_at dksX5_goesRound_2 6 rfl rfl)
theorem dX5_goesRound_54 : decode cX5_goesRound 54 = .ok (.aload_n 0, 1) := dk_42 (dk_at dksX5_goesRound_2 7 rfl rfl)
theorem dX5_goesRound_55 : decode cX5_goesRound 55 = .ok (.dup, 1) := dk_89 (dk_at dksX5_goesRound_2 8 rfl rfl)
theorem dX5_goesRound_56 : decode cX5_goesRound 56 = .ok (.getfield 377, 3) := dk_180 1 121 (dk_at dksX5_goesRound_2 9 rfl rfl)
theorem dX5_goesRound_59 : decode cX5_goesRound 59 = .ok (.iload_n 2, 1) := dk_28 (dk_at dksX5_goesRound_2 12 rfl rfl)
theorem dX5_goesRound_60 : decode cX5_goesRound 60 = .ok (.iconst 2, 1) := dk_5 (dk_at dksX5_goesRound_2 13 rfl rfl)
theorem dX5_goesRound_61 : decode cX5_goesRound 61 = .ok (.if_icmp .ne 7, 3) := dk_160 0 7 (dk_at dksX5_goesRound_2 14 rfl rfl)
theorem dX5_goesRound_64 : decode cX5_goesRound 64 = .ok (.iconst 1, 1) := dk_4 (dk_at dksX5_goesRound_2 17 rfl rfl)
theorem dX5_goesRound_65 : decode cX5_goesRound 65 = .ok (.goto 13, 3) := dk_167 0 13 (dk_at dksX5_goesRound_2 18 rfl rfl)
theorem dX5_goesRound_68 : decode cX5_goesRound 68 = .ok (.iload_n 2, 1) := dk_28 (dk_at dksX5_goesRound_2 21 rfl rfl)
theorem dX5_goesRound_69 : decode cX5_goesRound 69 = .ok (.iconst 1, 1) := dk_4 (dk_at dksX5_goesRound_2 22 rfl rfl)
theorem dX5_goesRound_70 : decode cX5_goesRound 70 = .ok (.if_icmp .ne 7, 3) := dk_160 0 7 (dk_at dksX5_goesRound_3 0 rfl rfl)
theorem dX5_goesRound_73 : decode cX5_goesRound 73 = .ok (.iconst (-1), 1) := dk_2 (dk_at dksX5_goesRound_3 3 rfl rfl)
theorem dX5_goesRound_74 : decode cX5_goesRound 74 = .ok (.goto 4, 3) := dk_167 0 4 (dk_at dksX5_goesRound_3 4 rfl rfl)
theorem dX5_goesRound_77 : decode cX5_goesRound 77 = .ok (.iconst 0, 1) := dk_3 (dk_at dksX5_goesRound_3 7 rfl rfl)
theorem dX5_goesRound_78 : decode cX5_goesRound 78 = .ok (.iadd, 1) := dk_96 (dk_at dksX5_goesRound_3 8 rfl rfl)
theorem dX5_goesRound_79 : decode cX5_goesRound 79 = .ok (.putfield 377, 3) := dk_181 1 121 (dk_at dksX5_goesRound_3 9 rfl rfl)
theorem dX5_goesRound_82 : decode cX5_goesRound 82 = .ok (.iload_n 2, 1) := dk_28 (dk_at dksX5_goesRound_3 12 rfl rfl)
theorem dX5_goesRound_83 : decode cX5_goesRound 83 = .ok (.ifCond .eq 6, 3) := dk_153 0 6 (dk_at dksX5_goesRound_3 13 rfl rfl)
theorem dX5_goesRound_86 : decode cX5_goesRound 86 = .ok (.goto 125, 3) := dk_167 0 125 (dk_at dksX5_goesRound_3 16 rfl rfl)
theorem dX5_goesRound_89 : decode cX5_goesRound 89 = .ok (.aload_n 0, 1) := dk_42 (dk_at dksX5_goesRound_3 19 rfl rfl)
theorem dX5_goesRound_90 : decode cX5_goesRound 90 = .ok (.getfield 377, 3) := dk_180 1 121 (dk_at dksX5_goesRound_3 20 rfl rfl)
theorem dX5_goesRound_93 : decode cX5_goesRound 93 = .ok (.bipush 24, 2) := dk_16 24 (dk_at dksX5_goesRound_4 0 rfl rfl)
theorem dX5_goesRound_95 : decode cX5_goesRound 95 = .ok (.iadd, 1) := dk_96 (dk_at dksX5_goesRound_4 2 rfl rfl)
theorem dX5_goesRound_96 : decode cX5_goesRound 96 = .ok (.iconst 4, 1) := dk_7 (dk_at dksX5_goesRound_4 3 rfl rfl)
theorem dX5_goesRound_97 : decode cX5_goesRound 97 = .ok (.irem, 1) := dk_112 (dk_at dksX5_goesRound_4 4 rfl rfl)
theorem dX5_goesRound_98 : decode cX5_goesRound 98 = .ok (.istore_n 3, 1) := dk_62 (dk_at dksX5_goesRound_4 5 rfl rfl)
theorem dX5_goesRound_99 : decode cX5_goesRound 99 = .ok (.aload_n 0, 1) := dk_42 (dk_at dksX5_goesRound_4 6 rfl rfl)
theorem dX5_goesRound_100 : decode cX5_goesRound 100 = .ok (.getfield 53, 3) := dk_180 0 53 (dk_at dksX5_goesRound_4 7 rfl rfl)
theorem dX5_goesRound_103 : decode cX5_goesRound 103 = .ok (.aload_n 0, 1) := dk_42 (dk_at dksX5_goesRound_4 10 rfl rfl)
theorem dX5_goesRound_104 : decode cX5_goesRound 104 = .ok (.getfield 374, 3) := dk_180 1 118 (dk_at dksX5_goesRound_4 11 rfl rfl)
theorem dX5_goesRound_107 : decode cX5_goesRound 107 = .ok (.aload_n 0, 1) := dk_42 (dk_at dksX5_goesRound_4 14 rfl rfl)
theorem dX5_goesRound_108 : decode cX5_goesRound 108 = .ok (.getfield 53, 3) := dk_180 0 53 (dk_at dksX5_goesRound_4 15 rfl rfl)
theorem dX5_goesRound_111 : decode cX5_goesRound 111 = .ok (.aload_n 0, 1) := dk_42 (dk_at dksX5_goesRound_4 18 rfl rfl)
theorem dX5_goesRound_112 : decode cX5_goesRound 112 = .ok (.getfield 374, 3) := dk_180 1 118 (dk_at dksX5_goesRound_4 19 rfl rfl)
theorem dX5_goesRound_115 : decode cX5_goesRound 115 = .ok (.iconst 1, 1) := dk_4 (dk_at dksX5_goesRound_4 22 rfl rfl)
theorem dX5_goesRound_116 : decode cX5_goesRound 116 = .ok (.isub, 1) := dk_100 (dk_at dksX5_goesRound_4 23 rfl rfl)
theorem dX5_goesRound_117 : decode cX5_goesRound 117 = .ok (.iaload, 1) := dk_46 (dk_at dksX5_goesRound_5 0 rfl rfl)
theorem dX5_goesRound_118 : decode cX5_goesRound 118 = .ok (.iload_n 3, 1) := dk_29 (dk_at dksX5_goesRound_5 1 rfl rfl)
theorem dX5_goesRound_119 : decode cX5_goesRound 119 = .ok (.invokestatic 285, 3) := dk_184 1 29 (dk_at dksX5_goesRound_5 2 rfl rfl)
theorem dX5_goesRound_122 : decode cX5_goesRound 122 = .ok (.iadd, 1) := dk_96 (dk_at dksX5_goesRound_5 5 rfl rfl)
theorem dX5_goesRound_123 : decode cX5_goesRound 123 = .ok (.iastore, 1) := dk_79 (dk_at dksX5_goesRound_5 6 rfl rfl)
theorem dX5_goesRound_124 : decode cX5_goesRound 124 = .ok (.aload_n 0, 1) := dk_42 (dk_at dksX5_goesRound_5 7 rfl rfl)
theorem dX5_goesRound_125 : decode cX5_goesRound 125 = .ok (.getfield 56, 3) := dk_180 0 56 (dk_at dksX5_goesRound_5 8 rfl rfl)
theorem dX5_goesRound_128 : decode cX5_goesRound 128 = .ok (.aload_n 0, 1) := dk_42 (dk_at dksX5_goesRound_5 11 rfl rfl)
theorem dX5_goesRound_129 : decode cX5_goesRound 129 = .ok (.getfield 374, 3) := dk_180 1 118 (dk_at dksX5_goesRound_5 12 rfl rfl)
theorem dX5_goesRound_132 : decode cX5_goesRound 132 = .ok (.aload_n 0, 1) := dk_42 (dk_at dksX5_goesRound_5 15 rfl rfl)
theorem dX5_goesRound_133 : decode cX5_goesRound 133 = .ok (.getfield 56, 3) := dk_180 0 56 (dk_at dksX5_goesRound_5 16 rfl rfl)
theorem dX5_goesRound_136 : decode cX5_goesRound 136 = .ok (.aload_n 0, 1) := dk_42 (dk_at dksX5_goesRound_5 19 rfl rfl)
theorem dX5_goesRound_137 : decode cX5_goesRound 137 = .ok (.getfield 374, 3) := dk_180 1 118 (dk_at dksX5_goesRound_5 20 rfl rfl)
theorem dX5_goesRound_140 : decode cX5_goesRound 140 = .ok (.iconst 1, 1) := dk_4 (dk_at dksX5_goesRound_5 23 rfl rfl)
theorem dX5_goesRound_141 : decode cX5_goesRound 141 = .ok (.isub, 1) := dk_100 (dk_at dksX5_goesRound_6 0 rfl rfl)
theorem dX5_goesRound_142 : decode cX5_goesRound 142 = .ok (.iaload, 1) := dk_46 (dk_at dksX5_goesRound_6 1 rfl rfl)
theorem dX5_goesRound_143 : decode cX5_goesRound 143 = .ok (.iload_n 3, 1) := dk_29 (dk_at dksX5_goesRound_6 2 rfl rfl)
theorem dX5_goesRound_144 : decode cX5_goesRound 144 = .ok (.invokestatic 288, 3) := dk_184 1 32 (dk_at dksX5_goesRound_6 3 rfl rfl)
theorem dX5_goesRound_147 : decode cX5_goesRound 147 = .ok (.iadd, 1) := dk_96 (dk_at dksX5_goesRound_6 6 rfl rfl)
theorem dX5_goesRound_148 : decode cX5_goesRound 148 = .ok (.iastore, 1) := dk_79 (dk_at dksX5_goesRound_6 7 rfl rfl)
theorem dX5_goesRound_149 : decode cX5_goesRound 149 = .ok (.aload_n 0, 1) := dk_42 (dk_at dksX5_goesRound_6 8 rfl rfl)
theorem dX5_goesRound_150 : decode cX5_goesRound 150 = .ok (.dup, 1) := dk_89 (dk_at dksX5_goesRound_6 9 rfl rfl)
theorem dX5_goesRound_151 : decode cX5_goesRound 151 = .ok (.getfield 380, 3) := dk_180 1 124 (dk_at dksX5_goesRound_6 10 rfl rfl)
theorem dX5_goesRound_154 : decode cX5_goesRound 154 = .ok (.aload_n 0, 1) := dk_42 (dk_at dksX5_goesRound_6 13 rfl rfl)
theorem dX5_goesRound_155 : decode cX5_goesRound 155 = .ok (.getfield 53, 3) := dk_180 0 53 (dk_at dksX5_goesRound_6 14 rfl rfl)
theorem dX5_goesRound_158 : decode cX5_goesRound 158 = .ok (.aload_n 0, 1) := dk_42 (dk_at dksX5_goesRound_6 17 rfl rfl)
theorem dX5_goesRound_159 : decode cX5_goesRound 159 = .ok (.getfield 374, 3) := dk_180 1 118 (dk_at dksX5_goesRound_6 18 rfl rfl)
theorem dX5_goesRound_162 : decode cX5_goesRound 162 = .ok (.iconst 1, 1) := dk_4 (dk_at dksX5_goesRound_6 21 rfl rfl)
theorem dX5_goesRound_163 : decode cX5_goesRound 163 = .ok (.isub, 1) := dk_100 (dk_at dksX5_goesRound_6 22 rfl rfl)
theorem dX5_goesRound_164 : decode cX5_goesRound 164 = .ok (.iaload, 1) := dk_46 (dk_at dksX5_goesRound_6 23 rfl rfl)
theorem dX5_goesRound_165 : decode cX5_goesRound 165 = .ok (.aload_n 0, 1) := dk_42 (dk_at dksX5_goesRound_7 0 rfl rfl)
theorem dX5_goesRound_166 : decode cX5_goesRound 166 = .ok (.getfield 56, 3) := dk_180 0 56 (dk_at dksX5_goesRound_7 1 rfl rfl)
theorem dX5_goesRound_169 : decode cX5_goesRound 169 = .ok (.aload_n 0, 1) := dk_42 (dk_at dksX5_goesRound_7 4 rfl rfl)
theorem dX5_goesRound_170 : decode cX5_goesRound 170 = .ok (.getfield 374, 3) := dk_180 1 118 (dk_at dksX5_goesRound_7 5 rfl rfl)
theorem dX5_goesRound_173 : decode cX5_goesRound 173 = .ok (.iaload, 1) := dk_46 (dk_at dksX5_goesRound_7 8 rfl rfl)
theorem dX5_goesRound_174 : decode cX5_goesRound 174 = .ok (.imul, 1) := dk_104 (dk_at dksX5_goesRound_7 9 rfl rfl)
theorem dX5_goesRound_175 : decode cX5_goesRound 175 = .ok (.aload_n 0, 1) := dk_42 (dk_at dksX5_goesRound_7 10 rfl rfl)
theorem dX5_goesRound_176 : decode cX5_goesRound 176 = .ok (.getfield 53, 3) := dk_180 0 53 (dk_at dksX5_goesRound_7 11 rfl rfl)
theorem dX5_goesRound_179 : decode cX5_goesRound 179 = .ok (.aload_n 0, 1) := dk_42 (dk_at dksX5_goesRound_7 14 rfl rfl)
theorem dX5_goesRound_180 : decode cX5_goesRound 180 = .ok (.getfield 374, 3) := dk_180 1 118 (dk_at dksX5_goesRound_7 15 rfl rfl)
theorem dX5_goesRound_183 : decode cX5_goesRound 183 = .ok (.iaload, 1) := dk_46 (dk_at dksX5_goesRound_7 18 rfl rfl)
theorem dX5_goesRound_184 : decode cX5_goesRound 184 = .ok (.aload_n 0, 1) := dk_42 (dk_at dksX5_goesRound_7 19 rfl rfl)
theorem dX5_goesRound_185 : decode cX5_goesRound 185 = .ok (.getfield 56, 3) := dk_180 0 56 (dk_at dksX5_goesRound_7 20 rfl rfl)
theorem dX5_goesRound_188 : decode cX5_goesRound 188 = .ok (.aload_n 0, 1) := dk_42 (dk_at dksX5_goesRound_7 23 rfl rfl)
theorem dX5_goesRound_189 : decode cX5_goesRound 189 = .ok (.getfield 374, 3) := dk_180 1 118 (dk_at dksX5_goesRound_8 0 rfl rfl)
theorem dX5_goesRound_192 : decode cX5_goesRound 192 = .ok (.iconst 1, 1) := dk_4 (dk_at dksX5_goesRound_8 3 rfl rfl)
theorem dX5_goesRound_193 : decode cX5_goesRound 193 = .ok (.isub, 1) := dk_100 (dk_at dksX5_goesRound_8 4 rfl rfl)
theorem dX5_goesRound_194 : decode cX5_goesRound 194 = .ok (.iaload, 1) := dk_46 (dk_at dksX5_goesRound_8 5 rfl rfl)
theorem dX5_goesRound_195 : decode cX5_goesRound 195 = .ok (.imul, 1) := dk_104 (dk_at dksX5_goesRound_8 6 rfl rfl)
theorem dX5_goesRound_196 : decode cX5_goesRound 196 = .ok (.isub, 1) := dk_100 (dk_at dksX5_goesRound_8 7 rfl rfl)
theorem dX5_goesRound_197 : decode cX5_goesRound 197 = .ok (.iadd, 1) := dk_96 (dk_at dksX5_goesRound_8 8 rfl rfl)
theorem dX5_goesRound_198 : decode cX5_goesRound 198 = .ok (.putfield 380, 3) := dk_181 1 124 (dk_at dksX5_goesRound_8 9 rfl rfl)
theorem dX5_goesRound_201 : decode cX5_goesRound 201 = .ok (.aload_n 0, 1) := dk_42 (dk_at dksX5_goesRound_8 12 rfl rfl)
theorem dX5_goesRound_202 : decode cX5_goesRound 202 = .ok (.dup, 1) := dk_89 (dk_at dksX5_goesRound_8 13 rfl rfl)
theorem dX5_goesRound_203 : decode cX5_goesRound 203 = .ok (.getfield 374, 3) := dk_180 1 118 (dk_at dksX5_goesRound_8 14 rfl rfl)
theorem dX5_goesRound_206 : decode cX5_goesRound 206 = .ok (.iconst 1, 1) := dk_4 (dk_at dksX5_goesRound_8 17 rfl rfl)
theorem dX5_goesRound_207 : decode cX5_goesRound 207 = .ok (.iadd, 1) := dk_96 (dk_at dksX5_goesRound_8 18 rfl rfl)
theorem dX5_goesRound_208 : decode cX5_goesRound 208 = .ok (.putfield 374, 3) := dk_181 1 118 (dk_at dksX5_goesRound_8 19 rfl rfl)
theorem dX5_goesRound_211 : decode cX5_goesRound 211 = .ok (.iinc 1 1, 3) := dk_132 1 1 (dk_at dksX5_goesRound_9 0 rfl rfl)
theorem dX5_goesRound_214 : decode cX5_goesRound 214 = .ok (.goto (-183), 3) := dk_167 255 73 (dk_at dksX5_goesRound_9 3 rfl rfl)
theorem dX5_goesRound_217 : decode cX5_goesRound 217 = .ok (.return_, 1) := dk_177 (dk_at dksX5_goesRound_9 6 rfl rfl)
abbrev cX5_again : ByteArray := prog_17_method_107_code
def yX5_again : MethodName := ⟨RX5, "again", "()I"⟩
def dkwX5_again_3 : List UInt8 := [160, 0, 7, 4, 167, 0, 4, 3, 96, 60, 132, 2, 1, 167, 255, 175, 27, 172]
abbrev dktX5_again_3 : List UInt8 := dkwX5_again_3 ++ []
def dkwX5_again_2 : List UInt8 := [180, 0, 56, 28, 46, 160, 0, 7, 4, 167, 0, 4, 3, 96, 62, 132, 4, 1, 167, 255, 207, 27, 29, 4]
abbrev dktX5_again_2 : List UInt8 := dkwX5_again_2 ++ dktX5_again_3
def dkwX5_again_1 : List UInt8 := [42, 180, 0, 53, 21, 4, 46, 42, 180, 0, 53, 28, 46, 160, 0, 23, 42, 180, 0, 56, 21, 4, 46, 42]
abbrev dktX5_again_1 : List UInt8 := dkwX5_again_1 ++ dktX5_again_2
def dkwX5_again_0 : List UInt8 := [3, 60, 3, 61, 28, 42, 180, 1, 118, 162, 0, 79, 3, 62, 3, 54, 4, 21, 4, 28, 162, 0, 49, 29]
abbrev dktX5_again_0 : List UInt8 := dkwX5_again_0 ++ dktX5_again_1
theorem dksX5_again_0 : cX5_again.data.toList.drop 0 = dktX5_again_0 := by decide +kernel
theorem dksX5_again_1 : cX5_again.data.toList.drop 24 = dktX5_again_1 := dk_seg dksX5_again_0 24 rfl rfl
theorem dksX5_again_2 : cX5_again.data.toList.drop 48 = dktX5_again_2 := dk_seg dksX5_again_1 24 rfl rfl
theorem dksX5_again_3 : cX5_again.data.toList.drop 72 = dktX5_again_3 := dk_seg dksX5_again_2 24 rfl rfl
theorem dX5_again_0 : decode cX5_again 0 = .ok (.iconst 0, 1) := dk_3 (dk_at dksX5_again_0 0 rfl rfl)
theorem dX5_again_1 : decode cX5_again 1 = .ok (.istore_n 1, 1) := dk_60 (dk_at dksX5_again_0 1 rfl rfl)
theorem dX5_again_2 : decode cX5_again 2 = .ok (.iconst 0, 1) := dk_3 (dk_at dksX5_again_0 2 rfl rfl)
theorem dX5_again_3 : decode cX5_again 3 = .ok (.istore_n 2, 1) := dk_61 (dk_at dksX5_again_0 3 rfl rfl)
theorem dX5_again_4 : decode cX5_again 4 = .ok (.iload_n 2, 1) := dk_28 (dk_at dksX5_again_0 4 rfl rfl)
theorem dX5_again_5 : decode cX5_again 5 = .ok (.aload_n 0, 1) := dk_42 (dk_at dksX5_again_0 5 rfl rfl)
theorem dX5_again_6 : decode cX5_again 6 = .ok (.getfield 374, 3) := dk_180 1 118 (dk_at dksX5_again_0 6 rfl rfl)
theorem dX5_again_9 : decode cX5_again 9 = .ok (.if_icmp .ge 79, 3) := dk_162 0 79 (dk_at dksX5_again_0 9 rfl rfl)
theorem dX5_again_12 : decode cX5_again 12 = .ok (.iconst 0, 1) := dk_3 (dk_at dksX5_again_0 12 rfl rfl)
theorem dX5_again_13 : decode cX5_again 13 = .ok (.istore_n 3, 1) := dk_62 (dk_at dksX5_again_0 13 rfl rfl)
theorem dX5_again_14 : decode cX5_again 14 = .ok (.iconst 0, 1) := dk_3 (dk_at dksX5_again_0 14 rfl rfl)
theorem dX5_again_15 : decode cX5_again 15 = .ok (.istore 4, 2) := dk_54 4 (dk_at dksX5_again_0 15 rfl rfl)
theorem dX5_again_17 : decode cX5_again 17 = .ok (.iload 4, 2) := dk_21 4 (dk_at dksX5_again_0 17 rfl rfl)
theorem dX5_again_19 : decode cX5_again 19 = .ok (.iload_n 2, 1) := dk_28 (dk_at dksX5_again_0 19 rfl rfl)
theorem dX5_again_20 : decode cX5_again 20 = .ok (.if_icmp .ge 49, 3) := dk_162 0 49 (dk_at dksX5_again_0 20 rfl rfl)
theorem dX5_again_23 : decode cX5_again 23 = .ok (.iload_n 3, 1) := dk_29 (dk_at dksX5_again_0 23 rfl rfl)
theorem dX5_again_24 : decode cX5_again 24 = .ok (.aload_n 0, 1) := dk_42 (dk_at dksX5_again_1 0 rfl rfl)
theorem dX5_again_25 : decode cX5_again 25 = .ok (.getfield 53, 3) := dk_180 0 53 (dk_at dksX5_again_1 1 rfl rfl)
theorem dX5_again_28 : decode cX5_again 28 = .ok (.iload 4, 2) := dk_21 4 (dk_at dksX5_again_1 4 rfl rfl)
theorem dX5_again_30 : decode cX5_again 30 = .ok (.iaload, 1) := dk_46 (dk_at dksX5_again_1 6 rfl rfl)
theorem dX5_again_31 : decode cX5_again 31 = .ok (.aload_n 0, 1) := dk_42 (dk_at dksX5_again_1 7 rfl rfl)
theorem dX5_again_32 : decode cX5_again 32 = .ok (.getfield 53, 3) := dk_180 0 53 (dk_at dksX5_again_1 8 rfl rfl)
theorem dX5_again_35 : decode cX5_again 35 = .ok (.iload_n 2, 1) := dk_28 (dk_at dksX5_again_1 11 rfl rfl)
theorem dX5_again_36 : decode cX5_again 36 = .ok (.iaload, 1) := dk_46 (dk_at dksX5_again_1 12 rfl rfl)
theorem dX5_again_37 : decode cX5_again 37 = .ok (.if_icmp .ne 23, 3) := dk_160 0 23 (dk_at dksX5_again_1 13 rfl rfl)
theorem dX5_again_40 : decode cX5_again 40 = .ok (.aload_n 0, 1) := dk_42 (dk_at dksX5_again_1 16 rfl rfl)
theorem dX5_again_41 : decode cX5_again 41 = .ok (.getfield 56, 3) := dk_180 0 56 (dk_at dksX5_again_1 17 rfl rfl)
theorem dX5_again_44 : decode cX5_again 44 = .ok (.iload 4, 2) := dk_21 4 (dk_at dksX5_again_1 20 rfl rfl)
theorem dX5_again_46 : decode cX5_again 46 = .ok (.iaload, 1) := dk_46 (dk_at dksX5_again_1 22 rfl rfl)
theorem dX5_again_47 : decode cX5_again 47 = .ok (.aload_n 0, 1) := dk_42 (dk_at dksX5_again_1 23 rfl rfl)
theorem dX5_again_48 : decode cX5_again 48 = .ok (.getfield 56, 3) := dk_180 0 56 (dk_at dksX5_again_2 0 rfl rfl)
theorem dX5_again_51 : decode cX5_again 51 = .ok (.iload_n 2, 1) := dk_28 (dk_at dksX5_again_2 3 rfl rfl)
theorem dX5_again_52 : decode cX5_again 52 = .ok (.iaload, 1) := dk_46 (dk_at dksX5_again_2 4 rfl rfl)
theorem dX5_again_53 : decode cX5_again 53 = .ok (.if_icmp .ne 7, 3) := dk_160 0 7 (dk_at dksX5_again_2 5 rfl rfl)
theorem dX5_again_56 : decode cX5_again 56 = .ok (.iconst 1, 1) := dk_4 (dk_at dksX5_again_2 8 rfl rfl)
theorem dX5_again_57 : decode cX5_again 57 = .ok (.goto 4, 3) := dk_167 0 4 (dk_at dksX5_again_2 9 rfl rfl)
theorem dX5_again_60 : decode cX5_again 60 = .ok (.iconst 0, 1) := dk_3 (dk_at dksX5_again_2 12 rfl rfl)
theorem dX5_again_61 : decode cX5_again 61 = .ok (.iadd, 1) := dk_96 (dk_at dksX5_again_2 13 rfl rfl)
theorem dX5_again_62 : decode cX5_again 62 = .ok (.istore_n 3, 1) := dk_62 (dk_at dksX5_again_2 14 rfl rfl)
theorem dX5_again_63 : decode cX5_again 63 = .ok (.iinc 4 1, 3) := dk_132 4 1 (dk_at dksX5_again_2 15 rfl rfl)
theorem dX5_again_66 : decode cX5_again 66 = .ok (.goto (-49), 3) := dk_167 255 207 (dk_at dksX5_again_2 18 rfl rfl)
theorem dX5_again_69 : decode cX5_again 69 = .ok (.iload_n 1, 1) := dk_27 (dk_at dksX5_again_2 21 rfl rfl)
theorem dX5_again_70 : decode cX5_again 70 = .ok (.iload_n 3, 1) := dk_29 (dk_at dksX5_again_2 22 rfl rfl)
theorem dX5_again_71 : decode cX5_again 71 = .ok (.iconst 1, 1) := dk_4 (dk_at dksX5_again_2 23 rfl rfl)
theorem dX5_again_72 : decode cX5_again 72 = .ok (.if_icmp .ne 7, 3) := dk_160 0 7 (dk_at dksX5_again_3 0 rfl rfl)
theorem dX5_again_75 : decode cX5_again 75 = .ok (.iconst 1, 1) := dk_4 (dk_at dksX5_again_3 3 rfl rfl)
theorem dX5_again_76 : decode cX5_again 76 = .ok (.goto 4, 3) := dk_167 0 4 (dk_at dksX5_again_3 4 rfl rfl)
theorem dX5_again_79 : decode cX5_again 79 = .ok (.iconst 0, 1) := dk_3 (dk_at dksX5_again_3 7 rfl rfl)
theorem dX5_again_80 : decode cX5_again 80 = .ok (.iadd, 1) := dk_96 (dk_at dksX5_again_3 8 rfl rfl)
theorem dX5_again_81 : decode cX5_again 81 = .ok (.istore_n 1, 1) := dk_60 (dk_at dksX5_again_3 9 rfl rfl)
theorem dX5_again_82 : decode cX5_again 82 = .ok (.iinc 2 1, 3) := dk_132 2 1 (dk_at dksX5_again_3 10 rfl rfl)
theorem dX5_again_85 : decode cX5_again 85 = .ok (.goto (-81), 3) := dk_167 255 175 (dk_at dksX5_again_3 13 rfl rfl)
theorem dX5_again_88 : decode cX5_again 88 = .ok (.iload_n 1, 1) := dk_27 (dk_at dksX5_again_3 16 rfl rfl)
theorem dX5_again_89 : decode cX5_again 89 = .ok (.ireturn, 1) := dk_172 (dk_at dksX5_again_3 17 rfl rfl)
abbrev cX5_gap : ByteArray := prog_17_method_109_code
def yX5_gap : MethodName := ⟨RX5, "gap", "(II)I"⟩
def dkwX5_gap_4 : List UInt8 := [180, 0, 9, 17, 9, 104, 92, 46, 4, 96, 79, 42, 180, 0, 9, 17, 9, 104, 46, 172]
abbrev dktX5_gap_4 : List UInt8 := dkwX5_gap_4 ++ []
def dkwX5_gap_3 : List UInt8 := [79, 42, 180, 0, 9, 17, 9, 106, 5, 42, 180, 0, 9, 17, 9, 104, 46, 104, 96, 28, 79, 42]
abbrev dktX5_gap_3 : List UInt8 := dkwX5_gap_3 ++ dktX5_gap_4
def dkwX5_gap_2 : List UInt8 := [160, 0, 5, 2, 172, 42, 180, 0, 9, 17, 9, 105, 5, 42, 180, 0, 9, 17, 9, 104, 46, 104, 96, 27]
abbrev dktX5_gap_2 : List UInt8 := dkwX5_gap_2 ++ dktX5_gap_3
def dkwX5_gap_1 : List UInt8 := [153, 0, 26, 28, 3, 16, 30, 184, 0, 100, 153, 0, 16, 42, 180, 0, 9, 17, 9, 104, 46, 16, 8]
abbrev dktX5_gap_1 : List UInt8 := dkwX5_gap_1 ++ dktX5_gap_2
def dkwX5_gap_0 : List UInt8 := [27, 2, 160, 0, 14, 42, 180, 0, 9, 17, 9, 104, 3, 79, 3, 172, 27, 3, 16, 7, 184, 0, 100]
abbrev dktX5_gap_0 : List UInt8 := dkwX5_gap_0 ++ dktX5_gap_1
theorem dksX5_gap_0 : cX5_gap.data.toList.drop 0 = dktX5_gap_0 := by decide +kernel
theorem dksX5_gap_1 : cX5_gap.data.toList.drop 23 = dktX5_gap_1 := dk_seg dksX5_gap_0 23 rfl rfl
theorem dksX5_gap_2 : cX5_gap.data.toList.drop 46 = dktX5_gap_2 := dk_seg dksX5_gap_1 23 rfl rfl
theorem dksX5_gap_3 : cX5_gap.data.toList.drop 70 = dktX5_gap_3 := dk_seg dksX5_gap_2 24 rfl rfl
theorem dksX5_gap_4 : cX5_gap.data.toList.drop 92 = dktX5_gap_4 := dk_seg dksX5_gap_3 22 rfl rfl
theorem dX5_gap_0 : decode cX5_gap 0 = .ok (.iload_n 1, 1) := dk_27 (dk_at dksX5_gap_0 0 rfl rfl)
theorem dX5_gap_1 : decode cX5_gap 1 = .ok (.iconst (-1), 1) := dk_2 (dk_at dksX5_gap_0 1 rfl rfl)
theorem dX5_gap_2 : decode cX5_gap 2 = .ok (.if_icmp .ne 14, 3) := dk_160 0 14 (dk_at dksX5_gap_0 2 rfl rfl)
theorem dX5_gap_5 : decode cX5_gap 5 = .ok (.aload_n 0, 1) := dk_42 (dk_at dksX5_gap_0 5 rfl rfl)
theorem dX5_gap_6 : decode cX5_gap 6 = .ok (.getfield 9, 3) := dk_180 0 9 (dk_at dksX5_gap_0 6 rfl rfl)
theorem dX5_gap_9 : decode cX5_gap 9 = .ok (.sipush 2408, 3) := dk_17 9 104 (dk_at dksX5_gap_0 9 rfl rfl)
theorem dX5_gap_12 : decode cX5_gap 12 = .ok (.iconst 0, 1) := dk_3 (dk_at dksX5_gap_0 12 rfl rfl)
theorem dX5_gap_13 : decode cX5_gap 13 = .ok (.iastore, 1) := dk_79 (dk_at dksX5_gap_0 13 rfl rfl)
theorem dX5_gap_14 : decode cX5_gap 14 = .ok (.iconst 0, 1) := dk_3 (dk_at dksX5_gap_0 14 rfl rfl)
theorem dX5_gap_15 : decode cX5_gap 15 = .ok (.ireturn, 1) := dk_172 (dk_at dksX5_gap_0 15 rfl rfl)
theorem dX5_gap_16 : decode cX5_gap 16 = .ok (.iload_n 1, 1) := dk_27 (dk_at dksX5_gap_0 16 rfl rfl)
theorem dX5_gap_17 : decode cX5_gap 17 = .ok (.iconst 0, 1) := dk_3 (dk_at dksX5_gap_0 17 rfl rfl)
theorem dX5_gap_18 : decode cX5_gap 18 = .ok (.bipush 7, 2) := dk_16 7 (dk_at dksX5_gap_0 18 rfl rfl)
theorem dX5_gap_20 : decode cX5_gap 20 = .ok (.invokestatic 100, 3) := dk_184 0 100 (dk_at dksX5_gap_0 20 rfl rfl)
theorem dX5_gap_23 : decode cX5_gap 23 = .ok (.ifCond .eq 26, 3) := dk_153 0 26 (dk_at dksX5_gap_1 0 rfl rfl)
theorem dX5_gap_26 : decode cX5_gap 26 = .ok (.iload_n 2, 1) := dk_28 (dk_at dksX5_gap_1 3 rfl rfl)
theorem dX5_gap_27 : decode cX5_gap 27 = .ok (.iconst 0, 1) := dk_3 (dk_at dksX5_gap_1 4 rfl rfl)
theorem dX5_gap_28 : decode cX5_gap 28 = .ok (.bipush 30, 2) := dk_16 30 (dk_at dksX5_gap_1 5 rfl rfl)
theorem dX5_gap_30 : decode cX5_gap 30 = .ok (.invokestatic 100, 3) := dk_184 0 100 (dk_at dksX5_gap_1 7 rfl rfl)
theorem dX5_gap_33 : decode cX5_gap 33 = .ok (.ifCond .eq 16, 3) := dk_153 0 16 (dk_at dksX5_gap_1 10 rfl rfl)
theorem dX5_gap_36 : decode cX5_gap 36 = .ok (.aload_n 0, 1) := dk_42 (dk_at dksX5_gap_1 13 rfl rfl)
theorem dX5_gap_37 : decode cX5_gap 37 = .ok (.getfield 9, 3) := dk_180 0 9 (dk_at dksX5_gap_1 14 rfl rfl)
theorem dX5_gap_40 : decode cX5_gap 40 = .ok (.sipush 2408, 3) := dk_17 9 104 (dk_at dksX5_gap_1 17 rfl rfl)
theorem dX5_gap_43 : decode cX5_gap 43 = .ok (.iaload, 1) := dk_46 (dk_at dksX5_gap_1 20 rfl rfl)
theorem dX5_gap_44 : decode cX5_gap 44 = .ok (.bipush 8, 2) := dk_16 8 (dk_at dksX5_gap_1 21 rfl rfl)
theorem dX5_gap_46 : decode cX5_gap 46 = .ok (.if_icmp .ne 5, 3) := dk_160 0 5 (dk_at dksX5_gap_2 0 rfl rfl)
theorem dX5_gap_49 : decode cX5_gap 49 = .ok (.iconst (-1), 1) := dk_2 (dk_at dksX5_gap_2 3 rfl rfl)
theorem dX5_gap_50 : decode cX5_gap 50 = .ok (.ireturn, 1) := dk_172 (dk_at dksX5_gap_2 4 rfl rfl)
theorem dX5_gap_51 : decode cX5_gap 51 = .ok (.aload_n 0, 1) := dk_42 (dk_at dksX5_gap_2 5 rfl rfl)
theorem dX5_gap_52 : decode cX5_gap 52 = .ok (.getfield 9, 3) := dk_180 0 9 (dk_at dksX5_gap_2 6 rfl rfl)
theorem dX5_gap_55 : decode cX5_gap 55 = .ok (.sipush 2409, 3) := dk_17 9 105 (dk_at dksX5_gap_2 9 rfl rfl)
theorem dX5_gap_58 : decode cX5_gap 58 = .ok (.iconst 2, 1) := dk_5 (dk_at dksX5_gap_2 12 rfl rfl)
theorem dX5_gap_59 : decode cX5_gap 59 = .ok (.aload_n 0, 1) := dk_42 (dk_at dksX5_gap_2 13 rfl rfl)
theorem dX5_gap_60 : decode cX5_gap 60 = .ok (.getfield 9, 3) := dk_180 0 9 (dk_at dksX5_gap_2 14 rfl rfl)
theorem dX5_gap_63 : decode cX5_gap 63 = .ok (.sipush 2408, 3) := dk_17 9 104 (dk_at dksX5_gap_2 17 rfl rfl)
theorem dX5_gap_66 : decode cX5_gap 66 = .ok (.iaload, 1) := dk_46 (dk_at dksX5_gap_2 20 rfl rfl)
theorem dX5_gap_67 : decode cX5_gap 67 = .ok (.imul, 1) := dk_104 (dk_at dksX5_gap_2 21 rfl rfl)
theorem dX5_gap_68 : decode cX5_gap 68 = .ok (.iadd, 1) := dk_96 (dk_at dksX5_gap_2 22 rfl rfl)
theorem dX5_gap_69 : decode cX5_gap 69 = .ok (.iload_n 1, 1) := dk_27 (dk_at dksX5_gap_2 23 rfl rfl)
theorem dX5_gap_70 : decode cX5_gap 70 = .ok (.iastore, 1) := dk_79 (dk_at dksX5_gap_3 0 rfl rfl)
theorem dX5_gap_71 : decode cX5_gap 71 = .ok (.aload_n 0, 1) := dk_42 (dk_at dksX5_gap_3 1 rfl rfl)
theorem dX5_gap_72 : decode cX5_gap 72 = .ok (.getfield 9, 3) := dk_180 0 9 (dk_at dksX5_gap_3 2 rfl rfl)
theorem dX5_gap_75 : decode cX5_gap 75 = .ok (.sipush 2410, 3) := dk_17 9 106 (dk_at dksX5_gap_3 5 rfl rfl)
theorem dX5_gap_78 : decode cX5_gap 78 = .ok (.iconst 2, 1) := dk_5 (dk_at dksX5_gap_3 8 rfl rfl)
theorem dX5_gap_79 : decode cX5_gap 79 = .ok (.aload_n 0, 1) := dk_42 (dk_at dksX5_gap_3 9 rfl rfl)
theorem dX5_gap_80 : decode cX5_gap 80 = .ok (.getfield 9, 3) := dk_180 0 9 (dk_at dksX5_gap_3 10 rfl rfl)
theorem dX5_gap_83 : decode cX5_gap 83 = .ok (.sipush 2408, 3) := dk_17 9 104 (dk_at dksX5_gap_3 13 rfl rfl)
theorem dX5_gap_86 : decode cX5_gap 86 = .ok (.iaload, 1) := dk_46 (dk_at dksX5_gap_3 16 rfl rfl)
theorem dX5_gap_87 : decode cX5_gap 87 = .ok (.imul, 1) := dk_104 (dk_at dksX5_gap_3 17 rfl rfl)
theorem dX5_gap_88 : decode cX5_gap 88 = .ok (.iadd, 1) := dk_96 (dk_at dksX5_gap_3 18 rfl rfl)
theorem dX5_gap_89 : decode cX5_gap 89 = .ok (.iload_n 2, 1) := dk_28 (dk_at dksX5_gap_3 19 rfl rfl)
theorem dX5_gap_90 : decode cX5_gap 90 = .ok (.iastore, 1) := dk_79 (dk_at dksX5_gap_3 20 rfl rfl)
theorem dX5_gap_91 : decode cX5_gap 91 = .ok (.aload_n 0, 1) := dk_42 (dk_at dksX5_gap_3 21 rfl rfl)
theorem dX5_gap_92 : decode cX5_gap 92 = .ok (.getfield 9, 3) := dk_180 0 9 (dk_at dksX5_gap_4 0 rfl rfl)
theorem dX5_gap_95 : decode cX5_gap 95 = .ok (.sipush 2408, 3) := dk_17 9 104 (dk_at dksX5_gap_4 3 rfl rfl)
theorem dX5_gap_98 : decode cX5_gap 98 = .ok (.dup2, 1) := dk_92 (dk_at dksX5_gap_4 6 rfl rfl)
theorem dX5_gap_99 : decode cX5_gap 99 = .ok (.iaload, 1) := dk_46 (dk_at dksX5_gap_4 7 rfl rfl)
theorem dX5_gap_100 : decode cX5_gap 100 = .ok (.iconst 1, 1) := dk_4 (dk_at dksX5_gap_4 8 rfl rfl)
theorem dX5_gap_101 : decode cX5_gap 101 = .ok (.iadd, 1) := dk_96 (dk_at dksX5_gap_4 9 rfl rfl)
theorem dX5_gap_102 : decode cX5_gap 102 = .ok (.iastore, 1) := dk_79 (dk_at dksX5_gap_4 10 rfl rfl)
theorem dX5_gap_103 : decode cX5_gap 103 = .ok (.aload_n 0, 1) := dk_42 (dk_at dksX5_gap_4 11 rfl rfl)
theorem dX5_gap_104 : decode cX5_gap 104 = .ok (.getfield 9, 3) := dk_180 0 9 (dk_at dksX5_gap_4 12 rfl rfl)
theorem dX5_gap_107 : decode cX5_gap 107 = .ok (.sipush 2408, 3) := dk_17 9 104 (dk_at dksX5_gap_4 15 rfl rfl)
theorem dX5_gap_110 : decode cX5_gap 110 = .ok (.iaload, 1) := dk_46 (dk_at dksX5_gap_4 18 rfl rfl)
theorem dX5_gap_111 : decode cX5_gap 111 = .ok (.ireturn, 1) := dk_172 (dk_at dksX5_gap_4 19 rfl rfl)
abbrev cX5_hedge : ByteArray := prog_17_method_110_code
def yX5_hedge : MethodName := ⟨RX5, "hedge", "()I"⟩
def dkwX5_hedge_10 : List UInt8 := [42, 180, 0, 59, 28, 46, 28, 96, 167, 0, 4, 27, 60, 132, 2, 1, 167, 255, 222, 27, 172]
abbrev dktX5_hedge_10 : List UInt8 := dkwX5_hedge_10 ++ []
def dkwX5_hedge_9 : List UInt8 := [17, 39, 15, 60, 3, 61, 28, 16, 31, 162, 0, 34, 42, 180, 0, 59, 28, 46, 28, 96, 27, 162, 0, 14]
abbrev dktX5_hedge_9 : List UInt8 := dkwX5_hedge_9 ++ dktX5_hedge_10
def dkwX5_hedge_8 : List UInt8 := [153, 0, 16, 42, 180, 0, 62, 42, 180, 0, 59, 16, 31, 184, 0, 86, 132, 1, 1, 167, 255, 85]
abbrev dktX5_hedge_8 : List UInt8 := dkwX5_hedge_8 ++ dktX5_hedge_9
def dkwX5_hedge_7 : List UInt8 := [167, 0, 10, 42, 180, 0, 62, 21, 4, 46, 79, 132, 5, 1, 167, 255, 197, 132, 3, 1, 167, 255, 141, 28]
abbrev dktX5_hedge_7 : List UInt8 := dkwX5_hedge_7 ++ dktX5_hedge_8
def dkwX5_hedge_6 : List UInt8 := [96, 54, 6, 42, 180, 0, 62, 21, 4, 21, 6, 42, 180, 0, 62, 21, 4, 46, 162, 0, 8, 21, 6]
abbrev dktX5_hedge_6 : List UInt8 := dkwX5_hedge_6 ++ dktX5_hedge_7
def dkwX5_hedge_5 : List UInt8 := [54, 5, 21, 5, 16, 31, 162, 0, 58, 42, 180, 0, 59, 21, 5, 46, 21, 4, 21, 5, 100, 184, 1, 103]
abbrev dktX5_hedge_5 : List UInt8 := dkwX5_hedge_5 ++ dktX5_hedge_6
def dkwX5_hedge_4 : List UInt8 := [159, 0, 6, 167, 0, 84, 4, 61, 42, 180, 0, 9, 17, 9, 106, 5, 29, 104, 96, 46, 54, 4, 3]
abbrev dktX5_hedge_4 : List UInt8 := dkwX5_hedge_4 ++ dktX5_hedge_5
def dkwX5_hedge_3 : List UInt8 := [180, 0, 9, 17, 9, 104, 46, 162, 0, 109, 42, 180, 0, 9, 17, 9, 105, 5, 29, 104, 96, 46, 27]
abbrev dktX5_hedge_3 : List UInt8 := dkwX5_hedge_3 ++ dktX5_hedge_4
def dkwX5_hedge_2 : List UInt8 := [162, 0, 18, 42, 180, 0, 62, 29, 17, 39, 15, 79, 132, 3, 1, 167, 255, 238, 3, 62, 29, 42]
abbrev dktX5_hedge_2 : List UInt8 := dkwX5_hedge_2 ++ dktX5_hedge_3
def dkwX5_hedge_1 : List UInt8 := [79, 132, 1, 1, 167, 255, 230, 3, 60, 27, 16, 8, 162, 0, 171, 3, 61, 3, 62, 29, 16, 31]
abbrev dktX5_hedge_1 : List UInt8 := dkwX5_hedge_1 ++ dktX5_hedge_2
def dkwX5_hedge_0 : List UInt8 := [3, 60, 27, 16, 31, 162, 0, 26, 42, 180, 0, 59, 27, 27, 154, 0, 7, 3, 167, 0, 6, 17, 39, 15]
abbrev dktX5_hedge_0 : List UInt8 := dkwX5_hedge_0 ++ dktX5_hedge_1
theorem dksX5_hedge_0 : cX5_hedge.data.toList.drop 0 = dktX5_hedge_0 := by decide +kernel
theorem dksX5_hedge_1 : cX5_hedge.data.toList.drop 24 = dktX5_hedge_1 := dk_seg dksX5_hedge_0 24 rfl rfl
theorem dksX5_hedge_2 : cX5_hedge.data.toList.drop 46 = dktX5_hedge_2 := dk_seg dksX5_hedge_1 22 rfl rfl
theorem dksX5_hedge_3 : cX5_hedge.data.toList.drop 68 = dktX5_hedge_3 := dk_seg dksX5_hedge_2 22 rfl rfl
theorem dksX5_hedge_4 : cX5_hedge.data.toList.drop 91 = dktX5_hedge_4 := dk_seg dksX5_hedge_3 23 rfl rfl
theorem dksX5_hedge_5 : cX5_hedge.data.toList.drop 114 = dktX5_hedge_5 := dk_seg dksX5_hedge_4 23 rfl rfl
theorem dksX5_hedge_6 : cX5_hedge.data.toList.drop 138 = dktX5_hedge_6 := dk_seg dksX5_hedge_5 24 rfl rfl
theorem dksX5_hedge_7 : cX5_hedge.data.toList.drop 161 = dktX5_hedge_7 := dk_seg dksX5_hedge_6 23 rfl rfl
theorem dksX5_hedge_8 : cX5_hedge.data.toList.drop 185 = dktX5_hedge_8 := dk_seg dksX5_hedge_7 24 rfl rfl
theorem dksX5_hedge_9 : cX5_hedge.data.toList.drop 207 = dktX5_hedge_9 := dk_seg dksX5_hedge_8 22 rfl rfl
theorem dksX5_hedge_10 : cX5_hedge.data.toList.drop 231 = dktX5_hedge_10 := dk_seg dksX5_hedge_9 24 rfl rfl
theorem dX5_hedge_0 : decode cX5_hedge 0 = .ok (.iconst 0, 1) := dk_3 (dk_at dksX5_hedge_0 0 rfl rfl)
theorem dX5_hedge_1 : decode cX5_hedge 1 = .ok (.istore_n 1, 1) := dk_60 (dk_at dksX5_hedge_0 1 rfl rfl)
theorem dX5_hedge_2 : decode cX5_hedge 2 = .ok (.iload_n 1, 1) := dk_27 (dk_at dksX5_hedge_0 2 rfl rfl)
theorem dX5_hedge_3 : decode cX5_hedge 3 = .ok (.bipush 31, 2) := dk_16 31 (dk_at dksX5_hedge_0 3 rfl rfl)
theorem dX5_hedge_5 : decode cX5_hedge 5 = .ok (.if_icmp .ge 26, 3) := dk_162 0 26 (dk_at dksX5_hedge_0 5 rfl rfl)
theorem dX5_hedge_8 : decode cX5_hedge 8 = .ok (.aload_n 0, 1) := dk_42 (dk_at dksX5_hedge_0 8 rfl rfl)
theorem dX5_hedge_9 : decode cX5_hedge 9 = .ok (.getfield 59, 3) := dk_180 0 59 (dk_at dksX5_hedge_0 9 rfl rfl)
theorem dX5_hedge_12 : decode cX5_hedge 12 = .ok (.iload_n 1, 1) := dk_27 (dk_at dksX5_hedge_0 12 rfl rfl)
theorem dX5_hedge_13 : decode cX5_hedge 13 = .ok (.iload_n 1, 1) := dk_27 (dk_at dksX5_hedge_0 13 rfl rfl)
theorem dX5_hedge_14 : decode cX5_hedge 14 = .ok (.ifCond .ne 7, 3) := dk_154 0 7 (dk_at dksX5_hedge_0 14 rfl rfl)
theorem dX5_hedge_17 : decode cX5_hedge 17 = .ok (.iconst 0, 1) := dk_3 (dk_at dksX5_hedge_0 17 rfl rfl)
theorem dX5_hedge_18 : decode cX5_hedge 18 = .ok (.goto 6, 3) := dk_167 0 6 (dk_at dksX5_hedge_0 18 rfl rfl)
theorem dX5_hedge_21 : decode cX5_hedge 21 = .ok (.sipush 9999, 3) := dk_17 39 15 (dk_at dksX5_hedge_0 21 rfl rfl)
theorem dX5_hedge_24 : decode cX5_hedge 24 = .ok (.iastore, 1) := dk_79 (dk_at dksX5_hedge_1 0 rfl rfl)
theorem dX5_hedge_25 : decode cX5_hedge 25 = .ok (.iinc 1 1, 3) := dk_132 1 1 (dk_at dksX5_hedge_1 1 rfl rfl)
theorem dX5_hedge_28 : decode cX5_hedge 28 = .ok (.goto (-26), 3) := dk_167 255 230 (dk_at dksX5_hedge_1 4 rfl rfl)
theorem dX5_hedge_31 : decode cX5_hedge 31 = .ok (.iconst 0, 1) := dk_3 (dk_at dksX5_hedge_1 7 rfl rfl)
theorem dX5_hedge_32 : decode cX5_hedge 32 = .ok (.istore_n 1, 1) := dk_60 (dk_at dksX5_hedge_1 8 rfl rfl)
theorem dX5_hedge_33 : decode cX5_hedge 33 = .ok (.iload_n 1, 1) := dk_27 (dk_at dksX5_hedge_1 9 rfl rfl)
theorem dX5_hedge_34 : decode cX5_hedge 34 = .ok (.bipush 8, 2) := dk_16 8 (dk_at dksX5_hedge_1 10 rfl rfl)
theorem dX5_hedge_36 : decode cX5_hedge 36 = .ok (.if_icmp .ge 171, 3) := dk_162 0 171 (dk_at dksX5_hedge_1 12 rfl rfl)
theorem dX5_hedge_39 : decode cX5_hedge 39 = .ok (.iconst 0, 1) := dk_3 (dk_at dksX5_hedge_1 15 rfl rfl)
theorem dX5_hedge_40 : decode cX5_hedge 40 = .ok (.istore_n 2, 1) := dk_61 (dk_at dksX5_hedge_1 16 rfl rfl)
theorem dX5_hedge_41 : decode cX5_hedge 41 = .ok (.iconst 0, 1) := dk_3 (dk_at dksX5_hedge_1 17 rfl rfl)
theorem dX5_hedge_42 : decode cX5_hedge 42 = .ok (.istore_n 3, 1) := dk_62 (dk_at dksX5_hedge_1 18 rfl rfl)
theorem dX5_hedge_43 : decode cX5_hedge 43 = .ok (.iload_n 3, 1) := dk_29 (dk_at dksX5_hedge_1 19 rfl rfl)
theorem dX5_hedge_44 : decode cX5_hedge 44 = .ok (.bipush 31, 2) := dk_16 31 (dk_at dksX5_hedge_1 20 rfl rfl)
theorem dX5_hedge_46 : decode cX5_hedge 46 = .ok (.if_icmp .ge 18, 3) := dk_162 0 18 (dk_at dksX5_hedge_2 0 rfl rfl)
theorem dX5_hedge_49 : decode cX5_hedge 49 = .ok (.aload_n 0, 1) := dk_42 (dk_at dksX5_hedge_2 3 rfl rfl)
theorem dX5_hedge_50 : decode cX5_hedge 50 = .ok (.getfield 62, 3) := dk_180 0 62 (dk_at dksX5_hedge_2 4 rfl rfl)
theorem dX5_hedge_53 : decode cX5_hedge 53 = .ok (.iload_n 3, 1) := dk_29 (dk_at dksX5_hedge_2 7 rfl rfl)
theorem dX5_hedge_54 : decode cX5_hedge 54 = .ok (.sipush 9999, 3) := dk_17 39 15 (dk_at dksX5_hedge_2 8 rfl rfl)
theorem dX5_hedge_57 : decode cX5_hedge 57 = .ok (.iastore, 1) := dk_79 (dk_at dksX5_hedge_2 11 rfl rfl)
theorem dX5_hedge_58 : decode cX5_hedge 58 = .ok (.iinc 3 1, 3) := dk_132 3 1 (dk_at dksX5_hedge_2 12 rfl rfl)
theorem dX5_hedge_61 : decode cX5_hedge 61 = .ok (.goto (-18), 3) := dk_167 255 238 (dk_at dksX5_hedge_2 15 rfl rfl)
theorem dX5_hedge_64 : decode cX5_hedge 64 = .ok (.iconst 0, 1) := dk_3 (dk_at dksX5_hedge_2 18 rfl rfl)
theorem dX5_hedge_65 : decode cX5_hedge 65 = .ok (.istore_n 3, 1) := dk_62 (dk_at dksX5_hedge_2 19 rfl rfl)
theorem dX5_hedge_66 : decode cX5_hedge 66 = .ok (.iload_n 3, 1) := dk_29 (dk_at dksX5_hedge_2 20 rfl rfl)
theorem dX5_hedge_67 : decode cX5_hedge 67 = .ok (.aload_n 0, 1) := dk_42 (dk_at dksX5_hedge_2 21 rfl rfl)
theorem dX5_hedge_68 : decode cX5_hedge 68 = .ok (.getfield 9, 3) := dk_180 0 9 (dk_at dksX5_hedge_3 0 rfl rfl)
theorem dX5_hedge_71 : decode cX5_hedge 71 = .ok (.sipush 2408, 3) := dk_17 9 104 (dk_at dksX5_hedge_3 3 rfl rfl)
theorem dX5_hedge_74 : decode cX5_hedge 74 = .ok (.iaload, 1) := dk_46 (dk_at dksX5_hedge_3 6 rfl rfl)
theorem dX5_hedge_75 : decode cX5_hedge 75 = .ok (.if_icmp .ge 109, 3) := dk_162 0 109 (dk_at dksX5_hedge_3 7 rfl rfl)
theorem dX5_hedge_78 : decode cX5_hedge 78 = .ok (.aload_n 0, 1) := dk_42 (dk_at dksX5_hedge_3 10 rfl rfl)
theorem dX5_hedge_79 : decode cX5_hedge 79 = .ok (.getfield 9, 3) := dk_180 0 9 (dk_at dksX5_hedge_3 11 rfl rfl)
theorem dX5_hedge_82 : decode cX5_hedge 82 = .ok (.sipush 2409, 3) := dk_17 9 105 (dk_at dksX5_hedge_3 14 rfl rfl)
theorem dX5_hedge_85 : decode cX5_hedge 85 = .ok (.iconst 2, 1) := dk_5 (dk_at dksX5_hedge_3 17 rfl rfl)
theorem dX5_hedge_86 : decode cX5_hedge 86 = .ok (.iload_n 3, 1) := dk_29 (dk_at dksX5_hedge_3 18 rfl rfl)
theorem dX5_hedge_87 : decode cX5_hedge 87 = .ok (.imul, 1) := dk_104 (dk_at dksX5_hedge_3 19 rfl rfl)
theorem dX5_hedge_88 : decode cX5_hedge 88 = .ok (.iadd, 1) := dk_96 (dk_at dksX5_hedge_3 20 rfl rfl)
theorem dX5_hedge_89 : decode cX5_hedge 89 = .ok (.iaload, 1) := dk_46 (dk_at dksX5_hedge_3 21 rfl rfl)
theorem dX5_hedge_90 : decode cX5_hedge 90 = .ok (.iload_n 1, 1) := dk_27 (dk_at dksX5_hedge_3 22 rfl rfl)
theorem dX5_hedge_91 : decode cX5_hedge 91 = .ok (.if_icmp .eq 6, 3) := dk_159 0 6 (dk_at dksX5_hedge_4 0 rfl rfl)
theorem dX5_hedge_94 : decode cX5_hedge 94 = .ok (.goto 84, 3) := dk_167 0 84 (dk_at dksX5_hedge_4 3 rfl rfl)
theorem dX5_hedge_97 : decode cX5_hedge 97 = .ok (.iconst 1, 1) := dk_4 (dk_at dksX5_hedge_4 6 rfl rfl)
theorem dX5_hedge_98 : decode cX5_hedge 98 = .ok (.istore_n 2, 1) := dk_61 (dk_at dksX5_hedge_4 7 rfl rfl)
theorem dX5_hedge_99 : decode cX5_hedge 99 = .ok (.aload_n 0, 1) := dk_42 (dk_at dksX5_hedge_4 8 rfl rfl)
theorem dX5_hedge_100 : decode cX5_hedge 100 = .ok (.getfield 9, 3) := dk_180 0 9 (dk_at dksX5_hedge_4 9 rfl rfl)
theorem dX5_hedge_103 : decode cX5_hedge 103 = .ok (.sipush 2410, 3) := dk_17 9 106 (dk_at dksX5_hedge_4 12 rfl rfl)
theorem dX5_hedge_106 : decode cX5_hedge 106 = .ok (.iconst 2, 1) := dk_5 (dk_at dksX5_hedge_4 15 rfl rfl)
theorem dX5_hedge_107 : decode cX5_hedge 107 = .ok (.iload_n 3, 1) := dk_29 (dk_at dksX5_hedge_4 16 rfl rfl)
theorem dX5_hedge_108 : decode cX5_hedge 108 = .ok (.imul, 1) := dk_104 (dk_at dksX5_hedge_4 17 rfl rfl)
theorem dX5_hedge_109 : decode cX5_hedge 109 = .ok (.iadd, 1) := dk_96 (dk_at dksX5_hedge_4 18 rfl rfl)
theorem dX5_hedge_110 : decode cX5_hedge 110 = .ok (.iaload, 1) := dk_46 (dk_at dksX5_hedge_4 19 rfl rfl)
theorem dX5_hedge_111 : decode cX5_hedge 111 = .ok (.istore 4, 2) := dk_54 4 (dk_at dksX5_hedge_4 20 rfl rfl)
theorem dX5_hedge_113 : decode cX5_hedge 113 = .ok (.iconst 0, 1) := dk_3 (dk_at dksX5_hedge_4 22 rfl rfl)
theorem dX5_hedge_114 : decode cX5_hedge 114 = .ok (.istore 5, 2) := dk_54 5 (dk_at dksX5_hedge_5 0 rfl rfl)
theorem dX5_hedge_116 : decode cX5_hedge 116 = .ok (.iload 5, 2) := dk_21 5 (dk_at dksX5_hedge_5 2 rfl rfl)
theorem dX5_hedge_118 : decode cX5_hedge 118 = .ok (.bipush 31, 2) := dk_16 31 (dk_at dksX5_hedge_5 4 rfl rfl)
theorem dX5_hedge_120 : decode cX5_hedge 120 = .ok (.if_icmp .ge 58, 3) := dk_162 0 58 (dk_at dksX5_hedge_5 6 rfl rfl)
theorem dX5_hedge_123 : decode cX5_hedge 123 = .ok (.aload_n 0, 1) := dk_42 (dk_at dksX5_hedge_5 9 rfl rfl)
theorem dX5_hedge_124 : decode cX5_hedge 124 = .ok (.getfield 59, 3) := dk_180 0 59 (dk_at dksX5_hedge_5 10 rfl rfl)
theorem dX5_hedge_127 : decode cX5_hedge 127 = .ok (.iload 5, 2) := dk_21 5 (dk_at dksX5_hedge_5 13 rfl rfl)
theorem dX5_hedge_129 : decode cX5_hedge 129 = .ok (.iaload, 1) := dk_46 (dk_at dksX5_hedge_5 15 rfl rfl)
theorem dX5_hedge_130 : decode cX5_hedge 130 = .ok (.iload 4, 2) := dk_21 4 (dk_at dksX5_hedge_5 16 rfl rfl)
theorem dX5_hedge_132 : decode cX5_hedge 132 = .ok (.iload 5, 2) := dk_21 5 (dk_at dksX5_hedge_5 18 rfl rfl)
theorem dX5_hedge_134 : decode cX5_hedge 134 = .ok (.isub, 1) := dk_100 (dk_at dksX5_hedge_5 20 rfl rfl)
theorem dX5_hedge_135 : decode cX5_hedge 135 = .ok (.invokestatic 359, 3) := dk_184 1 103 (dk_at dksX5_hedge_5 21 rfl rfl)
theorem dX5_hedge_138 : decode cX5_hedge 138 = .ok (.iadd, 1) := dk_96 (dk_at dksX5_hedge_6 0 rfl rfl)
theorem dX5_hedge_139 : decode cX5_hedge 139 = .ok (.istore 6, 2) := dk_54 6 (dk_at dksX5_hedge_6 1 rfl rfl)
theorem dX5_hedge_141 : decode cX5_hedge 141 = .ok (.aload_n 0, 1) := dk_42 (dk_at dksX5_hedge_6 3 rfl rfl)
theorem dX5_hedge_142 : decode cX5_hedge 142 = .ok (.getfield 62, 3) := dk_180 0 62 (dk_at dksX5_hedge_6 4 rfl rfl)
theorem dX5_hedge_145 : decode cX5_hedge 145 = .ok (.iload 4, 2) := dk_21 4 (dk_at dksX5_hedge_6 7 rfl rfl)
theorem dX5_hedge_147 : decode cX5_hedge 147 = .ok (.iload 6, 2) := dk_21 6 (dk_at dksX5_hedge_6 9 rfl rfl)
theorem dX5_hedge_149 : decode cX5_hedge 149 = .ok (.aload_n 0, 1) := dk_42 (dk_at dksX5_hedge_6 11 rfl rfl)
theorem dX5_hedge_150 : decode cX5_hedge 150 = .ok (.getfield 62, 3) := dk_180 0 62 (dk_at dksX5_hedge_6 12 rfl rfl)
theorem dX5_hedge_153 : decode cX5_hedge 153 = .ok (.iload 4, 2) := dk_21 4 (dk_at dksX5_hedge_6 15 rfl rfl)
theorem dX5_hedge_155 : decode cX5_hedge 155 = .ok (.iaload, 1) := dk_46 (dk_at dksX5_hedge_6 17 rfl rfl)
theorem dX5_hedge_156 : decode cX5_hedge 156 = .ok (.if_icmp .ge 8, 3) := dk_162 0 8 (dk_at dksX5_hedge_6 18 rfl rfl)
theorem dX5_hedge_159 : decode cX5_hedge 159 = .ok (.iload 6, 2) := dk_21 6 (dk_at dksX5_hedge_6 21 rfl rfl)
theorem dX5_hedge_161 : decode cX5_hedge 161 = .ok (.goto 10, 3) := dk_167 0 10 (dk_at dksX5_hedge_7 0 rfl rfl)
theorem dX5_hedge_164 : decode cX5_hedge 164 = .ok (.aload_n 0, 1) := dk_42 (dk_at dksX5_hedge_7 3 rfl rfl)
theorem dX5_hedge_165 : decode cX5_hedge 165 = .ok (.getfield 62, 3) := dk_180 0 62 (dk_at dksX5_hedge_7 4 rfl rfl)
theorem dX5_hedge_168 : decode cX5_hedge 168 = .ok (.iload 4, 2) := dk_21 4 (dk_at dksX5_hedge_7 7 rfl rfl)
theorem dX5_hedge_170 : decode cX5_hedge 170 = .ok (.iaload, 1) := dk_46 (dk_at dksX5_hedge_7 9 rfl rfl)
theorem dX5_hedge_171 : decode cX5_hedge 171 = .ok (.iastore, 1) := dk_79 (dk_at dksX5_hedge_7 10 rfl rfl)
theorem dX5_hedge_172 : decode cX5_hedge 172 = .ok (.iinc 5 1, 3) := dk_132 5 1 (dk_at dksX5_hedge_7 11 rfl rfl)
theorem dX5_hedge_175 : decode cX5_hedge 175 = .ok (.goto (-59), 3) := dk_167 255 197 (dk_at dksX5_hedge_7 14 rfl rfl)
theorem dX5_hedge_178 : decode cX5_hedge 178 = .ok (.iinc 3 1, 3) := dk_132 3 1 (dk_at dksX5_hedge_7 17 rfl rfl)
theorem dX5_hedge_181 : decode cX5_hedge 181 = .ok (.goto (-115), 3) := dk_167 255 141 (dk_at dksX5_hedge_7 20 rfl rfl)
theorem dX5_hedge_184 : decode cX5_hedge 184 = .ok (.iload_n 2, 1) := dk_28 (dk_at dksX5_hedge_7 23 rfl rfl)
theorem dX5_hedge_185 : decode cX5_hedge 185 = .ok (.ifCond .eq 16, 3) := dk_153 0 16 (dk_at dksX5_hedge_8 0 rfl rfl)
theorem dX5_hedge_188 : decode cX5_hedge 188 = .ok (.aload_n 0, 1) := dk_42 (dk_at dksX5_hedge_8 3 rfl rfl)
theorem dX5_hedge_189 : decode cX5_hedge 189 = .ok (.getfield 62, 3) := dk_180 0 62 (dk_at dksX5_hedge_8 4 rfl rfl)
theorem dX5_hedge_192 : decode cX5_hedge 192 = .ok (.aload_n 0, 1) := dk_42 (dk_at dksX5_hedge_8 7 rfl rfl)
theorem dX5_hedge_193 : decode cX5_hedge 193 = .ok (.getfield 59, 3) := dk_180 0 59 (dk_at dksX5_hedge_8 8 rfl rfl)
theorem dX5_hedge_196 : decode cX5_hedge 196 = .ok (.bipush 31, 2) := dk_16 31 (dk_at dksX5_hedge_8 11 rfl rfl)
theorem dX5_hedge_198 : decode cX5_hedge 198 = .ok (.invokestatic 86, 3) := dk_184 0 86 (dk_at dksX5_hedge_8 13 rfl rfl)
theorem dX5_hedge_201 : decode cX5_hedge 201 = .ok (.iinc 1 1, 3) := dk_132 1 1 (dk_at dksX5_hedge_8 16 rfl rfl)
theorem dX5_hedge_204 : decode cX5_hedge 204 = .ok (.goto (-171), 3) := dk_167 255 85 (dk_at dksX5_hedge_8 19 rfl rfl)
theorem dX5_hedge_207 : decode cX5_hedge 207 = .ok (.sipush 9999, 3) := dk_17 39 15 (dk_at dksX5_hedge_9 0 rfl rfl)
theorem dX5_hedge_210 : decode cX5_hedge 210 = .ok (.istore_n 1, 1) := dk_60 (dk_at dksX5_hedge_9 3 rfl rfl)
theorem dX5_hedge_211 : decode cX5_hedge 211 = .ok (.iconst 0, 1) := dk_3 (dk_at dksX5_hedge_9 4 rfl rfl)
theorem dX5_hedge_212 : decode cX5_hedge 212 = .ok (.istore_n 2, 1) := dk_61 (dk_at dksX5_hedge_9 5 rfl rfl)
theorem dX5_hedge_213 : decode cX5_hedge 213 = .ok (.iload_n 2, 1) := dk_28 (dk_at dksX5_hedge_9 6 rfl rfl)
theorem dX5_hedge_214 : decode cX5_hedge 214 = .ok (.bipush 31, 2) := dk_16 31 (dk_at dksX5_hedge_9 7 rfl rfl)
theorem dX5_hedge_216 : decode cX5_hedge 216 = .ok (.if_icmp .ge 34, 3) := dk_162 0 34 (dk_at dksX5_hedge_9 9 rfl rfl)
theorem dX5_hedge_219 : decode cX5_hedge 219 = .ok (.aload_n 0, 1) := dk_42 (dk_at dksX5_hedge_9 12 rfl rfl)
theorem dX5_hedge_220 : decode cX5_hedge 220 = .ok (.getfield 59, 3) := dk_180 0 59 (dk_at dksX5_hedge_9 13 rfl rfl)
theorem dX5_hedge_223 : decode cX5_hedge 223 = .ok (.iload_n 2, 1) := dk_28 (dk_at dksX5_hedge_9 16 rfl rfl)
theorem dX5_hedge_224 : decode cX5_hedge 224 = .ok (.iaload, 1) := dk_46 (dk_at dksX5_hedge_9 17 rfl rfl)
theorem dX5_hedge_225 : decode cX5_hedge 225 = .ok (.iload_n 2, 1) := dk_28 (dk_at dksX5_hedge_9 18 rfl rfl)
theorem dX5_hedge_226 : decode cX5_hedge 226 = .ok (.iadd, 1) := dk_96 (dk_at dksX5_hedge_9 19 rfl rfl)
theorem dX5_hedge_227 : decode cX5_hedge 227 = .ok (.iload_n 1, 1) := dk_27 (dk_at dksX5_hedge_9 20 rfl rfl)
theorem dX5_hedge_228 : decode cX5_hedge 228 = .ok (.if_icmp .ge 14, 3) := dk_162 0 14 (dk_at dksX5_hedge_9 21 rfl rfl)
theorem dX5_hedge_231 : decode cX5_hedge 231 = .ok (.aload_n 0, 1) := dk_42 (dk_at dksX5_hedge_10 0 rfl rfl)
theorem dX5_hedge_232 : decode cX5_hedge 232 = .ok (.getfield 59, 3) := dk_180 0 59 (dk_at dksX5_hedge_10 1 rfl rfl)
theorem dX5_hedge_235 : decode cX5_hedge 235 = .ok (.iload_n 2, 1) := dk_28 (dk_at dksX5_hedge_10 4 rfl rfl)
theorem dX5_hedge_236 : decode cX5_hedge 236 = .ok (.iaload, 1) := dk_46 (dk_at dksX5_hedge_10 5 rfl rfl)
theorem dX5_hedge_237 : decode cX5_hedge 237 = .ok (.iload_n 2, 1) := dk_28 (dk_at dksX5_hedge_10 6 rfl rfl)
theorem dX5_hedge_238 : decode cX5_hedge 238 = .ok (.iadd, 1) := dk_96 (dk_at dksX5_hedge_10 7 rfl rfl)
theorem dX5_hedge_239 : decode cX5_hedge 239 = .ok (.goto 4, 3) := dk_167 0 4 (dk_at dksX5_hedge_10 8 rfl rfl)
theorem dX5_hedge_242 : decode cX5_hedge 242 = .ok (.iload_n 1, 1) := dk_27 (dk_at dksX5_hedge_10 11 rfl rfl)
theorem dX5_hedge_243 : decode cX5_hedge 243 = .ok (.istore_n 1, 1) := dk_60 (dk_at dksX5_hedge_10 12 rfl rfl)
theorem dX5_hedge_244 : decode cX5_hedge 244 = .ok (.iinc 2 1, 3) := dk_132 2 1 (dk_at dksX5_hedge_10 13 rfl rfl)
theorem dX5_hedge_247 : decode cX5_hedge 247 = .ok (.goto (-34), 3) := dk_167 255 222 (dk_at dksX5_hedge_10 16 rfl rfl)
theorem dX5_hedge_250 : decode cX5_hedge 250 = .ok (.iload_n 1, 1) := dk_27 (dk_at dksX5_hedge_10 19 rfl rfl)
theorem dX5_hedge_251 : decode cX5_hedge 251 = .ok (.ireturn, 1) := dk_172 (dk_at dksX5_hedge_10 20 rfl rfl)
abbrev cX5_folded : ByteArray := prog_17_method_112_code
def yX5_folded : MethodName := ⟨RX5, "folded", "(III)I"⟩
def dkwX5_folded_5 : List UInt8 := [172]
abbrev dktX5_folded_5 : List UInt8 := dkwX5_folded_5 ++ []
def dkwX5_folded_4 : List UInt8 := [184, 1, 32, 96, 54, 5, 132, 7, 1, 167, 255, 213, 29, 4, 160, 0, 8, 21, 4, 167, 0, 5, 21, 5]
abbrev dktX5_folded_4 : List UInt8 := dkwX5_folded_4 ++ dktX5_folded_5
def dkwX5_folded_3 : List UInt8 := [21, 7, 184, 1, 133, 184, 1, 7, 54, 6, 21, 4, 21, 6, 184, 1, 29, 96, 54, 4, 21, 5, 21, 6]
abbrev dktX5_folded_3 : List UInt8 := dkwX5_folded_3 ++ dktX5_folded_4
def dkwX5_folded_2 : List UInt8 := [172, 3, 54, 4, 4, 54, 5, 3, 54, 6, 4, 54, 7, 21, 7, 4, 27, 120, 162, 0, 41, 21, 6]
abbrev dktX5_folded_2 : List UInt8 := dkwX5_folded_2 ++ dktX5_folded_3
def dkwX5_folded_1 : List UInt8 := [4, 4, 27, 120, 4, 100, 184, 0, 100, 154, 0, 7, 17, 252, 24, 172, 29, 154, 0, 8, 28, 184, 1, 133]
abbrev dktX5_folded_1 : List UInt8 := dkwX5_folded_1 ++ dktX5_folded_2
def dkwX5_folded_0 : List UInt8 := [27, 4, 16, 15, 184, 0, 100, 153, 0, 29, 29, 3, 5, 184, 0, 100, 153, 0, 20, 29, 154, 0, 20, 28]
abbrev dktX5_folded_0 : List UInt8 := dkwX5_folded_0 ++ dktX5_folded_1
theorem dksX5_folded_0 : cX5_folded.data.toList.drop 0 = dktX5_folded_0 := by decide +kernel
theorem dksX5_folded_1 : cX5_folded.data.toList.drop 24 = dktX5_folded_1 := dk_seg dksX5_folded_0 24 rfl rfl
theorem dksX5_folded_2 : cX5_folded.data.toList.drop 48 = dktX5_folded_2 := dk_seg dksX5_folded_1 24 rfl rfl
theorem dksX5_folded_3 : cX5_folded.data.toList.drop 71 = dktX5_folded_3 := dk_seg dksX5_folded_2 23 rfl rfl
theorem dksX5_folded_4 : cX5_folded.data.toList.drop 95 = dktX5_folded_4 := dk_seg dksX5_folded_3 24 rfl rfl
theorem dksX5_folded_5 : cX5_folded.data.toList.drop 119 = dktX5_folded_5 := dk_seg dksX5_folded_4 24 rfl rfl
theorem dX5_folded_0 : decode cX5_folded 0 = .ok (.iload_n 1, 1) := dk_27 (dk_at dksX5_folded_0 0 rfl rfl)
theorem dX5_folded_1 : decode cX5_folded 1 = .ok (.iconst 1, 1) := dk_4 (dk_at dksX5_folded_0 1 rfl rfl)
theorem dX5_folded_2 : decode cX5_folded 2 = .ok (.bipush 15, 2) := dk_16 15 (dk_at dksX5_folded_0 2 rfl rfl)
theorem dX5_folded_4 : decode cX5_folded 4 = .ok (.invokestatic 100, 3) := dk_184 0 100 (dk_at dksX5_folded_0 4 rfl rfl)
theorem dX5_folded_7 : decode cX5_folded 7 = .ok (.ifCond .eq 29, 3) := dk_153 0 29 (dk_at dksX5_folded_0 7 rfl rfl)
theorem dX5_folded_10 : decode cX5_folded 10 = .ok (.iload_n 3, 1) := dk_29 (dk_at dksX5_folded_0 10 rfl rfl)
theorem dX5_folded_11 : decode cX5_folded 11 = .ok (.iconst 0, 1) := dk_3 (dk_at dksX5_folded_0 11 rfl rfl)
theorem dX5_folded_12 : decode cX5_folded 12 = .ok (.iconst 2, 1) := dk_5 (dk_at dksX5_folded_0 12 rfl rfl)
theorem dX5_folded_13 : decode cX5_folded 13 = .ok (.invokestatic 100, 3) := dk_184 0 100 (dk_at dksX5_folded_0 13 rfl rfl)
theorem dX5_folded_16 : decode cX5_folded 16 = .ok (.ifCond .eq 20, 3) := dk_153 0 20 (dk_at dksX5_folded_0 16 rfl rfl)
theorem dX5_folded_19 : decode cX5_folded 19 = .ok (.iload_n 3, 1) := dk_29 (dk_at dksX5_folded_0 19 rfl rfl)
theorem dX5_folded_20 : decode cX5_folded 20 = .ok (.ifCond .ne 20, 3) := dk_154 0 20 (dk_at dksX5_folded_0 20 rfl rfl)
theorem dX5_folded_23 : decode cX5_folded 23 = .ok (.iload_n 2, 1) := dk_28 (dk_at dksX5_folded_0 23 rfl rfl)
theorem dX5_folded_24 : decode cX5_folded 24 = .ok (.iconst 1, 1) := dk_4 (dk_at dksX5_folded_1 0 rfl rfl)
theorem dX5_folded_25 : decode cX5_folded 25 = .ok (.iconst 1, 1) := dk_4 (dk_at dksX5_folded_1 1 rfl rfl)
theorem dX5_folded_26 : decode cX5_folded 26 = .ok (.iload_n 1, 1) := dk_27 (dk_at dksX5_folded_1 2 rfl rfl)
theorem dX5_folded_27 : decode cX5_folded 27 = .ok (.ishl, 1) := dk_120 (dk_at dksX5_folded_1 3 rfl rfl)
theorem dX5_folded_28 : decode cX5_folded 28 = .ok (.iconst 1, 1) := dk_4 (dk_at dksX5_folded_1 4 rfl rfl)
theorem dX5_folded_29 : decode cX5_folded 29 = .ok (.isub, 1) := dk_100 (dk_at dksX5_folded_1 5 rfl rfl)
theorem dX5_folded_30 : decode cX5_folded 30 = .ok (.invokestatic 100, 3) := dk_184 0 100 (dk_at dksX5_folded_1 6 rfl rfl)
theorem dX5_folded_33 : decode cX5_folded 33 = .ok (.ifCond .ne 7, 3) := dk_154 0 7 (dk_at dksX5_folded_1 9 rfl rfl)
theorem dX5_folded_36 : decode cX5_folded 36 = .ok (.sipush (-1000), 3) := dk_17 252 24 (dk_at dksX5_folded_1 12 rfl rfl)
theorem dX5_folded_39 : decode cX5_folded 39 = .ok (.ireturn, 1) := dk_172 (dk_at dksX5_folded_1 15 rfl rfl)
theorem dX5_folded_40 : decode cX5_folded 40 = .ok (.iload_n 3, 1) := dk_29 (dk_at dksX5_folded_1 16 rfl rfl)
theorem dX5_folded_41 : decode cX5_folded 41 = .ok (.ifCond .ne 8, 3) := dk_154 0 8 (dk_at dksX5_folded_1 17 rfl rfl)
theorem dX5_folded_44 : decode cX5_folded 44 = .ok (.iload_n 2, 1) := dk_28 (dk_at dksX5_folded_1 20 rfl rfl)
theorem dX5_folded_45 : decode cX5_folded 45 = .ok (.invokestatic 389, 3) := dk_184 1 133 (dk_at dksX5_folded_1 21 rfl rfl)
theorem dX5_folded_48 : decode cX5_folded 48 = .ok (.ireturn, 1) := dk_172 (dk_at dksX5_folded_2 0 rfl rfl)
theorem dX5_folded_49 : decode cX5_folded 49 = .ok (.iconst 0, 1) := dk_3 (dk_at dksX5_folded_2 1 rfl rfl)
theorem dX5_folded_50 : decode cX5_folded 50 = .ok (.istore 4, 2) := dk_54 4 (dk_at dksX5_folded_2 2 rfl rfl)
theorem dX5_folded_52 : decode cX5_folded 52 = .ok (.iconst 1, 1) := dk_4 (dk_at dksX5_folded_2 4 rfl rfl)
theorem dX5_folded_53 : decode cX5_folded 53 = .ok (.istore 5, 2) := dk_54 5 (dk_at dksX5_folded_2 5 rfl rfl)
theorem dX5_folded_55 : decode cX5_folded 55 = .ok (.iconst 0, 1) := dk_3 (dk_at dksX5_folded_2 7 rfl rfl)
theorem dX5_folded_56 : decode cX5_folded 56 = .ok (.istore 6, 2) := dk_54 6 (dk_at dksX5_folded_2 8 rfl rfl)
theorem dX5_folded_58 : decode cX5_folded 58 = .ok (.iconst 1, 1) := dk_4 (dk_at dksX5_folded_2 10 rfl rfl)
theorem dX5_folded_59 : decode cX5_folded 59 = .ok (.istore 7, 2) := dk_54 7 (dk_at dksX5_folded_2 11 rfl rfl)
theorem dX5_folded_61 : decode cX5_folded 61 = .ok (.iload 7, 2) := dk_21 7 (dk_at dksX5_folded_2 13 rfl rfl)
theorem dX5_folded_63 : decode cX5_folded 63 = .ok (.iconst 1, 1) := dk_4 (dk_at dksX5_folded_2 15 rfl rfl)
theorem dX5_folded_64 : decode cX5_folded 64 = .ok (.iload_n 1, 1) := dk_27 (dk_at dksX5_folded_2 16 rfl rfl)
theorem dX5_folded_65 : decode cX5_folded 65 = .ok (.ishl, 1) := dk_120 (dk_at dksX5_folded_2 17 rfl rfl)
theorem dX5_folded_66 : decode cX5_folded 66 = .ok (.if_icmp .ge 41, 3) := dk_162 0 41 (dk_at dksX5_folded_2 18 rfl rfl)
theorem dX5_folded_69 : decode cX5_folded 69 = .ok (.iload 6, 2) := dk_21 6 (dk_at dksX5_folded_2 21 rfl rfl)
theorem dX5_folded_71 : decode cX5_folded 71 = .ok (.iload 7, 2) := dk_21 7 (dk_at dksX5_folded_3 0 rfl rfl)
theorem dX5_folded_73 : decode cX5_folded 73 = .ok (.invokestatic 389, 3) := dk_184 1 133 (dk_at dksX5_folded_3 2 rfl rfl)
theorem dX5_folded_76 : decode cX5_folded 76 = .ok (.invokestatic 263, 3) := dk_184 1 7 (dk_at dksX5_folded_3 5 rfl rfl)
theorem dX5_folded_79 : decode cX5_folded 79 = .ok (.istore 6, 2) := dk_54 6 (dk_at dksX5_folded_3 8 rfl rfl)
theorem dX5_folded_81 : decode cX5_folded 81 = .ok (.iload 4, 2) := dk_21 4 (dk_at dksX5_folded_3 10 rfl rfl)
theorem dX5_folded_83 : decode cX5_folded 83 = .ok (.iload 6, 2) := dk_21 6 (dk_at dksX5_folded_3 12 rfl rfl)
theorem dX5_folded_85 : decode cX5_folded 85 = .ok (.invokestatic 285, 3) := dk_184 1 29 (dk_at dksX5_folded_3 14 rfl rfl)
theorem dX5_folded_88 : decode cX5_folded 88 = .ok (.iadd, 1) := dk_96 (dk_at dksX5_folded_3 17 rfl rfl)
theorem dX5_folded_89 : decode cX5_folded 89 = .ok (.istore 4, 2) := dk_54 4 (dk_at dksX5_folded_3 18 rfl rfl)
theorem dX5_folded_91 : decode cX5_folded 91 = .ok (.iload 5, 2) := dk_21 5 (dk_at dksX5_folded_3 20 rfl rfl)
theorem dX5_folded_93 : decode cX5_folded 93 = .ok (.iload 6, 2) := dk_21 6 (dk_at dksX5_folded_3 22 rfl rfl)
theorem dX5_folded_95 : decode cX5_folded 95 = .ok (.invokestatic 288, 3) := dk_184 1 32 (dk_at dksX5_folded_4 0 rfl rfl)
theorem dX5_folded_98 : decode cX5_folded 98 = .ok (.iadd, 1) := dk_96 (dk_at dksX5_folded_4 3 rfl rfl)
theorem dX5_folded_99 : decode cX5_folded 99 = .ok (.istore 5, 2) := dk_54 5 (dk_at dksX5_folded_4 4 rfl rfl)
theorem dX5_folded_101 : decode cX5_folded 101 = .ok (.iinc 7 1, 3) := dk_132 7 1 (dk_at dksX5_folded_4 6 rfl rfl)
theorem dX5_folded_104 : decode cX5_folded 104 = .ok (.goto (-43), 3) := dk_167 255 213 (dk_at dksX5_folded_4 9 rfl rfl)
theorem dX5_folded_107 : decode cX5_folded 107 = .ok (.iload_n 3, 1) := dk_29 (dk_at dksX5_folded_4 12 rfl rfl)
theorem dX5_folded_108 : decode cX5_folded 108 = .ok (.iconst 1, 1) := dk_4 (dk_at dksX5_folded_4 13 rfl rfl)
theorem dX5_folded_109 : decode cX5_folded 109 = .ok (.if_icmp .ne 8, 3) := dk_160 0 8 (dk_at dksX5_folded_4 14 rfl rfl)
theorem dX5_folded_112 : decode cX5_folded 112 = .ok (.iload 4, 2) := dk_21 4 (dk_at dksX5_folded_4 17 rfl rfl)
theorem dX5_folded_114 : decode cX5_folded 114 = .ok (.goto 5, 3) := dk_167 0 5 (dk_at dksX5_folded_4 19 rfl rfl)
theorem dX5_folded_117 : decode cX5_folded 117 = .ok (.iload 5, 2) := dk_21 5 (dk_at dksX5_folded_4 22 rfl rfl)
theorem dX5_folded_119 : decode cX5_folded 119 = .ok (.ireturn, 1) := dk_172 (dk_at dksX5_folded_5 0 rfl rfl)
abbrev cX5_fold : ByteArray := prog_17_method_111_code
def yX5_fold : MethodName := ⟨RX5, "fold", "(I)I"⟩
def dkwX5_fold_1 : List UInt8 := [167, 0, 4, 3, 172]
abbrev dktX5_fold_1 : List UInt8 := dkwX5_fold_1 ++ []
def dkwX5_fold_0 : List UInt8 := [26, 60, 27, 5, 112, 154, 0, 10, 27, 5, 108, 60, 167, 255, 246, 27, 7, 112, 4, 160, 0, 7, 4]
abbrev dktX5_fold_0 : List UInt8 := dkwX5_fold_0 ++ dktX5_fold_1
theorem dksX5_fold_0 : cX5_fold.data.toList.drop 0 = dktX5_fold_0 := by decide +kernel
theorem dksX5_fold_1 : cX5_fold.data.toList.drop 23 = dktX5_fold_1 := dk_seg dksX5_fold_0 23 rfl rfl
theorem dX5_fold_0 : decode cX5_fold 0 = .ok (.iload_n 0, 1) := dk_26 (dk_at dksX5_fold_0 0 rfl rfl)
theorem dX5_fold_1 : decode cX5_fold 1 = .ok (.istore_n 1, 1) := dk_60 (dk_at dksX5_fold_0 1 rfl rfl)
theorem dX5_fold_2 : decode cX5_fold 2 = .ok (.iload_n 1, 1) := dk_27 (dk_at dksX5_fold_0 2 rfl rfl)
theorem dX5_fold_3 : decode cX5_fold 3 = .ok (.iconst 2, 1) := dk_5 (dk_at dksX5_fold_0 3 rfl rfl)
theorem dX5_fold_4 : decode cX5_fold 4 = .ok (.irem, 1) := dk_112 (dk_at dksX5_fold_0 4 rfl rfl)
theorem dX5_fold_5 : decode cX5_fold 5 = .ok (.ifCond .ne 10, 3) := dk_154 0 10 (dk_at dksX5_fold_0 5 rfl rfl)
theorem dX5_fold_8 : decode cX5_fold 8 = .ok (.iload_n 1, 1) := dk_27 (dk_at dksX5_fold_0 8 rfl rfl)
theorem dX5_fold_9 : decode cX5_fold 9 = .ok (.iconst 2, 1) := dk_5 (dk_at dksX5_fold_0 9 rfl rfl)
theorem dX5_fold_10 : decode cX5_fold 10 = .ok (.idiv, 1) := dk_108 (dk_at dksX5_fold_0 10 rfl rfl)
theorem dX5_fold_11 : decode cX5_fold 11 = .ok (.istore_n 1, 1) := dk_60 (dk_at dksX5_fold_0 11 rfl rfl)
theorem dX5_fold_12 : decode cX5_fold 12 = .ok (.goto (-10), 3) := dk_167 255 246 (dk_at dksX5_fold_0 12 rfl rfl)
theorem dX5_fold_15 : decode cX5_fold 15 = .ok (.iload_n 1, 1) := dk_27 (dk_at dksX5_fold_0 15 rfl rfl)
theorem dX5_fold_16 : decode cX5_fold 16 = .ok (.iconst 4, 1) := dk_7 (dk_at dksX5_fold_0 16 rfl rfl)
theorem dX5_fold_17 : decode cX5_fold 17 = .ok (.irem, 1) := dk_112 (dk_at dksX5_fold_0 17 rfl rfl)
theorem dX5_fold_18 : decode cX5_fold 18 = .ok (.iconst 1, 1) := dk_4 (dk_at dksX5_fold_0 18 rfl rfl)
theorem dX5_fold_19 : decode cX5_fold 19 = .ok (.if_icmp .ne 7, 3) := dk_160 0 7 (dk_at dksX5_fold_0 19 rfl rfl)
theorem dX5_fold_22 : decode cX5_fold 22 = .ok (.iconst 1, 1) := dk_4 (dk_at dksX5_fold_0 22 rfl rfl)
theorem dX5_fold_23 : decode cX5_fold 23 = .ok (.goto 4, 3) := dk_167 0 4 (dk_at dksX5_fold_1 0 rfl rfl)
theorem dX5_fold_26 : decode cX5_fold 26 = .ok (.iconst 0, 1) := dk_3 (dk_at dksX5_fold_1 3 rfl rfl)
theorem dX5_fold_27 : decode cX5_fold 27 = .ok (.ireturn, 1) := dk_172 (dk_at dksX5_fold_1 4 rfl rfl)
abbrev cX5_duel : ByteArray := prog_17_method_113_code
def yX5_duel : MethodName := ⟨RX5, "duel", "(III)I"⟩
def dkwX5_duel_11 : List UInt8 := [180, 0, 65, 21, 6, 46, 172]
abbrev dktX5_duel_11 : List UInt8 := dkwX5_duel_11 ++ []
def dkwX5_duel_10 : List UInt8 := [132, 8, 1, 167, 255, 134, 42, 180, 0, 65, 21, 6, 46, 17, 39, 15, 160, 0, 7, 2, 167, 0, 10, 42]
abbrev dktX5_duel_10 : List UInt8 := dkwX5_duel_10 ++ dktX5_duel_11
def dkwX5_duel_9 : List UInt8 := [167, 255, 186, 21, 7, 21, 4, 21, 5, 164, 0, 8, 21, 4, 167, 0, 5, 21, 5, 96, 54, 7]
abbrev dktX5_duel_9 : List UInt8 := dkwX5_duel_9 ++ dktX5_duel_10
def dkwX5_duel_8 : List UInt8 := [21, 9, 21, 4, 21, 5, 21, 8, 4, 96, 182, 1, 136, 132, 10, 1, 167, 255, 209, 132, 9, 1]
abbrev dktX5_duel_8 : List UInt8 := dkwX5_duel_8 ++ dktX5_duel_9
def dkwX5_duel_7 : List UInt8 := [163, 0, 43, 42, 180, 0, 65, 16, 121, 21, 9, 104, 21, 10, 96, 46, 21, 8, 160, 0, 19, 42, 21, 10]
abbrev dktX5_duel_7 : List UInt8 := dkwX5_duel_7 ++ dktX5_duel_8
def dkwX5_duel_6 : List UInt8 := [21, 9, 16, 60, 21, 7, 96, 163, 0, 66, 16, 60, 21, 7, 100, 54, 10, 21, 10, 16, 60, 21, 7, 96]
abbrev dktX5_duel_6 : List UInt8 := dkwX5_duel_6 ++ dktX5_duel_7
def dkwX5_duel_5 : List UInt8 := [162, 0, 121, 42, 180, 0, 65, 21, 6, 46, 17, 39, 15, 160, 0, 108, 16, 60, 21, 7, 100, 54, 9]
abbrev dktX5_duel_5 : List UInt8 := dkwX5_duel_5 ++ dktX5_duel_6
def dkwX5_duel_4 : List UInt8 := [167, 255, 235, 42, 180, 0, 65, 17, 28, 152, 3, 79, 3, 54, 7, 3, 54, 8, 21, 8, 16, 12]
abbrev dktX5_duel_4 : List UInt8 := dkwX5_duel_4 ++ dktX5_duel_5
def dkwX5_duel_3 : List UInt8 := [54, 7, 21, 7, 17, 57, 49, 162, 0, 19, 42, 180, 0, 65, 21, 7, 17, 39, 15, 79, 132, 7, 1]
abbrev dktX5_duel_3 : List UInt8 := dkwX5_duel_3 ++ dktX5_duel_4
def dkwX5_duel_2 : List UInt8 := [54, 4, 27, 16, 10, 112, 54, 5, 16, 121, 16, 60, 29, 96, 104, 16, 60, 96, 28, 96, 54, 6, 3]
abbrev dktX5_duel_2 : List UInt8 := dkwX5_duel_2 ++ dktX5_duel_3
def dkwX5_duel_1 : List UInt8 := [184, 0, 100, 153, 0, 14, 29, 16, 236, 16, 20, 184, 0, 100, 154, 0, 5, 2, 172, 27, 16, 10, 108]
abbrev dktX5_duel_1 : List UInt8 := dkwX5_duel_1 ++ dktX5_duel_2
def dkwX5_duel_0 : List UInt8 := [27, 4, 16, 55, 184, 0, 100, 153, 0, 33, 27, 16, 10, 112, 8, 163, 0, 25, 28, 16, 236, 16, 20]
abbrev dktX5_duel_0 : List UInt8 := dkwX5_duel_0 ++ dktX5_duel_1
theorem dksX5_duel_0 : cX5_duel.data.toList.drop 0 = dktX5_duel_0 := by decide +kernel
theorem dksX5_duel_1 : cX5_duel.data.toList.drop 23 = dktX5_duel_1 := dk_seg dksX5_duel_0 23 rfl rfl
theorem dksX5_duel_2 : cX5_duel.data.toList.drop 46 = dktX5_duel_2 := dk_seg dksX5_duel_1 23 rfl rfl
theorem dksX5_duel_3 : cX5_duel.data.toList.drop 69 = dktX5_duel_3 := dk_seg dksX5_duel_2 23 rfl rfl
theorem dksX5_duel_4 : cX5_duel.data.toList.drop 92 = dktX5_duel_4 := dk_seg dksX5_duel_3 23 rfl rfl
theorem dksX5_duel_5 : cX5_duel.data.toList.drop 114 = dktX5_duel_5 := dk_seg dksX5_duel_4 22 rfl rfl
theorem dksX5_duel_6 : cX5_duel.data.toList.drop 137 = dktX5_duel_6 := dk_seg dksX5_duel_5 23 rfl rfl
theorem dksX5_duel_7 : cX5_duel.data.toList.drop 161 = dktX5_duel_7 := dk_seg dksX5_duel_6 24 rfl rfl
theorem dksX5_duel_8 : cX5_duel.data.toList.drop 185 = dktX5_duel_8 := dk_seg dksX5_duel_7 24 rfl rfl
theorem dksX5_duel_9 : cX5_duel.data.toList.drop 207 = dktX5_duel_9 := dk_seg dksX5_duel_8 22 rfl rfl
theorem dksX5_duel_10 : cX5_duel.data.toList.drop 229 = dktX5_duel_10 := dk_seg dksX5_duel_9 22 rfl rfl
theorem dksX5_duel_11 : cX5_duel.data.toList.drop 253 = dktX5_duel_11 := dk_seg dksX5_duel_10 24 rfl rfl
theorem dX5_duel_0 : decode cX5_duel 0 = .ok (.iload_n 1, 1) := dk_27 (dk_at dksX5_duel_0 0 rfl rfl)
theorem dX5_duel_1 : decode cX5_duel 1 = .ok (.iconst 1, 1) := dk_4 (dk_at dksX5_duel_0 1 rfl rfl)
theorem dX5_duel_2 : decode cX5_duel 2 = .ok (.bipush 55, 2) := dk_16 55 (dk_at dksX5_duel_0 2 rfl rfl)
theorem dX5_duel_4 : decode cX5_duel 4 = .ok (.invokestatic 100, 3) := dk_184 0 100 (dk_at dksX5_duel_0 4 rfl rfl)
theorem dX5_duel_7 : decode cX5_duel 7 = .ok (.ifCond .eq 33, 3) := dk_153 0 33 (dk_at dksX5_duel_0 7 rfl rfl)
theorem dX5_duel_10 : decode cX5_duel 10 = .ok (.iload_n 1, 1) := dk_27 (dk_at dksX5_duel_0 10 rfl rfl)
theorem dX5_duel_11 : decode cX5_duel 11 = .ok (.bipush 10, 2) := dk_16 10 (dk_at dksX5_duel_0 11 rfl rfl)
theorem dX5_duel_13 : decode cX5_duel 13 = .ok (.irem, 1) := dk_112 (dk_at dksX5_duel_0 13 rfl rfl)
theorem dX5_duel_14 : decode cX5_duel 14 = .ok (.iconst 5, 1) := dk_8 (dk_at dksX5_duel_0 14 rfl rfl)
theorem dX5_duel_15 : decode cX5_duel 15 = .ok (.if_icmp .gt 25, 3) := dk_163 0 25 (dk_at dksX5_duel_0 15 rfl rfl)
theorem dX5_duel_18 : decode cX5_duel 18 = .ok (.iload_n 2, 1) := dk_28 (dk_at dksX5_duel_0 18 rfl rfl)
theorem dX5_duel_19 : decode cX5_duel 19 = .ok (.bipush (-20), 2) := dk_16 236 (dk_at dksX5_duel_0 19 rfl rfl)
theorem dX5_duel_21 : decode cX5_duel 21 = .ok (.bipush 20, 2) := dk_16 20 (dk_at dksX5_duel_0 21 rfl rfl)
theorem dX5_duel_23 : decode cX5_duel 23 = .ok (.invokestatic 100, 3) := dk_184 0 100 (dk_at dksX5_duel_1 0 rfl rfl)
theorem dX5_duel_26 : decode cX5_duel 26 = .ok (.ifCond .eq 14, 3) := dk_153 0 14 (dk_at dksX5_duel_1 3 rfl rfl)
theorem dX5_duel_29 : decode cX5_duel 29 = .ok (.iload_n 3, 1) := dk_29 (dk_at dksX5_duel_1 6 rfl rfl)
theorem dX5_duel_30 : decode cX5_duel 30 = .ok (.bipush (-20), 2) := dk_16 236 (dk_at dksX5_duel_1 7 rfl rfl)
theorem dX5_duel_32 : decode cX5_duel 32 = .ok (.bipush 20, 2) := dk_16 20 (dk_at dksX5_duel_1 9 rfl rfl)
theorem dX5_duel_34 : decode cX5_duel 34 = .ok (.invokestatic 100, 3) := dk_184 0 100 (dk_at dksX5_duel_1 11 rfl rfl)
theorem dX5_duel_37 : decode cX5_duel 37 = .ok (.ifCond .ne 5, 3) := dk_154 0 5 (dk_at dksX5_duel_1 14 rfl rfl)
theorem dX5_duel_40 : decode cX5_duel 40 = .ok (.iconst (-1), 1) := dk_2 (dk_at dksX5_duel_1 17 rfl rfl)
theorem dX5_duel_41 : decode cX5_duel 41 = .ok (.ireturn, 1) := dk_172 (dk_at dksX5_duel_1 18 rfl rfl)
theorem dX5_duel_42 : decode cX5_duel 42 = .ok (.iload_n 1, 1) := dk_27 (dk_at dksX5_duel_1 19 rfl rfl)
theorem dX5_duel_43 : decode cX5_duel 43 = .ok (.bipush 10, 2) := dk_16 10 (dk_at dksX5_duel_1 20 rfl rfl)
theorem dX5_duel_45 : decode cX5_duel 45 = .ok (.idiv, 1) := dk_108 (dk_at dksX5_duel_1 22 rfl rfl)
theorem dX5_duel_46 : decode cX5_duel 46 = .ok (.istore 4, 2) := dk_54 4 (dk_at dksX5_duel_2 0 rfl rfl)
theorem dX5_duel_48 : decode cX5_duel 48 = .ok (.iload_n 1, 1) := dk_27 (dk_at dksX5_duel_2 2 rfl rfl)
theorem dX5_duel_49 : decode cX5_duel 49 = .ok (.bipush 10, 2) := dk_16 10 (dk_at dksX5_duel_2 3 rfl rfl)
theorem dX5_duel_51 : decode cX5_duel 51 = .ok (.irem, 1) := dk_112 (dk_at dksX5_duel_2 5 rfl rfl)
theorem dX5_duel_52 : decode cX5_duel 52 = .ok (.istore 5, 2) := dk_54 5 (dk_at dksX5_duel_2 6 rfl rfl)
theorem dX5_duel_54 : decode cX5_duel 54 = .ok (.bipush 121, 2) := dk_16 121 (dk_at dksX5_duel_2 8 rfl rfl)
theorem dX5_duel_56 : decode cX5_duel 56 = .ok (.bipush 60, 2) := dk_16 60 (dk_at dksX5_duel_2 10 rfl rfl)
theorem dX5_duel_58 : decode cX5_duel 58 = .ok (.iload_n 3, 1) := dk_29 (dk_at dksX5_duel_2 12 rfl rfl)
theorem dX5_duel_59 : decode cX5_duel 59 = .ok (.iadd, 1) := dk_96 (dk_at dksX5_duel_2 13 rfl rfl)
theorem dX5_duel_60 : decode cX5_duel 60 = .ok (.imul, 1) := dk_104 (dk_at dksX5_duel_2 14 rfl rfl)
theorem dX5_duel_61 : decode cX5_duel 61 = .ok (.bipush 60, 2) := dk_16 60 (dk_at dksX5_duel_2 15 rfl rfl)
theorem dX5_duel_63 : decode cX5_duel 63 = .ok (.iadd, 1) := dk_96 (dk_at dksX5_duel_2 17 rfl rfl)
theorem dX5_duel_64 : decode cX5_duel 64 = .ok (.iload_n 2, 1) := dk_28 (dk_at dksX5_duel_2 18 rfl rfl)
theorem dX5_duel_65 : decode cX5_duel 65 = .ok (.iadd, 1) := dk_96 (dk_at dksX5_duel_2 19 rfl rfl)
theorem dX5_duel_66 : decode cX5_duel 66 = .ok (.istore 6, 2) := dk_54 6 (dk_at dksX5_duel_2 20 rfl rfl)
theorem dX5_duel_68 : decode cX5_duel 68 = .ok (.iconst 0, 1) := dk_3 (dk_at dksX5_duel_2 22 rfl rfl)
theorem dX5_duel_69 : decode cX5_duel 69 = .ok (.istore 7, 2) := dk_54 7 (dk_at dksX5_duel_3 0 rfl rfl)
theorem dX5_duel_71 : decode cX5_duel 71 = .ok (.iload 7, 2) := dk_21 7 (dk_at dksX5_duel_3 2 rfl rfl)
theorem dX5_duel_73 : decode cX5_duel 73 = .ok (.sipush 14641, 3) := dk_17 57 49 (dk_at dksX5_duel_3 4 rfl rfl)
theorem dX5_duel_76 : decode cX5_duel 76 = .ok (.if_icmp .ge 19, 3) := dk_162 0 19 (dk_at dksX5_duel_3 7 rfl rfl)
theorem dX5_duel_79 : decode cX5_duel 79 = .ok (.aload_n 0, 1) := dk_42 (dk_at dksX5_duel_3 10 rfl rfl)
theorem dX5_duel_80 : decode cX5_duel 80 = .ok (.getfield 65, 3) := dk_180 0 65 (dk_at dksX5_duel_3 11 rfl rfl)
theorem dX5_duel_83 : decode cX5_duel 83 = .ok (.iload 7, 2) := dk_21 7 (dk_at dksX5_duel_3 14 rfl rfl)
theorem dX5_duel_85 : decode cX5_duel 85 = .ok (.sipush 9999, 3) := dk_17 39 15 (dk_at dksX5_duel_3 16 rfl rfl)
theorem dX5_duel_88 : decode cX5_duel 88 = .ok (.iastore, 1) := dk_79 (dk_at dksX5_duel_3 19 rfl rfl)
theorem dX5_duel_89 : decode cX5_duel 89 = .ok (.iinc 7 1, 3) := dk_132 7 1 (dk_at dksX5_duel_3 20 rfl rfl)
theorem dX5_duel_92 : decode cX5_duel 92 = .ok (.goto (-21), 3) := dk_167 255 235 (dk_at dksX5_duel_4 0 rfl rfl)
theorem dX5_duel_95 : decode cX5_duel 95 = .ok (.aload_n 0, 1) := dk_42 (dk_at dksX5_duel_4 3 rfl rfl)
theorem dX5_duel_96 : decode cX5_duel 96 = .ok (.getfield 65, 3) := dk_180 0 65 (dk_at dksX5_duel_4 4 rfl rfl)
theorem dX5_duel_99 : decode cX5_duel 99 = .ok (.sipush 7320, 3) := dk_17 28 152 (dk_at dksX5_duel_4 7 rfl rfl)
theorem dX5_duel_102 : decode cX5_duel 102 = .ok (.iconst 0, 1) := dk_3 (dk_at dksX5_duel_4 10 rfl rfl)
theorem dX5_duel_103 : decode cX5_duel 103 = .ok (.iastore, 1) := dk_79 (dk_at dksX5_duel_4 11 rfl rfl)
theorem dX5_duel_104 : decode cX5_duel 104 = .ok (.iconst 0, 1) := dk_3 (dk_at dksX5_duel_4 12 rfl rfl)
theorem dX5_duel_105 : decode cX5_duel 105 = .ok (.istore 7, 2) := dk_54 7 (dk_at dksX5_duel_4 13 rfl rfl)
theorem dX5_duel_107 : decode cX5_duel 107 = .ok (.iconst 0, 1) := dk_3 (dk_at dksX5_duel_4 15 rfl rfl)
theorem dX5_duel_108 : decode cX5_duel 108 = .ok (.istore 8, 2) := dk_54 8 (dk_at dksX5_duel_4 16 rfl rfl)
theorem dX5_duel_110 : decode cX5_duel 110 = .ok (.iload 8, 2) := dk_21 8 (dk_at dksX5_duel_4 18 rfl rfl)
theorem dX5_duel_112 : decode cX5_duel 112 = .ok (.bipush 12, 2) := dk_16 12 (dk_at dksX5_duel_4 20 rfl rfl)
theorem dX5_duel_114 : decode cX5_duel 114 = .ok (.if_icmp .ge 121, 3) := dk_162 0 121 (dk_at dksX5_duel_5 0 rfl rfl)
theorem dX5_duel_117 : decode cX5_duel 117 = .ok (.aload_n 0, 1) := dk_42 (dk_at dksX5_duel_5 3 rfl rfl)
theorem dX5_duel_118 : decode cX5_duel 118 = .ok (.getfield 65, 3) := dk_180 0 65 (dk_at dksX5_duel_5 4 rfl rfl)
theorem dX5_duel_121 : decode cX5_duel 121 = .ok (.iload 6, 2) := dk_21 6 (dk_at dksX5_duel_5 7 rfl rfl)
theorem dX5_duel_123 : decode cX5_duel 123 = .ok (.iaload, 1) := dk_46 (dk_at dksX5_duel_5 9 rfl rfl)
theorem dX5_duel_124 : decode cX5_duel 124 = .ok (.sipush 9999, 3) := dk_17 39 15 (dk_at dksX5_duel_5 10 rfl rfl)
theorem dX5_duel_127 : decode cX5_duel 127 = .ok (.if_icmp .ne 108, 3) := dk_160 0 108 (dk_at dksX5_duel_5 13 rfl rfl)
theorem dX5_duel_130 : decode cX5_duel 130 = .ok (.bipush 60, 2) := dk_16 60 (dk_at dksX5_duel_5 16 rfl rfl)
theorem dX5_duel_132 : decode cX5_duel 132 = .ok (.iload 7, 2) := dk_21 7 (dk_at dksX5_duel_5 18 rfl rfl)
theorem dX5_duel_134 : decode cX5_duel 134 = .ok (.isub, 1) := dk_100 (dk_at dksX5_duel_5 20 rfl rfl)
theorem dX5_duel_135 : decode cX5_duel 135 = .ok (.istore 9, 2) := dk_54 9 (dk_at dksX5_duel_5 21 rfl rfl)
theorem dX5_duel_137 : decode cX5_duel 137 = .ok (.iload 9, 2) := dk_21 9 (dk_at dksX5_duel_6 0 rfl rfl)
theorem dX5_duel_139 : decode cX5_duel 139 = .ok (.bipush 60, 2) := dk_16 60 (dk_at dksX5_duel_6 2 rfl rfl)
theorem dX5_duel_141 : decode cX5_duel 141 = .ok (.iload 7, 2) := dk_21 7 (dk_at dksX5_duel_6 4 rfl rfl)
theorem dX5_duel_143 : decode cX5_duel 143 = .ok (.iadd, 1) := dk_96 (dk_at dksX5_duel_6 6 rfl rfl)
theorem dX5_duel_144 : decode cX5_duel 144 = .ok (.if_icmp .gt 66, 3) := dk_163 0 66 (dk_at dksX5_duel_6 7 rfl rfl)
theorem dX5_duel_147 : decode cX5_duel 147 = .ok (.bipush 60, 2) := dk_16 60 (dk_at dksX5_duel_6 10 rfl rfl)
theorem dX5_duel_149 : decode cX5_duel 149 = .ok (.iload 7, 2) := dk_21 7 (dk_at dksX5_duel_6 12 rfl rfl)
theorem dX5_duel_151 : decode cX5_duel 151 = .ok (.isub, 1) := dk_100 (dk_at dksX5_duel_6 14 rfl rfl)
theorem dX5_duel_152 : decode cX5_duel 152 = .ok (.istore 10, 2) := dk_54 10 (dk_at dksX5_duel_6 15 rfl rfl)
theorem dX5_duel_154 : decode cX5_duel 154 = .ok (.iload 10, 2) := dk_21 10 (dk_at dksX5_duel_6 17 rfl rfl)
theorem dX5_duel_156 : decode cX5_duel 156 = .ok (.bipush 60, 2) := dk_16 60 (dk_at dksX5_duel_6 19 rfl rfl)
theorem dX5_duel_158 : decode cX5_duel 158 = .ok (.iload 7, 2) := dk_21 7 (dk_at dksX5_duel_6 21 rfl rfl)
theorem dX5_duel_160 : decode cX5_duel 160 = .ok (.iadd, 1) := dk_96 (dk_at dksX5_duel_6 23 rfl rfl)
theorem dX5_duel_161 : decode cX5_duel 161 = .ok (.if_icmp .gt 43, 3) := dk_163 0 43 (dk_at dksX5_duel_7 0 rfl rfl)
theorem dX5_duel_164 : decode cX5_duel 164 = .ok (.aload_n 0, 1) := dk_42 (dk_at dksX5_duel_7 3 rfl rfl)
theorem dX5_duel_165 : decode cX5_duel 165 = .ok (.getfield 65, 3) := dk_180 0 65 (dk_at dksX5_duel_7 4 rfl rfl)
theorem dX5_duel_168 : decode cX5_duel 168 = .ok (.bipush 121, 2) := dk_16 121 (dk_at dksX5_duel_7 7 rfl rfl)
theorem dX5_duel_170 : decode cX5_duel 170 = .ok (.iload 9, 2) := dk_21 9 (dk_at dksX5_duel_7 9 rfl rfl)
theorem dX5_duel_172 : decode cX5_duel 172 = .ok (.imul, 1) := dk_104 (dk_at dksX5_duel_7 11 rfl rfl)
theorem dX5_duel_173 : decode cX5_duel 173 = .ok (.iload 10, 2) := dk_21 10 (dk_at dksX5_duel_7 12 rfl rfl)
theorem dX5_duel_175 : decode cX5_duel 175 = .ok (.iadd, 1) := dk_96 (dk_at dksX5_duel_7 14 rfl rfl)
theorem dX5_duel_176 : decode cX5_duel 176 = .ok (.iaload, 1) := dk_46 (dk_at dksX5_duel_7 15 rfl rfl)
theorem dX5_duel_177 : decode cX5_duel 177 = .ok (.iload 8, 2) := dk_21 8 (dk_at dksX5_duel_7 16 rfl rfl)
theorem dX5_duel_179 : decode cX5_duel 179 = .ok (.if_icmp .ne 19, 3) := dk_160 0 19 (dk_at dksX5_duel_7 18 rfl rfl)
theorem dX5_duel_182 : decode cX5_duel 182 = .ok (.aload_n 0, 1) := dk_42 (dk_at dksX5_duel_7 21 rfl rfl)
theorem dX5_duel_183 : decode cX5_duel 183 = .ok (.iload 10, 2) := dk_21 10 (dk_at dksX5_duel_7 22 rfl rfl)
theorem dX5_duel_185 : decode cX5_duel 185 = .ok (.iload 9, 2) := dk_21 9 (dk_at dksX5_duel_8 0 rfl rfl)
theorem dX5_duel_187 : decode cX5_duel 187 = .ok (.iload 4, 2) := dk_21 4 (dk_at dksX5_duel_8 2 rfl rfl)
theorem dX5_duel_189 : decode cX5_duel 189 = .ok (.iload 5, 2) := dk_21 5 (dk_at dksX5_duel_8 4 rfl rfl)
theorem dX5_duel_191 : decode cX5_duel 191 = .ok (.iload 8, 2) := dk_21 8 (dk_at dksX5_duel_8 6 rfl rfl)
theorem dX5_duel_193 : decode cX5_duel 193 = .ok (.iconst 1, 1) := dk_4 (dk_at dksX5_duel_8 8 rfl rfl)
theorem dX5_duel_194 : decode cX5_duel 194 = .ok (.iadd, 1) := dk_96 (dk_at dksX5_duel_8 9 rfl rfl)
theorem dX5_duel_195 : decode cX5_duel 195 = .ok (.invokevirtual 392, 3) := dk_182 1 136 (dk_at dksX5_duel_8 10 rfl rfl)
theorem dX5_duel_198 : decode cX5_duel 198 = .ok (.iinc 10 1, 3) := dk_132 10 1 (dk_at dksX5_duel_8 13 rfl rfl)
theorem dX5_duel_201 : decode cX5_duel 201 = .ok (.goto (-47), 3) := dk_167 255 209 (dk_at dksX5_duel_8 16 rfl rfl)
theorem dX5_duel_204 : decode cX5_duel 204 = .ok (.iinc 9 1, 3) := dk_132 9 1 (dk_at dksX5_duel_8 19 rfl rfl)
theorem dX5_duel_207 : decode cX5_duel 207 = .ok (.goto (-70), 3) := dk_167 255 186 (dk_at dksX5_duel_9 0 rfl rfl)
theorem dX5_duel_210 : decode cX5_duel 210 = .ok (.iload 7, 2) := dk_21 7 (dk_at dksX5_duel_9 3 rfl rfl)
theorem dX5_duel_212 : decode cX5_duel 212 = .ok (.iload 4, 2) := dk_21 4 (dk_at dksX5_duel_9 5 rfl rfl)
theorem dX5_duel_214 : decode cX5_duel 214 = .ok (.iload 5, 2) := dk_21 5 (dk_at dksX5_duel_9 7 rfl rfl)
theorem dX5_duel_216 : decode cX5_duel 216 = .ok (.if_icmp .le 8, 3) := dk_164 0 8 (dk_at dksX5_duel_9 9 rfl rfl)
theorem dX5_duel_219 : decode cX5_duel 219 = .ok (.iload 4, 2) := dk_21 4 (dk_at dksX5_duel_9 12 rfl rfl)
theorem dX5_duel_221 : decode cX5_duel 221 = .ok (.goto 5, 3) := dk_167 0 5 (dk_at dksX5_duel_9 14 rfl rfl)
theorem dX5_duel_224 : decode cX5_duel 224 = .ok (.iload 5, 2) := dk_21 5 (dk_at dksX5_duel_9 17 rfl rfl)
theorem dX5_duel_226 : decode cX5_duel 226 = .ok (.iadd, 1) := dk_96 (dk_at dksX5_duel_9 19 rfl rfl)
theorem dX5_duel_227 : decode cX5_duel 227 = .ok (.istore 7, 2) := dk_54 7 (dk_at dksX5_duel_9 20 rfl rfl)
theorem dX5_duel_229 : decode cX5_duel 229 = .ok (.iinc 8 1, 3) := dk_132 8 1 (dk_at dksX5_duel_10 0 rfl rfl)
theorem dX5_duel_232 : decode cX5_duel 232 = .ok (.goto (-122), 3) := dk_167 255 134 (dk_at dksX5_duel_10 3 rfl rfl)
theorem dX5_duel_235 : decode cX5_duel 235 = .ok (.aload_n 0, 1) := dk_42 (dk_at dksX5_duel_10 6 rfl rfl)
theorem dX5_duel_236 : decode cX5_duel 236 = .ok (.getfield 65, 3) := dk_180 0 65 (dk_at dksX5_duel_10 7 rfl rfl)
theorem dX5_duel_239 : decode cX5_duel 239 = .ok (.iload 6, 2) := dk_21 6 (dk_at dksX5_duel_10 10 rfl rfl)
theorem dX5_duel_241 : decode cX5_duel 241 = .ok (.iaload, 1) := dk_46 (dk_at dksX5_duel_10 12 rfl rfl)
theorem dX5_duel_242 : decode cX5_duel 242 = .ok (.sipush 9999, 3) := dk_17 39 15 (dk_at dksX5_duel_10 13 rfl rfl)
theorem dX5_duel_245 : decode cX5_duel 245 = .ok (.if_icmp .ne 7, 3) := dk_160 0 7 (dk_at dksX5_duel_10 16 rfl rfl)
theorem dX5_duel_248 : decode cX5_duel 248 = .ok (.iconst (-1), 1) := dk_2 (dk_at dksX5_duel_10 19 rfl rfl)
theorem dX5_duel_249 : decode cX5_duel 249 = .ok (.goto 10, 3) := dk_167 0 10 (dk_at dksX5_duel_10 20 rfl rfl)
theorem dX5_duel_252 : decode cX5_duel 252 = .ok (.aload_n 0, 1) := dk_42 (dk_at dksX5_duel_10 23 rfl rfl)
theorem dX5_duel_253 : decode cX5_duel 253 = .ok (.getfield 65, 3) := dk_180 0 65 (dk_at dksX5_duel_11 0 rfl rfl)
theorem dX5_duel_256 : decode cX5_duel 256 = .ok (.iload 6, 2) := dk_21 6 (dk_at dksX5_duel_11 3 rfl rfl)
theorem dX5_duel_258 : decode cX5_duel 258 = .ok (.iaload, 1) := dk_46 (dk_at dksX5_duel_11 5 rfl rfl)
theorem dX5_duel_259 : decode cX5_duel 259 = .ok (.ireturn, 1) := dk_172 (dk_at dksX5_duel_11 6 rfl rfl)
abbrev cX5_pacesFrom : ByteArray := prog_17_method_114_code
def yX5_pacesFrom : MethodName := ⟨RX5, "pacesFrom", "(IIIII)V"⟩
def dkwX5_pacesFrom_4 : List UInt8 := [180, 0, 65, 21, 9, 21, 5, 79, 132, 6, 1, 167, 255, 155, 177]
abbrev dktX5_pacesFrom_4 : List UInt8 := dkwX5_pacesFrom_4 ++ []
def dkwX5_pacesFrom_3 : List UInt8 := [167, 0, 6, 21, 7, 116, 96, 54, 9, 42, 180, 0, 65, 21, 9, 46, 17, 39, 15, 160, 0, 12, 42]
abbrev dktX5_pacesFrom_3 : List UInt8 := dkwX5_pacesFrom_3 ++ dktX5_pacesFrom_4
def dkwX5_pacesFrom_2 : List UInt8 := [162, 0, 8, 21, 8, 167, 0, 6, 21, 8, 116, 96, 104, 27, 96, 21, 6, 5, 112, 154, 0, 8, 21, 7]
abbrev dktX5_pacesFrom_2 : List UInt8 := dkwX5_pacesFrom_2 ++ dktX5_pacesFrom_3
def dkwX5_pacesFrom_1 : List UInt8 := [21, 6, 7, 162, 0, 8, 21, 4, 167, 0, 4, 29, 54, 8, 16, 121, 28, 21, 6, 7, 112, 5]
abbrev dktX5_pacesFrom_1 : List UInt8 := dkwX5_pacesFrom_1 ++ dktX5_pacesFrom_2
def dkwX5_pacesFrom_0 : List UInt8 := [3, 54, 6, 21, 6, 16, 8, 162, 0, 100, 21, 6, 7, 162, 0, 7, 29, 167, 0, 5, 21, 4, 54, 7]
abbrev dktX5_pacesFrom_0 : List UInt8 := dkwX5_pacesFrom_0 ++ dktX5_pacesFrom_1
theorem dksX5_pacesFrom_0 : cX5_pacesFrom.data.toList.drop 0 = dktX5_pacesFrom_0 := by decide +kernel
theorem dksX5_pacesFrom_1 : cX5_pacesFrom.data.toList.drop 24 = dktX5_pacesFrom_1 := dk_seg dksX5_pacesFrom_0 24 rfl rfl
theorem dksX5_pacesFrom_2 : cX5_pacesFrom.data.toList.drop 46 = dktX5_pacesFrom_2 := dk_seg dksX5_pacesFrom_1 22 rfl rfl
theorem dksX5_pacesFrom_3 : cX5_pacesFrom.data.toList.drop 70 = dktX5_pacesFrom_3 := dk_seg dksX5_pacesFrom_2 24 rfl rfl
theorem dksX5_pacesFrom_4 : cX5_pacesFrom.data.toList.drop 93 = dktX5_pacesFrom_4 := dk_seg dksX5_pacesFrom_3 23 rfl rfl
theorem dX5_pacesFrom_0 : decode cX5_pacesFrom 0 = .ok (.iconst 0, 1) := dk_3 (dk_at dksX5_pacesFrom_0 0 rfl rfl)
theorem dX5_pacesFrom_1 : decode cX5_pacesFrom 1 = .ok (.istore 6, 2) := dk_54 6 (dk_at dksX5_pacesFrom_0 1 rfl rfl)
theorem dX5_pacesFrom_3 : decode cX5_pacesFrom 3 = .ok (.iload 6, 2) := dk_21 6 (dk_at dksX5_pacesFrom_0 3 rfl rfl)
theorem dX5_pacesFrom_5 : decode cX5_pacesFrom 5 = .ok (.bipush 8, 2) := dk_16 8 (dk_at dksX5_pacesFrom_0 5 rfl rfl)
theorem dX5_pacesFrom_7 : decode cX5_pacesFrom 7 = .ok (.if_icmp .ge 100, 3) := dk_162 0 100 (dk_at dksX5_pacesFrom_0 7 rfl rfl)
theorem dX5_pacesFrom_10 : decode cX5_pacesFrom 10 = .ok (.iload 6, 2) := dk_21 6 (dk_at dksX5_pacesFrom_0 10 rfl rfl)
theorem dX5_pacesFrom_12 : decode cX5_pacesFrom 12 = .ok (.iconst 4, 1) := dk_7 (dk_at dksX5_pacesFrom_0 12 rfl rfl)
theorem dX5_pacesFrom_13 : decode cX5_pacesFrom 13 = .ok (.if_icmp .ge 7, 3) := dk_162 0 7 (dk_at dksX5_pacesFrom_0 13 rfl rfl)
theorem dX5_pacesFrom_16 : decode cX5_pacesFrom 16 = .ok (.iload_n 3, 1) := dk_29 (dk_at dksX5_pacesFrom_0 16 rfl rfl)
theorem dX5_pacesFrom_17 : decode cX5_pacesFrom 17 = .ok (.goto 5, 3) := dk_167 0 5 (dk_at dksX5_pacesFrom_0 17 rfl rfl)
theorem dX5_pacesFrom_20 : decode cX5_pacesFrom 20 = .ok (.iload 4, 2) := dk_21 4 (dk_at dksX5_pacesFrom_0 20 rfl rfl)
theorem dX5_pacesFrom_22 : decode cX5_pacesFrom 22 = .ok (.istore 7, 2) := dk_54 7 (dk_at dksX5_pacesFrom_0 22 rfl rfl)
theorem dX5_pacesFrom_24 : decode cX5_pacesFrom 24 = .ok (.iload 6, 2) := dk_21 6 (dk_at dksX5_pacesFrom_1 0 rfl rfl)
theorem dX5_pacesFrom_26 : decode cX5_pacesFrom 26 = .ok (.iconst 4, 1) := dk_7 (dk_at dksX5_pacesFrom_1 2 rfl rfl)
theorem dX5_pacesFrom_27 : decode cX5_pacesFrom 27 = .ok (.if_icmp .ge 8, 3) := dk_162 0 8 (dk_at dksX5_pacesFrom_1 3 rfl rfl)
theorem dX5_pacesFrom_30 : decode cX5_pacesFrom 30 = .ok (.iload 4, 2) := dk_21 4 (dk_at dksX5_pacesFrom_1 6 rfl rfl)
theorem dX5_pacesFrom_32 : decode cX5_pacesFrom 32 = .ok (.goto 4, 3) := dk_167 0 4 (dk_at dksX5_pacesFrom_1 8 rfl rfl)
theorem dX5_pacesFrom_35 : decode cX5_pacesFrom 35 = .ok (.iload_n 3, 1) := dk_29 (dk_at dksX5_pacesFrom_1 11 rfl rfl)
theorem dX5_pacesFrom_36 : decode cX5_pacesFrom 36 = .ok (.istore 8, 2) := dk_54 8 (dk_at dksX5_pacesFrom_1 12 rfl rfl)
theorem dX5_pacesFrom_38 : decode cX5_pacesFrom 38 = .ok (.bipush 121, 2) := dk_16 121 (dk_at dksX5_pacesFrom_1 14 rfl rfl)
theorem dX5_pacesFrom_40 : decode cX5_pacesFrom 40 = .ok (.iload_n 2, 1) := dk_28 (dk_at dksX5_pacesFrom_1 16 rfl rfl)
theorem dX5_pacesFrom_41 : decode cX5_pacesFrom 41 = .ok (.iload 6, 2) := dk_21 6 (dk_at dksX5_pacesFrom_1 17 rfl rfl)
theorem dX5_pacesFrom_43 : decode cX5_pacesFrom 43 = .ok (.iconst 4, 1) := dk_7 (dk_at dksX5_pacesFrom_1 19 rfl rfl)
theorem dX5_pacesFrom_44 : decode cX5_pacesFrom 44 = .ok (.irem, 1) := dk_112 (dk_at dksX5_pacesFrom_1 20 rfl rfl)
theorem dX5_pacesFrom_45 : decode cX5_pacesFrom 45 = .ok (.iconst 2, 1) := dk_5 (dk_at dksX5_pacesFrom_1 21 rfl rfl)
theorem dX5_pacesFrom_46 : decode cX5_pacesFrom 46 = .ok (.if_icmp .ge 8, 3) := dk_162 0 8 (dk_at dksX5_pacesFrom_2 0 rfl rfl)
theorem dX5_pacesFrom_49 : decode cX5_pacesFrom 49 = .ok (.iload 8, 2) := dk_21 8 (dk_at dksX5_pacesFrom_2 3 rfl rfl)
theorem dX5_pacesFrom_51 : decode cX5_pacesFrom 51 = .ok (.goto 6, 3) := dk_167 0 6 (dk_at dksX5_pacesFrom_2 5 rfl rfl)
theorem dX5_pacesFrom_54 : decode cX5_pacesFrom 54 = .ok (.iload 8, 2) := dk_21 8 (dk_at dksX5_pacesFrom_2 8 rfl rfl)
theorem dX5_pacesFrom_56 : decode cX5_pacesFrom 56 = .ok (.ineg, 1) := dk_116 (dk_at dksX5_pacesFrom_2 10 rfl rfl)
theorem dX5_pacesFrom_57 : decode cX5_pacesFrom 57 = .ok (.iadd, 1) := dk_96 (dk_at dksX5_pacesFrom_2 11 rfl rfl)
theorem dX5_pacesFrom_58 : decode cX5_pacesFrom 58 = .ok (.imul, 1) := dk_104 (dk_at dksX5_pacesFrom_2 12 rfl rfl)
theorem dX5_pacesFrom_59 : decode cX5_pacesFrom 59 = .ok (.iload_n 1, 1) := dk_27 (dk_at dksX5_pacesFrom_2 13 rfl rfl)
theorem dX5_pacesFrom_60 : decode cX5_pacesFrom 60 = .ok (.iadd, 1) := dk_96 (dk_at dksX5_pacesFrom_2 14 rfl rfl)
theorem dX5_pacesFrom_61 : decode cX5_pacesFrom 61 = .ok (.iload 6, 2) := dk_21 6 (dk_at dksX5_pacesFrom_2 15 rfl rfl)
theorem dX5_pacesFrom_63 : decode cX5_pacesFrom 63 = .ok (.iconst 2, 1) := dk_5 (dk_at dksX5_pacesFrom_2 17 rfl rfl)
theorem dX5_pacesFrom_64 : decode cX5_pacesFrom 64 = .ok (.irem, 1) := dk_112 (dk_at dksX5_pacesFrom_2 18 rfl rfl)
theorem dX5_pacesFrom_65 : decode cX5_pacesFrom 65 = .ok (.ifCond .ne 8, 3) := dk_154 0 8 (dk_at dksX5_pacesFrom_2 19 rfl rfl)
theorem dX5_pacesFrom_68 : decode cX5_pacesFrom 68 = .ok (.iload 7, 2) := dk_21 7 (dk_at dksX5_pacesFrom_2 22 rfl rfl)
theorem dX5_pacesFrom_70 : decode cX5_pacesFrom 70 = .ok (.goto 6, 3) := dk_167 0 6 (dk_at dksX5_pacesFrom_3 0 rfl rfl)
theorem dX5_pacesFrom_73 : decode cX5_pacesFrom 73 = .ok (.iload 7, 2) := dk_21 7 (dk_at dksX5_pacesFrom_3 3 rfl rfl)
theorem dX5_pacesFrom_75 : decode cX5_pacesFrom 75 = .ok (.ineg, 1) := dk_116 (dk_at dksX5_pacesFrom_3 5 rfl rfl)
theorem dX5_pacesFrom_76 : decode cX5_pacesFrom 76 = .ok (.iadd, 1) := dk_96 (dk_at dksX5_pacesFrom_3 6 rfl rfl)
theorem dX5_pacesFrom_77 : decode cX5_pacesFrom 77 = .ok (.istore 9, 2) := dk_54 9 (dk_at dksX5_pacesFrom_3 7 rfl rfl)
theorem dX5_pacesFrom_79 : decode cX5_pacesFrom 79 = .ok (.aload_n 0, 1) := dk_42 (dk_at dksX5_pacesFrom_3 9 rfl rfl)
theorem dX5_pacesFrom_80 : decode cX5_pacesFrom 80 = .ok (.getfield 65, 3) := dk_180 0 65 (dk_at dksX5_pacesFrom_3 10 rfl rfl)
theorem dX5_pacesFrom_83 : decode cX5_pacesFrom 83 = .ok (.iload 9, 2) := dk_21 9 (dk_at dksX5_pacesFrom_3 13 rfl rfl)
theorem dX5_pacesFrom_85 : decode cX5_pacesFrom 85 = .ok (.iaload, 1) := dk_46 (dk_at dksX5_pacesFrom_3 15 rfl rfl)
theorem dX5_pacesFrom_86 : decode cX5_pacesFrom 86 = .ok (.sipush 9999, 3) := dk_17 39 15 (dk_at dksX5_pacesFrom_3 16 rfl rfl)
theorem dX5_pacesFrom_89 : decode cX5_pacesFrom 89 = .ok (.if_icmp .ne 12, 3) := dk_160 0 12 (dk_at dksX5_pacesFrom_3 19 rfl rfl)
theorem dX5_pacesFrom_92 : decode cX5_pacesFrom 92 = .ok (.aload_n 0, 1) := dk_42 (dk_at dksX5_pacesFrom_3 22 rfl rfl)
theorem dX5_pacesFrom_93 : decode cX5_pacesFrom 93 = .ok (.getfield 65, 3) := dk_180 0 65 (dk_at dksX5_pacesFrom_4 0 rfl rfl)
theorem dX5_pacesFrom_96 : decode cX5_pacesFrom 96 = .ok (.iload 9, 2) := dk_21 9 (dk_at dksX5_pacesFrom_4 3 rfl rfl)
theorem dX5_pacesFrom_98 : decode cX5_pacesFrom 98 = .ok (.iload 5, 2) := dk_21 5 (dk_at dksX5_pacesFrom_4 5 rfl rfl)
theorem dX5_pacesFrom_100 : decode cX5_pacesFrom 100 = .ok (.iastore, 1) := dk_79 (dk_at dksX5_pacesFrom_4 7 rfl rfl)
theorem dX5_pacesFrom_101 : decode cX5_pacesFrom 101 = .ok (.iinc 6 1, 3) := dk_132 6 1 (dk_at dksX5_pacesFrom_4 8 rfl rfl)
theorem dX5_pacesFrom_104 : decode cX5_pacesFrom 104 = .ok (.goto (-101), 3) := dk_167 255 155 (dk_at dksX5_pacesFrom_4 11 rfl rfl)
theorem dX5_pacesFrom_107 : decode cX5_pacesFrom 107 = .ok (.return_, 1) := dk_177 (dk_at dksX5_pacesFrom_4 14 rfl rfl)
