set_option maxRecDepth 100000
abbrev cX0_one : ByteArray := prog_1_method_46_code
def yX0_one : MethodName := ⟨RX0, "one", "(I)I"⟩
def dkwX0_one_4 : List UInt8 := [167, 0, 4, 3, 172]
abbrev dktX0_one_4 : List UInt8 := dkwX0_one_4 ++ []
def dkwX0_one_3 : List UInt8 := [42, 29, 4, 182, 1, 125, 153, 0, 5, 4, 172, 132, 3, 1, 167, 255, 228, 28, 154, 0, 7, 4]
abbrev dktX0_one_3 : List UInt8 := dkwX0_one_3 ++ dktX0_one_4
def dkwX0_one_2 : List UInt8 := [180, 1, 108, 159, 0, 5, 3, 172, 3, 62, 29, 28, 162, 0, 29, 42, 29, 3, 182, 1, 125, 154, 0, 12]
abbrev dktX0_one_2 : List UInt8 := dkwX0_one_2 ++ dktX0_one_3
def dkwX0_one_1 : List UInt8 := [180, 0, 20, 180, 1, 96, 3, 50, 180, 1, 108, 61, 28, 42, 180, 0, 20, 180, 1, 96, 4, 50]
abbrev dktX0_one_1 : List UInt8 := dkwX0_one_1 ++ dktX0_one_2
def dkwX0_one_0 : List UInt8 := [27, 3, 4, 184, 0, 110, 154, 0, 5, 2, 172, 27, 4, 160, 0, 8, 42, 182, 1, 122, 172, 42]
abbrev dktX0_one_0 : List UInt8 := dkwX0_one_0 ++ dktX0_one_1
theorem dksX0_one_0 : cX0_one.data.toList.drop 0 = dktX0_one_0 := by decide +kernel
theorem dksX0_one_1 : cX0_one.data.toList.drop 22 = dktX0_one_1 := dk_seg dksX0_one_0 22 rfl rfl
theorem dksX0_one_2 : cX0_one.data.toList.drop 44 = dktX0_one_2 := dk_seg dksX0_one_1 22 rfl rfl
theorem dksX0_one_3 : cX0_one.data.toList.drop 68 = dktX0_one_3 := dk_seg dksX0_one_2 24 rfl rfl
theorem dksX0_one_4 : cX0_one.data.toList.drop 90 = dktX0_one_4 := dk_seg dksX0_one_3 22 rfl rfl
theorem dX0_one_0 : decode cX0_one 0 = .ok (.iload_n 1, 1) := dk_27 (dk_at dksX0_one_0 0 rfl rfl)
theorem dX0_one_1 : decode cX0_one 1 = .ok (.iconst 0, 1) := dk_3 (dk_at dksX0_one_0 1 rfl rfl)
theorem dX0_one_2 : decode cX0_one 2 = .ok (.iconst 1, 1) := dk_4 (dk_at dksX0_one_0 2 rfl rfl)
theorem dX0_one_3 : decode cX0_one 3 = .ok (.invokestatic 110, 3) := dk_184 0 110 (dk_at dksX0_one_0 3 rfl rfl)
theorem dX0_one_6 : decode cX0_one 6 = .ok (.ifCond .ne 5, 3) := dk_154 0 5 (dk_at dksX0_one_0 6 rfl rfl)
theorem dX0_one_9 : decode cX0_one 9 = .ok (.iconst (-1), 1) := dk_2 (dk_at dksX0_one_0 9 rfl rfl)
theorem dX0_one_10 : decode cX0_one 10 = .ok (.ireturn, 1) := dk_172 (dk_at dksX0_one_0 10 rfl rfl)
theorem dX0_one_11 : decode cX0_one 11 = .ok (.iload_n 1, 1) := dk_27 (dk_at dksX0_one_0 11 rfl rfl)
theorem dX0_one_12 : decode cX0_one 12 = .ok (.iconst 1, 1) := dk_4 (dk_at dksX0_one_0 12 rfl rfl)
theorem dX0_one_13 : decode cX0_one 13 = .ok (.if_icmp .ne 8, 3) := dk_160 0 8 (dk_at dksX0_one_0 13 rfl rfl)
theorem dX0_one_16 : decode cX0_one 16 = .ok (.aload_n 0, 1) := dk_42 (dk_at dksX0_one_0 16 rfl rfl)
theorem dX0_one_17 : decode cX0_one 17 = .ok (.invokevirtual 378, 3) := dk_182 1 122 (dk_at dksX0_one_0 17 rfl rfl)
theorem dX0_one_20 : decode cX0_one 20 = .ok (.ireturn, 1) := dk_172 (dk_at dksX0_one_0 20 rfl rfl)
theorem dX0_one_21 : decode cX0_one 21 = .ok (.aload_n 0, 1) := dk_42 (dk_at dksX0_one_0 21 rfl rfl)
theorem dX0_one_22 : decode cX0_one 22 = .ok (.getfield 20, 3) := dk_180 0 20 (dk_at dksX0_one_1 0 rfl rfl)
theorem dX0_one_25 : decode cX0_one 25 = .ok (.getfield 352, 3) := dk_180 1 96 (dk_at dksX0_one_1 3 rfl rfl)
theorem dX0_one_28 : decode cX0_one 28 = .ok (.iconst 0, 1) := dk_3 (dk_at dksX0_one_1 6 rfl rfl)
theorem dX0_one_29 : decode cX0_one 29 = .ok (.aaload, 1) := dk_50 (dk_at dksX0_one_1 7 rfl rfl)
theorem dX0_one_30 : decode cX0_one 30 = .ok (.getfield 364, 3) := dk_180 1 108 (dk_at dksX0_one_1 8 rfl rfl)
theorem dX0_one_33 : decode cX0_one 33 = .ok (.istore_n 2, 1) := dk_61 (dk_at dksX0_one_1 11 rfl rfl)
theorem dX0_one_34 : decode cX0_one 34 = .ok (.iload_n 2, 1) := dk_28 (dk_at dksX0_one_1 12 rfl rfl)
theorem dX0_one_35 : decode cX0_one 35 = .ok (.aload_n 0, 1) := dk_42 (dk_at dksX0_one_1 13 rfl rfl)
theorem dX0_one_36 : decode cX0_one 36 = .ok (.getfield 20, 3) := dk_180 0 20 (dk_at dksX0_one_1 14 rfl rfl)
theorem dX0_one_39 : decode cX0_one 39 = .ok (.getfield 352, 3) := dk_180 1 96 (dk_at dksX0_one_1 17 rfl rfl)
theorem dX0_one_42 : decode cX0_one 42 = .ok (.iconst 1, 1) := dk_4 (dk_at dksX0_one_1 20 rfl rfl)
theorem dX0_one_43 : decode cX0_one 43 = .ok (.aaload, 1) := dk_50 (dk_at dksX0_one_1 21 rfl rfl)
theorem dX0_one_44 : decode cX0_one 44 = .ok (.getfield 364, 3) := dk_180 1 108 (dk_at dksX0_one_2 0 rfl rfl)
theorem dX0_one_47 : decode cX0_one 47 = .ok (.if_icmp .eq 5, 3) := dk_159 0 5 (dk_at dksX0_one_2 3 rfl rfl)
theorem dX0_one_50 : decode cX0_one 50 = .ok (.iconst 0, 1) := dk_3 (dk_at dksX0_one_2 6 rfl rfl)
theorem dX0_one_51 : decode cX0_one 51 = .ok (.ireturn, 1) := dk_172 (dk_at dksX0_one_2 7 rfl rfl)
theorem dX0_one_52 : decode cX0_one 52 = .ok (.iconst 0, 1) := dk_3 (dk_at dksX0_one_2 8 rfl rfl)
theorem dX0_one_53 : decode cX0_one 53 = .ok (.istore_n 3, 1) := dk_62 (dk_at dksX0_one_2 9 rfl rfl)
theorem dX0_one_54 : decode cX0_one 54 = .ok (.iload_n 3, 1) := dk_29 (dk_at dksX0_one_2 10 rfl rfl)
theorem dX0_one_55 : decode cX0_one 55 = .ok (.iload_n 2, 1) := dk_28 (dk_at dksX0_one_2 11 rfl rfl)
theorem dX0_one_56 : decode cX0_one 56 = .ok (.if_icmp .ge 29, 3) := dk_162 0 29 (dk_at dksX0_one_2 12 rfl rfl)
theorem dX0_one_59 : decode cX0_one 59 = .ok (.aload_n 0, 1) := dk_42 (dk_at dksX0_one_2 15 rfl rfl)
theorem dX0_one_60 : decode cX0_one 60 = .ok (.iload_n 3, 1) := dk_29 (dk_at dksX0_one_2 16 rfl rfl)
theorem dX0_one_61 : decode cX0_one 61 = .ok (.iconst 0, 1) := dk_3 (dk_at dksX0_one_2 17 rfl rfl)
theorem dX0_one_62 : decode cX0_one 62 = .ok (.invokevirtual 381, 3) := dk_182 1 125 (dk_at dksX0_one_2 18 rfl rfl)
theorem dX0_one_65 : decode cX0_one 65 = .ok (.ifCond .ne 12, 3) := dk_154 0 12 (dk_at dksX0_one_2 21 rfl rfl)
theorem dX0_one_68 : decode cX0_one 68 = .ok (.aload_n 0, 1) := dk_42 (dk_at dksX0_one_3 0 rfl rfl)
theorem dX0_one_69 : decode cX0_one 69 = .ok (.iload_n 3, 1) := dk_29 (dk_at dksX0_one_3 1 rfl rfl)
theorem dX0_one_70 : decode cX0_one 70 = .ok (.iconst 1, 1) := dk_4 (dk_at dksX0_one_3 2 rfl rfl)
theorem dX0_one_71 : decode cX0_one 71 = .ok (.invokevirtual 381, 3) := dk_182 1 125 (dk_at dksX0_one_3 3 rfl rfl)
theorem dX0_one_74 : decode cX0_one 74 = .ok (.ifCond .eq 5, 3) := dk_153 0 5 (dk_at dksX0_one_3 6 rfl rfl)
theorem dX0_one_77 : decode cX0_one 77 = .ok (.iconst 1, 1) := dk_4 (dk_at dksX0_one_3 9 rfl rfl)
theorem dX0_one_78 : decode cX0_one 78 = .ok (.ireturn, 1) := dk_172 (dk_at dksX0_one_3 10 rfl rfl)
theorem dX0_one_79 : decode cX0_one 79 = .ok (.iinc 3 1, 3) := dk_132 3 1 (dk_at dksX0_one_3 11 rfl rfl)
theorem dX0_one_82 : decode cX0_one 82 = .ok (.goto (-28), 3) := dk_167 255 228 (dk_at dksX0_one_3 14 rfl rfl)
theorem dX0_one_85 : decode cX0_one 85 = .ok (.iload_n 2, 1) := dk_28 (dk_at dksX0_one_3 17 rfl rfl)
theorem dX0_one_86 : decode cX0_one 86 = .ok (.ifCond .ne 7, 3) := dk_154 0 7 (dk_at dksX0_one_3 18 rfl rfl)
theorem dX0_one_89 : decode cX0_one 89 = .ok (.iconst 1, 1) := dk_4 (dk_at dksX0_one_3 21 rfl rfl)
theorem dX0_one_90 : decode cX0_one 90 = .ok (.goto 4, 3) := dk_167 0 4 (dk_at dksX0_one_4 0 rfl rfl)
theorem dX0_one_93 : decode cX0_one 93 = .ok (.iconst 0, 1) := dk_3 (dk_at dksX0_one_4 3 rfl rfl)
theorem dX0_one_94 : decode cX0_one 94 = .ok (.ireturn, 1) := dk_172 (dk_at dksX0_one_4 4 rfl rfl)
abbrev cX0_unlikeRows : ByteArray := prog_1_method_45_code
def yX0_unlikeRows : MethodName := ⟨RX0, "unlikeRows", "()I"⟩
def dkwX0_unlikeRows_5 : List UInt8 := [61, 132, 3, 1, 167, 255, 160, 28, 172]
abbrev dktX0_unlikeRows_5 : List UInt8 := dkwX0_unlikeRows_5 ++ []
def dkwX0_unlikeRows_4 : List UInt8 := [167, 0, 4, 3, 54, 4, 132, 5, 1, 167, 255, 192, 28, 21, 4, 153, 0, 7, 4, 167, 0, 4, 3, 96]
abbrev dktX0_unlikeRows_4 : List UInt8 := dkwX0_unlikeRows_4 ++ dktX0_unlikeRows_5
def dkwX0_unlikeRows_3 : List UInt8 := [42, 29, 5, 108, 29, 5, 112, 4, 160, 0, 7, 4, 167, 0, 4, 3, 182, 1, 118, 159, 0, 7, 4]
abbrev dktX0_unlikeRows_3 : List UInt8 := dkwX0_unlikeRows_3 ++ dktX0_unlikeRows_4
def dkwX0_unlikeRows_2 : List UInt8 := [153, 0, 59, 42, 21, 5, 5, 108, 21, 5, 5, 112, 4, 160, 0, 7, 4, 167, 0, 4, 3, 182, 1, 118]
abbrev dktX0_unlikeRows_2 : List UInt8 := dkwX0_unlikeRows_2 ++ dktX0_unlikeRows_3
def dkwX0_unlikeRows_1 : List UInt8 := [62, 29, 5, 27, 104, 162, 0, 95, 4, 54, 4, 3, 54, 5, 21, 5, 29, 162, 0, 64, 21, 4]
abbrev dktX0_unlikeRows_1 : List UInt8 := dkwX0_unlikeRows_1 ++ dktX0_unlikeRows_2
def dkwX0_unlikeRows_0 : List UInt8 := [42, 180, 0, 20, 180, 1, 96, 3, 50, 180, 1, 108, 60, 27, 154, 0, 7, 4, 167, 0, 4, 3, 61, 3]
abbrev dktX0_unlikeRows_0 : List UInt8 := dkwX0_unlikeRows_0 ++ dktX0_unlikeRows_1
theorem dksX0_unlikeRows_0 : cX0_unlikeRows.data.toList.drop 0 = dktX0_unlikeRows_0 := by decide +kernel
theorem dksX0_unlikeRows_1 : cX0_unlikeRows.data.toList.drop 24 = dktX0_unlikeRows_1 := dk_seg dksX0_unlikeRows_0 24 rfl rfl
theorem dksX0_unlikeRows_2 : cX0_unlikeRows.data.toList.drop 46 = dktX0_unlikeRows_2 := dk_seg dksX0_unlikeRows_1 22 rfl rfl
theorem dksX0_unlikeRows_3 : cX0_unlikeRows.data.toList.drop 70 = dktX0_unlikeRows_3 := dk_seg dksX0_unlikeRows_2 24 rfl rfl
theorem dksX0_unlikeRows_4 : cX0_unlikeRows.data.toList.drop 93 = dktX0_unlikeRows_4 := dk_seg dksX0_unlikeRows_3 23 rfl rfl
theorem dksX0_unlikeRows_5 : cX0_unlikeRows.data.toList.drop 117 = dktX0_unlikeRows_5 := dk_seg dksX0_unlikeRows_4 24 rfl rfl
theorem dX0_unlikeRows_0 : decode cX0_unlikeRows 0 = .ok (.aload_n 0, 1) := dk_42 (dk_at dksX0_unlikeRows_0 0 rfl rfl)
theorem dX0_unlikeRows_1 : decode cX0_unlikeRows 1 = .ok (.getfield 20, 3) := dk_180 0 20 (dk_at dksX0_unlikeRows_0 1 rfl rfl)
theorem dX0_unlikeRows_4 : decode cX0_unlikeRows 4 = .ok (.getfield 352, 3) := dk_180 1 96 (dk_at dksX0_unlikeRows_0 4 rfl rfl)
theorem dX0_unlikeRows_7 : decode cX0_unlikeRows 7 = .ok (.iconst 0, 1) := dk_3 (dk_at dksX0_unlikeRows_0 7 rfl rfl)
theorem dX0_unlikeRows_8 : decode cX0_unlikeRows 8 = .ok (.aaload, 1) := dk_50 (dk_at dksX0_unlikeRows_0 8 rfl rfl)
theorem dX0_unlikeRows_9 : decode cX0_unlikeRows 9 = .ok (.getfield 364, 3) := dk_180 1 108 (dk_at dksX0_unlikeRows_0 9 rfl rfl)
theorem dX0_unlikeRows_12 : decode cX0_unlikeRows 12 = .ok (.istore_n 1, 1) := dk_60 (dk_at dksX0_unlikeRows_0 12 rfl rfl)
theorem dX0_unlikeRows_13 : decode cX0_unlikeRows 13 = .ok (.iload_n 1, 1) := dk_27 (dk_at dksX0_unlikeRows_0 13 rfl rfl)
theorem dX0_unlikeRows_14 : decode cX0_unlikeRows 14 = .ok (.ifCond .ne 7, 3) := dk_154 0 7 (dk_at dksX0_unlikeRows_0 14 rfl rfl)
theorem dX0_unlikeRows_17 : decode cX0_unlikeRows 17 = .ok (.iconst 1, 1) := dk_4 (dk_at dksX0_unlikeRows_0 17 rfl rfl)
theorem dX0_unlikeRows_18 : decode cX0_unlikeRows 18 = .ok (.goto 4, 3) := dk_167 0 4 (dk_at dksX0_unlikeRows_0 18 rfl rfl)
theorem dX0_unlikeRows_21 : decode cX0_unlikeRows 21 = .ok (.iconst 0, 1) := dk_3 (dk_at dksX0_unlikeRows_0 21 rfl rfl)
theorem dX0_unlikeRows_22 : decode cX0_unlikeRows 22 = .ok (.istore_n 2, 1) := dk_61 (dk_at dksX0_unlikeRows_0 22 rfl rfl)
theorem dX0_unlikeRows_23 : decode cX0_unlikeRows 23 = .ok (.iconst 0, 1) := dk_3 (dk_at dksX0_unlikeRows_0 23 rfl rfl)
theorem dX0_unlikeRows_24 : decode cX0_unlikeRows 24 = .ok (.istore_n 3, 1) := dk_62 (dk_at dksX0_unlikeRows_1 0 rfl rfl)
theorem dX0_unlikeRows_25 : decode cX0_unlikeRows 25 = .ok (.iload_n 3, 1) := dk_29 (dk_at dksX0_unlikeRows_1 1 rfl rfl)
theorem dX0_unlikeRows_26 : decode cX0_unlikeRows 26 = .ok (.iconst 2, 1) := dk_5 (dk_at dksX0_unlikeRows_1 2 rfl rfl)
theorem dX0_unlikeRows_27 : decode cX0_unlikeRows 27 = .ok (.iload_n 1, 1) := dk_27 (dk_at dksX0_unlikeRows_1 3 rfl rfl)
theorem dX0_unlikeRows_28 : decode cX0_unlikeRows 28 = .ok (.imul, 1) := dk_104 (dk_at dksX0_unlikeRows_1 4 rfl rfl)
theorem dX0_unlikeRows_29 : decode cX0_unlikeRows 29 = .ok (.if_icmp .ge 95, 3) := dk_162 0 95 (dk_at dksX0_unlikeRows_1 5 rfl rfl)
theorem dX0_unlikeRows_32 : decode cX0_unlikeRows 32 = .ok (.iconst 1, 1) := dk_4 (dk_at dksX0_unlikeRows_1 8 rfl rfl)
theorem dX0_unlikeRows_33 : decode cX0_unlikeRows 33 = .ok (.istore 4, 2) := dk_54 4 (dk_at dksX0_unlikeRows_1 9 rfl rfl)
theorem dX0_unlikeRows_35 : decode cX0_unlikeRows 35 = .ok (.iconst 0, 1) := dk_3 (dk_at dksX0_unlikeRows_1 11 rfl rfl)
theorem dX0_unlikeRows_36 : decode cX0_unlikeRows 36 = .ok (.istore 5, 2) := dk_54 5 (dk_at dksX0_unlikeRows_1 12 rfl rfl)
theorem dX0_unlikeRows_38 : decode cX0_unlikeRows 38 = .ok (.iload 5, 2) := dk_21 5 (dk_at dksX0_unlikeRows_1 14 rfl rfl)
theorem dX0_unlikeRows_40 : decode cX0_unlikeRows 40 = .ok (.iload_n 3, 1) := dk_29 (dk_at dksX0_unlikeRows_1 16 rfl rfl)
theorem dX0_unlikeRows_41 : decode cX0_unlikeRows 41 = .ok (.if_icmp .ge 64, 3) := dk_162 0 64 (dk_at dksX0_unlikeRows_1 17 rfl rfl)
theorem dX0_unlikeRows_44 : decode cX0_unlikeRows 44 = .ok (.iload 4, 2) := dk_21 4 (dk_at dksX0_unlikeRows_1 20 rfl rfl)
theorem dX0_unlikeRows_46 : decode cX0_unlikeRows 46 = .ok (.ifCond .eq 59, 3) := dk_153 0 59 (dk_at dksX0_unlikeRows_2 0 rfl rfl)
theorem dX0_unlikeRows_49 : decode cX0_unlikeRows 49 = .ok (.aload_n 0, 1) := dk_42 (dk_at dksX0_unlikeRows_2 3 rfl rfl)
theorem dX0_unlikeRows_50 : decode cX0_unlikeRows 50 = .ok (.iload 5, 2) := dk_21 5 (dk_at dksX0_unlikeRows_2 4 rfl rfl)
theorem dX0_unlikeRows_52 : decode cX0_unlikeRows 52 = .ok (.iconst 2, 1) := dk_5 (dk_at dksX0_unlikeRows_2 6 rfl rfl)
theorem dX0_unlikeRows_53 : decode cX0_unlikeRows 53 = .ok (.idiv, 1) := dk_108 (dk_at dksX0_unlikeRows_2 7 rfl rfl)
theorem dX0_unlikeRows_54 : decode cX0_unlikeRows 54 = .ok (.iload 5, 2) := dk_21 5 (dk_at dksX0_unlikeRows_2 8 rfl rfl)
theorem dX0_unlikeRows_56 : decode cX0_unlikeRows 56 = .ok (.iconst 2, 1) := dk_5 (dk_at dksX0_unlikeRows_2 10 rfl rfl)
theorem dX0_unlikeRows_57 : decode cX0_unlikeRows 57 = .ok (.irem, 1) := dk_112 (dk_at dksX0_unlikeRows_2 11 rfl rfl)
theorem dX0_unlikeRows_58 : decode cX0_unlikeRows 58 = .ok (.iconst 1, 1) := dk_4 (dk_at dksX0_unlikeRows_2 12 rfl rfl)
theorem dX0_unlikeRows_59 : decode cX0_unlikeRows 59 = .ok (.if_icmp .ne 7, 3) := dk_160 0 7 (dk_at dksX0_unlikeRows_2 13 rfl rfl)
theorem dX0_unlikeRows_62 : decode cX0_unlikeRows 62 = .ok (.iconst 1, 1) := dk_4 (dk_at dksX0_unlikeRows_2 16 rfl rfl)
theorem dX0_unlikeRows_63 : decode cX0_unlikeRows 63 = .ok (.goto 4, 3) := dk_167 0 4 (dk_at dksX0_unlikeRows_2 17 rfl rfl)
theorem dX0_unlikeRows_66 : decode cX0_unlikeRows 66 = .ok (.iconst 0, 1) := dk_3 (dk_at dksX0_unlikeRows_2 20 rfl rfl)
theorem dX0_unlikeRows_67 : decode cX0_unlikeRows 67 = .ok (.invokevirtual 374, 3) := dk_182 1 118 (dk_at dksX0_unlikeRows_2 21 rfl rfl)
theorem dX0_unlikeRows_70 : decode cX0_unlikeRows 70 = .ok (.aload_n 0, 1) := dk_42 (dk_at dksX0_unlikeRows_3 0 rfl rfl)
theorem dX0_unlikeRows_71 : decode cX0_unlikeRows 71 = .ok (.iload_n 3, 1) := dk_29 (dk_at dksX0_unlikeRows_3 1 rfl rfl)
theorem dX0_unlikeRows_72 : decode cX0_unlikeRows 72 = .ok (.iconst 2, 1) := dk_5 (dk_at dksX0_unlikeRows_3 2 rfl rfl)
theorem dX0_unlikeRows_73 : decode cX0_unlikeRows 73 = .ok (.idiv, 1) := dk_108 (dk_at dksX0_unlikeRows_3 3 rfl rfl)
theorem dX0_unlikeRows_74 : decode cX0_unlikeRows 74 = .ok (.iload_n 3, 1) := dk_29 (dk_at dksX0_unlikeRows_3 4 rfl rfl)
theorem dX0_unlikeRows_75 : decode cX0_unlikeRows 75 = .ok (.iconst 2, 1) := dk_5 (dk_at dksX0_unlikeRows_3 5 rfl rfl)
theorem dX0_unlikeRows_76 : decode cX0_unlikeRows 76 = .ok (.irem, 1) := dk_112 (dk_at dksX0_unlikeRows_3 6 rfl rfl)
theorem dX0_unlikeRows_77 : decode cX0_unlikeRows 77 = .ok (.iconst 1, 1) := dk_4 (dk_at dksX0_unlikeRows_3 7 rfl rfl)
theorem dX0_unlikeRows_78 : decode cX0_unlikeRows 78 = .ok (.if_icmp .ne 7, 3) := dk_160 0 7 (dk_at dksX0_unlikeRows_3 8 rfl rfl)
theorem dX0_unlikeRows_81 : decode cX0_unlikeRows 81 = .ok (.iconst 1, 1) := dk_4 (dk_at dksX0_unlikeRows_3 11 rfl rfl)
theorem dX0_unlikeRows_82 : decode cX0_unlikeRows 82 = .ok (.goto 4, 3) := dk_167 0 4 (dk_at dksX0_unlikeRows_3 12 rfl rfl)
theorem dX0_unlikeRows_85 : decode cX0_unlikeRows 85 = .ok (.iconst 0, 1) := dk_3 (dk_at dksX0_unlikeRows_3 15 rfl rfl)
theorem dX0_unlikeRows_86 : decode cX0_unlikeRows 86 = .ok (.invokevirtual 374, 3) := dk_182 1 118 (dk_at dksX0_unlikeRows_3 16 rfl rfl)
theorem dX0_unlikeRows_89 : decode cX0_unlikeRows 89 = .ok (.if_icmp .eq 7, 3) := dk_159 0 7 (dk_at dksX0_unlikeRows_3 19 rfl rfl)
theorem dX0_unlikeRows_92 : decode cX0_unlikeRows 92 = .ok (.iconst 1, 1) := dk_4 (dk_at dksX0_unlikeRows_3 22 rfl rfl)
theorem dX0_unlikeRows_93 : decode cX0_unlikeRows 93 = .ok (.goto 4, 3) := dk_167 0 4 (dk_at dksX0_unlikeRows_4 0 rfl rfl)
theorem dX0_unlikeRows_96 : decode cX0_unlikeRows 96 = .ok (.iconst 0, 1) := dk_3 (dk_at dksX0_unlikeRows_4 3 rfl rfl)
theorem dX0_unlikeRows_97 : decode cX0_unlikeRows 97 = .ok (.istore 4, 2) := dk_54 4 (dk_at dksX0_unlikeRows_4 4 rfl rfl)
theorem dX0_unlikeRows_99 : decode cX0_unlikeRows 99 = .ok (.iinc 5 1, 3) := dk_132 5 1 (dk_at dksX0_unlikeRows_4 6 rfl rfl)
theorem dX0_unlikeRows_102 : decode cX0_unlikeRows 102 = .ok (.goto (-64), 3) := dk_167 255 192 (dk_at dksX0_unlikeRows_4 9 rfl rfl)
theorem dX0_unlikeRows_105 : decode cX0_unlikeRows 105 = .ok (.iload_n 2, 1) := dk_28 (dk_at dksX0_unlikeRows_4 12 rfl rfl)
theorem dX0_unlikeRows_106 : decode cX0_unlikeRows 106 = .ok (.iload 4, 2) := dk_21 4 (dk_at dksX0_unlikeRows_4 13 rfl rfl)
theorem dX0_unlikeRows_108 : decode cX0_unlikeRows 108 = .ok (.ifCond .eq 7, 3) := dk_153 0 7 (dk_at dksX0_unlikeRows_4 15 rfl rfl)
theorem dX0_unlikeRows_111 : decode cX0_unlikeRows 111 = .ok (.iconst 1, 1) := dk_4 (dk_at dksX0_unlikeRows_4 18 rfl rfl)
theorem dX0_unlikeRows_112 : decode cX0_unlikeRows 112 = .ok (.goto 4, 3) := dk_167 0 4 (dk_at dksX0_unlikeRows_4 19 rfl rfl)
theorem dX0_unlikeRows_115 : decode cX0_unlikeRows 115 = .ok (.iconst 0, 1) := dk_3 (dk_at dksX0_unlikeRows_4 22 rfl rfl)
theorem dX0_unlikeRows_116 : decode cX0_unlikeRows 116 = .ok (.iadd, 1) := dk_96 (dk_at dksX0_unlikeRows_4 23 rfl rfl)
theorem dX0_unlikeRows_117 : decode cX0_unlikeRows 117 = .ok (.istore_n 2, 1) := dk_61 (dk_at dksX0_unlikeRows_5 0 rfl rfl)
theorem dX0_unlikeRows_118 : decode cX0_unlikeRows 118 = .ok (.iinc 3 1, 3) := dk_132 3 1 (dk_at dksX0_unlikeRows_5 1 rfl rfl)
theorem dX0_unlikeRows_121 : decode cX0_unlikeRows 121 = .ok (.goto (-96), 3) := dk_167 255 160 (dk_at dksX0_unlikeRows_5 4 rfl rfl)
theorem dX0_unlikeRows_124 : decode cX0_unlikeRows 124 = .ok (.iload_n 2, 1) := dk_28 (dk_at dksX0_unlikeRows_5 7 rfl rfl)
theorem dX0_unlikeRows_125 : decode cX0_unlikeRows 125 = .ok (.ireturn, 1) := dk_172 (dk_at dksX0_unlikeRows_5 8 rfl rfl)
abbrev cX0_number : ByteArray := prog_1_method_44_code
def yX0_number : MethodName := ⟨RX0, "number", "(IZ)I"⟩
def dkwX0_number_1 : List UInt8 := [104, 42, 21, 4, 27, 28, 182, 1, 114, 96, 62, 132, 4, 1, 167, 255, 223, 29, 172]
abbrev dktX0_number_1 : List UInt8 := dkwX0_number_1 ++ []
def dkwX0_number_0 : List UInt8 := [3, 62, 3, 54, 4, 21, 4, 42, 180, 0, 20, 180, 1, 96, 3, 50, 180, 1, 108, 162, 0, 22, 6, 29]
abbrev dktX0_number_0 : List UInt8 := dkwX0_number_0 ++ dktX0_number_1
theorem dksX0_number_0 : cX0_number.data.toList.drop 0 = dktX0_number_0 := by decide +kernel
theorem dksX0_number_1 : cX0_number.data.toList.drop 24 = dktX0_number_1 := dk_seg dksX0_number_0 24 rfl rfl
theorem dX0_number_0 : decode cX0_number 0 = .ok (.iconst 0, 1) := dk_3 (dk_at dksX0_number_0 0 rfl rfl)
theorem dX0_number_1 : decode cX0_number 1 = .ok (.istore_n 3, 1) := dk_62 (dk_at dksX0_number_0 1 rfl rfl)
theorem dX0_number_2 : decode cX0_number 2 = .ok (.iconst 0, 1) := dk_3 (dk_at dksX0_number_0 2 rfl rfl)
theorem dX0_number_3 : decode cX0_number 3 = .ok (.istore 4, 2) := dk_54 4 (dk_at dksX0_number_0 3 rfl rfl)
theorem dX0_number_5 : decode cX0_number 5 = .ok (.iload 4, 2) := dk_21 4 (dk_at dksX0_number_0 5 rfl rfl)
theorem dX0_number_7 : decode cX0_number 7 = .ok (.aload_n 0, 1) := dk_42 (dk_at dksX0_number_0 7 rfl rfl)
theorem dX0_number_8 : decode cX0_number 8 = .ok (.getfield 20, 3) := dk_180 0 20 (dk_at dksX0_number_0 8 rfl rfl)
theorem dX0_number_11 : decode cX0_number 11 = .ok (.getfield 352, 3) := dk_180 1 96 (dk_at dksX0_number_0 11 rfl rfl)
theorem dX0_number_14 : decode cX0_number 14 = .ok (.iconst 0, 1) := dk_3 (dk_at dksX0_number_0 14 rfl rfl)
theorem dX0_number_15 : decode cX0_number 15 = .ok (.aaload, 1) := dk_50 (dk_at dksX0_number_0 15 rfl rfl)
theorem dX0_number_16 : decode cX0_number 16 = .ok (.getfield 364, 3) := dk_180 1 108 (dk_at dksX0_number_0 16 rfl rfl)
theorem dX0_number_19 : decode cX0_number 19 = .ok (.if_icmp .ge 22, 3) := dk_162 0 22 (dk_at dksX0_number_0 19 rfl rfl)
theorem dX0_number_22 : decode cX0_number 22 = .ok (.iconst 3, 1) := dk_6 (dk_at dksX0_number_0 22 rfl rfl)
theorem dX0_number_23 : decode cX0_number 23 = .ok (.iload_n 3, 1) := dk_29 (dk_at dksX0_number_0 23 rfl rfl)
theorem dX0_number_24 : decode cX0_number 24 = .ok (.imul, 1) := dk_104 (dk_at dksX0_number_1 0 rfl rfl)
theorem dX0_number_25 : decode cX0_number 25 = .ok (.aload_n 0, 1) := dk_42 (dk_at dksX0_number_1 1 rfl rfl)
theorem dX0_number_26 : decode cX0_number 26 = .ok (.iload 4, 2) := dk_21 4 (dk_at dksX0_number_1 2 rfl rfl)
theorem dX0_number_28 : decode cX0_number 28 = .ok (.iload_n 1, 1) := dk_27 (dk_at dksX0_number_1 4 rfl rfl)
theorem dX0_number_29 : decode cX0_number 29 = .ok (.iload_n 2, 1) := dk_28 (dk_at dksX0_number_1 5 rfl rfl)
theorem dX0_number_30 : decode cX0_number 30 = .ok (.invokevirtual 370, 3) := dk_182 1 114 (dk_at dksX0_number_1 6 rfl rfl)
theorem dX0_number_33 : decode cX0_number 33 = .ok (.iadd, 1) := dk_96 (dk_at dksX0_number_1 9 rfl rfl)
theorem dX0_number_34 : decode cX0_number 34 = .ok (.istore_n 3, 1) := dk_62 (dk_at dksX0_number_1 10 rfl rfl)
theorem dX0_number_35 : decode cX0_number 35 = .ok (.iinc 4 1, 3) := dk_132 4 1 (dk_at dksX0_number_1 11 rfl rfl)
theorem dX0_number_38 : decode cX0_number 38 = .ok (.goto (-33), 3) := dk_167 255 223 (dk_at dksX0_number_1 14 rfl rfl)
theorem dX0_number_41 : decode cX0_number 41 = .ok (.iload_n 3, 1) := dk_29 (dk_at dksX0_number_1 17 rfl rfl)
theorem dX0_number_42 : decode cX0_number 42 = .ok (.ireturn, 1) := dk_172 (dk_at dksX0_number_1 18 rfl rfl)
abbrev cX0_asBegun : ByteArray := prog_1_method_42_code
def yX0_asBegun : MethodName := ⟨RX0, "asBegun", "(IIZ)I"⟩
def dkwX0_asBegun_2 : List UInt8 := [21, 4, 172]
abbrev dktX0_asBegun_2 : List UInt8 := dkwX0_asBegun_2 ++ []
def dkwX0_asBegun_1 : List UInt8 := [112, 182, 1, 111, 54, 4, 29, 153, 0, 16, 21, 4, 5, 162, 0, 10, 4, 21, 4, 100, 167, 0, 5]
abbrev dktX0_asBegun_1 : List UInt8 := dkwX0_asBegun_1 ++ dktX0_asBegun_2
def dkwX0_asBegun_0 : List UInt8 := [42, 180, 0, 20, 180, 1, 96, 3, 50, 27, 28, 96, 42, 180, 0, 20, 180, 1, 96, 3, 50, 180, 1, 108]
abbrev dktX0_asBegun_0 : List UInt8 := dkwX0_asBegun_0 ++ dktX0_asBegun_1
theorem dksX0_asBegun_0 : cX0_asBegun.data.toList.drop 0 = dktX0_asBegun_0 := by decide +kernel
theorem dksX0_asBegun_1 : cX0_asBegun.data.toList.drop 24 = dktX0_asBegun_1 := dk_seg dksX0_asBegun_0 24 rfl rfl
theorem dksX0_asBegun_2 : cX0_asBegun.data.toList.drop 47 = dktX0_asBegun_2 := dk_seg dksX0_asBegun_1 23 rfl rfl
theorem dX0_asBegun_0 : decode cX0_asBegun 0 = .ok (.aload_n 0, 1) := dk_42 (dk_at dksX0_asBegun_0 0 rfl rfl)
theorem dX0_asBegun_1 : decode cX0_asBegun 1 = .ok (.getfield 20, 3) := dk_180 0 20 (dk_at dksX0_asBegun_0 1 rfl rfl)
theorem dX0_asBegun_4 : decode cX0_asBegun 4 = .ok (.getfield 352, 3) := dk_180 1 96 (dk_at dksX0_asBegun_0 4 rfl rfl)
theorem dX0_asBegun_7 : decode cX0_asBegun 7 = .ok (.iconst 0, 1) := dk_3 (dk_at dksX0_asBegun_0 7 rfl rfl)
theorem dX0_asBegun_8 : decode cX0_asBegun 8 = .ok (.aaload, 1) := dk_50 (dk_at dksX0_asBegun_0 8 rfl rfl)
theorem dX0_asBegun_9 : decode cX0_asBegun 9 = .ok (.iload_n 1, 1) := dk_27 (dk_at dksX0_asBegun_0 9 rfl rfl)
theorem dX0_asBegun_10 : decode cX0_asBegun 10 = .ok (.iload_n 2, 1) := dk_28 (dk_at dksX0_asBegun_0 10 rfl rfl)
theorem dX0_asBegun_11 : decode cX0_asBegun 11 = .ok (.iadd, 1) := dk_96 (dk_at dksX0_asBegun_0 11 rfl rfl)
theorem dX0_asBegun_12 : decode cX0_asBegun 12 = .ok (.aload_n 0, 1) := dk_42 (dk_at dksX0_asBegun_0 12 rfl rfl)
theorem dX0_asBegun_13 : decode cX0_asBegun 13 = .ok (.getfield 20, 3) := dk_180 0 20 (dk_at dksX0_asBegun_0 13 rfl rfl)
theorem dX0_asBegun_16 : decode cX0_asBegun 16 = .ok (.getfield 352, 3) := dk_180 1 96 (dk_at dksX0_asBegun_0 16 rfl rfl)
theorem dX0_asBegun_19 : decode cX0_asBegun 19 = .ok (.iconst 0, 1) := dk_3 (dk_at dksX0_asBegun_0 19 rfl rfl)
theorem dX0_asBegun_20 : decode cX0_asBegun 20 = .ok (.aaload, 1) := dk_50 (dk_at dksX0_asBegun_0 20 rfl rfl)
theorem dX0_asBegun_21 : decode cX0_asBegun 21 = .ok (.getfield 364, 3) := dk_180 1 108 (dk_at dksX0_asBegun_0 21 rfl rfl)
theorem dX0_asBegun_24 : decode cX0_asBegun 24 = .ok (.irem, 1) := dk_112 (dk_at dksX0_asBegun_1 0 rfl rfl)
theorem dX0_asBegun_25 : decode cX0_asBegun 25 = .ok (.invokevirtual 367, 3) := dk_182 1 111 (dk_at dksX0_asBegun_1 1 rfl rfl)
theorem dX0_asBegun_28 : decode cX0_asBegun 28 = .ok (.istore 4, 2) := dk_54 4 (dk_at dksX0_asBegun_1 4 rfl rfl)
theorem dX0_asBegun_30 : decode cX0_asBegun 30 = .ok (.iload_n 3, 1) := dk_29 (dk_at dksX0_asBegun_1 6 rfl rfl)
theorem dX0_asBegun_31 : decode cX0_asBegun 31 = .ok (.ifCond .eq 16, 3) := dk_153 0 16 (dk_at dksX0_asBegun_1 7 rfl rfl)
theorem dX0_asBegun_34 : decode cX0_asBegun 34 = .ok (.iload 4, 2) := dk_21 4 (dk_at dksX0_asBegun_1 10 rfl rfl)
theorem dX0_asBegun_36 : decode cX0_asBegun 36 = .ok (.iconst 2, 1) := dk_5 (dk_at dksX0_asBegun_1 12 rfl rfl)
theorem dX0_asBegun_37 : decode cX0_asBegun 37 = .ok (.if_icmp .ge 10, 3) := dk_162 0 10 (dk_at dksX0_asBegun_1 13 rfl rfl)
theorem dX0_asBegun_40 : decode cX0_asBegun 40 = .ok (.iconst 1, 1) := dk_4 (dk_at dksX0_asBegun_1 16 rfl rfl)
theorem dX0_asBegun_41 : decode cX0_asBegun 41 = .ok (.iload 4, 2) := dk_21 4 (dk_at dksX0_asBegun_1 17 rfl rfl)
theorem dX0_asBegun_43 : decode cX0_asBegun 43 = .ok (.isub, 1) := dk_100 (dk_at dksX0_asBegun_1 19 rfl rfl)
theorem dX0_asBegun_44 : decode cX0_asBegun 44 = .ok (.goto 5, 3) := dk_167 0 5 (dk_at dksX0_asBegun_1 20 rfl rfl)
theorem dX0_asBegun_47 : decode cX0_asBegun 47 = .ok (.iload 4, 2) := dk_21 4 (dk_at dksX0_asBegun_2 0 rfl rfl)
theorem dX0_asBegun_49 : decode cX0_asBegun 49 = .ok (.ireturn, 1) := dk_172 (dk_at dksX0_asBegun_2 2 rfl rfl)
abbrev cX0_isSecond : ByteArray := prog_1_method_43_code
def yX0_isSecond : MethodName := ⟨RX0, "isSecond", "(IZ)Z"⟩
def dkwX0_isSecond_2 : List UInt8 := [4, 167, 0, 4, 3, 126, 62, 132, 4, 1, 167, 255, 203, 29, 172]
abbrev dktX0_isSecond_2 : List UInt8 := dkwX0_isSecond_2 ++ []
def dkwX0_isSecond_1 : List UInt8 := [21, 4, 27, 28, 182, 1, 114, 42, 180, 0, 20, 180, 1, 96, 4, 50, 21, 4, 182, 1, 111, 160, 0, 7]
abbrev dktX0_isSecond_1 : List UInt8 := dkwX0_isSecond_1 ++ dktX0_isSecond_2
def dkwX0_isSecond_0 : List UInt8 := [4, 62, 3, 54, 4, 21, 4, 42, 180, 0, 20, 180, 1, 96, 3, 50, 180, 1, 108, 162, 0, 42, 29, 42]
abbrev dktX0_isSecond_0 : List UInt8 := dkwX0_isSecond_0 ++ dktX0_isSecond_1
theorem dksX0_isSecond_0 : cX0_isSecond.data.toList.drop 0 = dktX0_isSecond_0 := by decide +kernel
theorem dksX0_isSecond_1 : cX0_isSecond.data.toList.drop 24 = dktX0_isSecond_1 := dk_seg dksX0_isSecond_0 24 rfl rfl
theorem dksX0_isSecond_2 : cX0_isSecond.data.toList.drop 48 = dktX0_isSecond_2 := dk_seg dksX0_isSecond_1 24 rfl rfl
theorem dX0_isSecond_0 : decode cX0_isSecond 0 = .ok (.iconst 1, 1) := dk_4 (dk_at dksX0_isSecond_0 0 rfl rfl)
theorem dX0_isSecond_1 : decode cX0_isSecond 1 = .ok (.istore_n 3, 1) := dk_62 (dk_at dksX0_isSecond_0 1 rfl rfl)
theorem dX0_isSecond_2 : decode cX0_isSecond 2 = .ok (.iconst 0, 1) := dk_3 (dk_at dksX0_isSecond_0 2 rfl rfl)
theorem dX0_isSecond_3 : decode cX0_isSecond 3 = .ok (.istore 4, 2) := dk_54 4 (dk_at dksX0_isSecond_0 3 rfl rfl)
theorem dX0_isSecond_5 : decode cX0_isSecond 5 = .ok (.iload 4, 2) := dk_21 4 (dk_at dksX0_isSecond_0 5 rfl rfl)
theorem dX0_isSecond_7 : decode cX0_isSecond 7 = .ok (.aload_n 0, 1) := dk_42 (dk_at dksX0_isSecond_0 7 rfl rfl)
theorem dX0_isSecond_8 : decode cX0_isSecond 8 = .ok (.getfield 20, 3) := dk_180 0 20 (dk_at dksX0_isSecond_0 8 rfl rfl)
theorem dX0_isSecond_11 : decode cX0_isSecond 11 = .ok (.getfield 352, 3) := dk_180 1 96 (dk_at dksX0_isSecond_0 11 rfl rfl)
theorem dX0_isSecond_14 : decode cX0_isSecond 14 = .ok (.iconst 0, 1) := dk_3 (dk_at dksX0_isSecond_0 14 rfl rfl)
theorem dX0_isSecond_15 : decode cX0_isSecond 15 = .ok (.aaload, 1) := dk_50 (dk_at dksX0_isSecond_0 15 rfl rfl)
theorem dX0_isSecond_16 : decode cX0_isSecond 16 = .ok (.getfield 364, 3) := dk_180 1 108 (dk_at dksX0_isSecond_0 16 rfl rfl)
theorem dX0_isSecond_19 : decode cX0_isSecond 19 = .ok (.if_icmp .ge 42, 3) := dk_162 0 42 (dk_at dksX0_isSecond_0 19 rfl rfl)
theorem dX0_isSecond_22 : decode cX0_isSecond 22 = .ok (.iload_n 3, 1) := dk_29 (dk_at dksX0_isSecond_0 22 rfl rfl)
theorem dX0_isSecond_23 : decode cX0_isSecond 23 = .ok (.aload_n 0, 1) := dk_42 (dk_at dksX0_isSecond_0 23 rfl rfl)
theorem dX0_isSecond_24 : decode cX0_isSecond 24 = .ok (.iload 4, 2) := dk_21 4 (dk_at dksX0_isSecond_1 0 rfl rfl)
theorem dX0_isSecond_26 : decode cX0_isSecond 26 = .ok (.iload_n 1, 1) := dk_27 (dk_at dksX0_isSecond_1 2 rfl rfl)
theorem dX0_isSecond_27 : decode cX0_isSecond 27 = .ok (.iload_n 2, 1) := dk_28 (dk_at dksX0_isSecond_1 3 rfl rfl)
theorem dX0_isSecond_28 : decode cX0_isSecond 28 = .ok (.invokevirtual 370, 3) := dk_182 1 114 (dk_at dksX0_isSecond_1 4 rfl rfl)
theorem dX0_isSecond_31 : decode cX0_isSecond 31 = .ok (.aload_n 0, 1) := dk_42 (dk_at dksX0_isSecond_1 7 rfl rfl)
theorem dX0_isSecond_32 : decode cX0_isSecond 32 = .ok (.getfield 20, 3) := dk_180 0 20 (dk_at dksX0_isSecond_1 8 rfl rfl)
theorem dX0_isSecond_35 : decode cX0_isSecond 35 = .ok (.getfield 352, 3) := dk_180 1 96 (dk_at dksX0_isSecond_1 11 rfl rfl)
theorem dX0_isSecond_38 : decode cX0_isSecond 38 = .ok (.iconst 1, 1) := dk_4 (dk_at dksX0_isSecond_1 14 rfl rfl)
theorem dX0_isSecond_39 : decode cX0_isSecond 39 = .ok (.aaload, 1) := dk_50 (dk_at dksX0_isSecond_1 15 rfl rfl)
theorem dX0_isSecond_40 : decode cX0_isSecond 40 = .ok (.iload 4, 2) := dk_21 4 (dk_at dksX0_isSecond_1 16 rfl rfl)
theorem dX0_isSecond_42 : decode cX0_isSecond 42 = .ok (.invokevirtual 367, 3) := dk_182 1 111 (dk_at dksX0_isSecond_1 18 rfl rfl)
theorem dX0_isSecond_45 : decode cX0_isSecond 45 = .ok (.if_icmp .ne 7, 3) := dk_160 0 7 (dk_at dksX0_isSecond_1 21 rfl rfl)
theorem dX0_isSecond_48 : decode cX0_isSecond 48 = .ok (.iconst 1, 1) := dk_4 (dk_at dksX0_isSecond_2 0 rfl rfl)
theorem dX0_isSecond_49 : decode cX0_isSecond 49 = .ok (.goto 4, 3) := dk_167 0 4 (dk_at dksX0_isSecond_2 1 rfl rfl)
theorem dX0_isSecond_52 : decode cX0_isSecond 52 = .ok (.iconst 0, 1) := dk_3 (dk_at dksX0_isSecond_2 4 rfl rfl)
theorem dX0_isSecond_53 : decode cX0_isSecond 53 = .ok (.iand, 1) := dk_126 (dk_at dksX0_isSecond_2 5 rfl rfl)
theorem dX0_isSecond_54 : decode cX0_isSecond 54 = .ok (.istore_n 3, 1) := dk_62 (dk_at dksX0_isSecond_2 6 rfl rfl)
theorem dX0_isSecond_55 : decode cX0_isSecond 55 = .ok (.iinc 4 1, 3) := dk_132 4 1 (dk_at dksX0_isSecond_2 7 rfl rfl)
theorem dX0_isSecond_58 : decode cX0_isSecond 58 = .ok (.goto (-53), 3) := dk_167 255 203 (dk_at dksX0_isSecond_2 10 rfl rfl)
theorem dX0_isSecond_61 : decode cX0_isSecond 61 = .ok (.iload_n 3, 1) := dk_29 (dk_at dksX0_isSecond_2 13 rfl rfl)
theorem dX0_isSecond_62 : decode cX0_isSecond 62 = .ok (.ireturn, 1) := dk_172 (dk_at dksX0_isSecond_2 14 rfl rfl)
abbrev cX0_move : ByteArray := prog_1_method_47_code
def yX0_move : MethodName := ⟨RX0, "move", "(I)I"⟩
def dkwX0_move_1 : List UInt8 := [153, 0, 18, 42, 180, 0, 20, 180, 1, 129, 27, 3, 182, 1, 105, 167, 0, 4, 2, 172]
abbrev dktX0_move_1 : List UInt8 := dkwX0_move_1 ++ []
def dkwX0_move_0 : List UInt8 := [27, 2, 160, 0, 16, 42, 180, 0, 20, 180, 1, 129, 182, 1, 100, 167, 0, 28, 27, 3, 5, 184, 0, 110]
abbrev dktX0_move_0 : List UInt8 := dkwX0_move_0 ++ dktX0_move_1
theorem dksX0_move_0 : cX0_move.data.toList.drop 0 = dktX0_move_0 := by decide +kernel
theorem dksX0_move_1 : cX0_move.data.toList.drop 24 = dktX0_move_1 := dk_seg dksX0_move_0 24 rfl rfl
theorem dX0_move_0 : decode cX0_move 0 = .ok (.iload_n 1, 1) := dk_27 (dk_at dksX0_move_0 0 rfl rfl)
theorem dX0_move_1 : decode cX0_move 1 = .ok (.iconst (-1), 1) := dk_2 (dk_at dksX0_move_0 1 rfl rfl)
theorem dX0_move_2 : decode cX0_move 2 = .ok (.if_icmp .ne 16, 3) := dk_160 0 16 (dk_at dksX0_move_0 2 rfl rfl)
theorem dX0_move_5 : decode cX0_move 5 = .ok (.aload_n 0, 1) := dk_42 (dk_at dksX0_move_0 5 rfl rfl)
theorem dX0_move_6 : decode cX0_move 6 = .ok (.getfield 20, 3) := dk_180 0 20 (dk_at dksX0_move_0 6 rfl rfl)
theorem dX0_move_9 : decode cX0_move 9 = .ok (.getfield 385, 3) := dk_180 1 129 (dk_at dksX0_move_0 9 rfl rfl)
theorem dX0_move_12 : decode cX0_move 12 = .ok (.invokevirtual 356, 3) := dk_182 1 100 (dk_at dksX0_move_0 12 rfl rfl)
theorem dX0_move_15 : decode cX0_move 15 = .ok (.goto 28, 3) := dk_167 0 28 (dk_at dksX0_move_0 15 rfl rfl)
theorem dX0_move_18 : decode cX0_move 18 = .ok (.iload_n 1, 1) := dk_27 (dk_at dksX0_move_0 18 rfl rfl)
theorem dX0_move_19 : decode cX0_move 19 = .ok (.iconst 0, 1) := dk_3 (dk_at dksX0_move_0 19 rfl rfl)
theorem dX0_move_20 : decode cX0_move 20 = .ok (.iconst 2, 1) := dk_5 (dk_at dksX0_move_0 20 rfl rfl)
theorem dX0_move_21 : decode cX0_move 21 = .ok (.invokestatic 110, 3) := dk_184 0 110 (dk_at dksX0_move_0 21 rfl rfl)
theorem dX0_move_24 : decode cX0_move 24 = .ok (.ifCond .eq 18, 3) := dk_153 0 18 (dk_at dksX0_move_1 0 rfl rfl)
theorem dX0_move_27 : decode cX0_move 27 = .ok (.aload_n 0, 1) := dk_42 (dk_at dksX0_move_1 3 rfl rfl)
theorem dX0_move_28 : decode cX0_move 28 = .ok (.getfield 20, 3) := dk_180 0 20 (dk_at dksX0_move_1 4 rfl rfl)
theorem dX0_move_31 : decode cX0_move 31 = .ok (.getfield 385, 3) := dk_180 1 129 (dk_at dksX0_move_1 7 rfl rfl)
theorem dX0_move_34 : decode cX0_move 34 = .ok (.iload_n 1, 1) := dk_27 (dk_at dksX0_move_1 10 rfl rfl)
theorem dX0_move_35 : decode cX0_move 35 = .ok (.iconst 0, 1) := dk_3 (dk_at dksX0_move_1 11 rfl rfl)
theorem dX0_move_36 : decode cX0_move 36 = .ok (.invokevirtual 361, 3) := dk_182 1 105 (dk_at dksX0_move_1 12 rfl rfl)
theorem dX0_move_39 : decode cX0_move 39 = .ok (.goto 4, 3) := dk_167 0 4 (dk_at dksX0_move_1 15 rfl rfl)
theorem dX0_move_42 : decode cX0_move 42 = .ok (.iconst (-1), 1) := dk_2 (dk_at dksX0_move_1 18 rfl rfl)
theorem dX0_move_43 : decode cX0_move 43 = .ok (.ireturn, 1) := dk_172 (dk_at dksX0_move_1 19 rfl rfl)
abbrev cX0_round : ByteArray := prog_1_method_48_code
def yX0_round : MethodName := ⟨RX0, "round", "(I)I"⟩
def dkwX0_round_13 : List UInt8 := [172]
abbrev dktX0_round_13 : List UInt8 := dkwX0_round_13 ++ []
def dkwX0_round_12 : List UInt8 := [27, 5, 160, 0, 8, 21, 6, 167, 0, 17, 21, 7, 154, 0, 11, 21, 5, 184, 1, 84, 167, 0, 4, 2]
abbrev dktX0_round_12 : List UInt8 := dkwX0_round_12 ++ dktX0_round_13
def dkwX0_round_11 : List UInt8 := [184, 1, 84, 96, 54, 7, 27, 154, 0, 7, 28, 167, 0, 37, 27, 4, 160, 0, 8, 21, 7, 167, 0, 27]
abbrev dktX0_round_11 : List UInt8 := dkwX0_round_11 ++ dktX0_round_12
def dkwX0_round_10 : List UInt8 := [164, 0, 7, 4, 167, 0, 4, 3, 96, 54, 6, 132, 9, 1, 167, 255, 223, 29, 184, 1, 84, 21, 4]
abbrev dktX0_round_10 : List UInt8 := dkwX0_round_10 ++ dktX0_round_11
def dkwX0_round_9 : List UInt8 := [3, 54, 9, 21, 9, 21, 8, 162, 0, 32, 25, 7, 21, 9, 46, 54, 10, 21, 6, 21, 10, 4]
abbrev dktX0_round_9 : List UInt8 := dkwX0_round_9 ++ dktX0_round_10
def dkwX0_round_8 : List UInt8 := [46, 4, 96, 79, 132, 6, 1, 167, 255, 124, 3, 54, 6, 42, 180, 0, 53, 58, 7, 25, 7, 190, 54, 8]
abbrev dktX0_round_8 : List UInt8 := dkwX0_round_8 ++ dktX0_round_9
def dkwX0_round_7 : List UInt8 := [184, 0, 118, 96, 54, 4, 42, 180, 0, 53, 21, 4, 16, 24, 96, 16, 49, 104, 29, 96, 16, 24, 96, 92]
abbrev dktX0_round_7 : List UInt8 := dkwX0_round_7 ++ dktX0_round_8
def dkwX0_round_6 : List UInt8 := [21, 8, 184, 0, 114, 104, 100, 96, 54, 5, 29, 21, 8, 184, 0, 114, 96, 62, 21, 4, 21, 8]
abbrev dktX0_round_6 : List UInt8 := dkwX0_round_6 ++ dktX0_round_7
def dkwX0_round_5 : List UInt8 := [153, 0, 6, 167, 0, 71, 28, 7, 184, 1, 133, 54, 8, 21, 5, 29, 21, 8, 184, 0, 118, 104, 21, 4]
abbrev dktX0_round_5 : List UInt8 := dkwX0_round_5 ++ dktX0_round_6
def dkwX0_round_4 : List UInt8 := [160, 0, 7, 2, 167, 0, 14, 21, 7, 5, 160, 0, 7, 4, 167, 0, 4, 3, 96, 61, 21, 7]
abbrev dktX0_round_4 : List UInt8 := dkwX0_round_4 ++ dktX0_round_5
def dkwX0_round_3 : List UInt8 := [180, 1, 108, 162, 0, 123, 42, 180, 0, 20, 180, 1, 129, 21, 6, 182, 1, 111, 54, 7, 28, 21, 7, 4]
abbrev dktX0_round_3 : List UInt8 := dkwX0_round_3 ++ dktX0_round_4
def dkwX0_round_2 : List UInt8 := [180, 0, 53, 17, 4, 176, 92, 46, 4, 96, 79, 3, 54, 6, 21, 6, 42, 180, 0, 20, 180, 1, 129]
abbrev dktX0_round_2 : List UInt8 := dkwX0_round_2 ++ dktX0_round_3
def dkwX0_round_1 : List UInt8 := [180, 0, 53, 28, 3, 79, 132, 2, 1, 167, 255, 237, 3, 61, 3, 62, 3, 54, 4, 3, 54, 5, 42]
abbrev dktX0_round_1 : List UInt8 := dkwX0_round_1 ++ dktX0_round_2
def dkwX0_round_0 : List UInt8 := [27, 3, 6, 184, 0, 110, 154, 0, 6, 16, 156, 172, 3, 61, 28, 42, 180, 0, 53, 190, 162, 0, 16, 42]
abbrev dktX0_round_0 : List UInt8 := dkwX0_round_0 ++ dktX0_round_1
theorem dksX0_round_0 : cX0_round.data.toList.drop 0 = dktX0_round_0 := by decide +kernel
theorem dksX0_round_1 : cX0_round.data.toList.drop 24 = dktX0_round_1 := dk_seg dksX0_round_0 24 rfl rfl
theorem dksX0_round_2 : cX0_round.data.toList.drop 47 = dktX0_round_2 := dk_seg dksX0_round_1 23 rfl rfl
theorem dksX0_round_3 : cX0_round.data.toList.drop 70 = dktX0_round_3 := dk_seg dksX0_round_2 23 rfl rfl
theorem dksX0_round_4 : cX0_round.data.toList.drop 94 = dktX0_round_4 := dk_seg dksX0_round_3 24 rfl rfl
theorem dksX0_round_5 : cX0_round.data.toList.drop 116 = dktX0_round_5 := dk_seg dksX0_round_4 22 rfl rfl
theorem dksX0_round_6 : cX0_round.data.toList.drop 140 = dktX0_round_6 := dk_seg dksX0_round_5 24 rfl rfl
theorem dksX0_round_7 : cX0_round.data.toList.drop 162 = dktX0_round_7 := dk_seg dksX0_round_6 22 rfl rfl
theorem dksX0_round_8 : cX0_round.data.toList.drop 186 = dktX0_round_8 := dk_seg dksX0_round_7 24 rfl rfl
theorem dksX0_round_9 : cX0_round.data.toList.drop 210 = dktX0_round_9 := dk_seg dksX0_round_8 24 rfl rfl
theorem dksX0_round_10 : cX0_round.data.toList.drop 232 = dktX0_round_10 := dk_seg dksX0_round_9 22 rfl rfl
theorem dksX0_round_11 : cX0_round.data.toList.drop 255 = dktX0_round_11 := dk_seg dksX0_round_10 23 rfl rfl
theorem dksX0_round_12 : cX0_round.data.toList.drop 279 = dktX0_round_12 := dk_seg dksX0_round_11 24 rfl rfl
theorem dksX0_round_13 : cX0_round.data.toList.drop 303 = dktX0_round_13 := dk_seg dksX0_round_12 24 rfl rfl
theorem dX0_round_0 : decode cX0_round 0 = .ok (.iload_n 1, 1) := dk_27 (dk_at dksX0_round_0 0 rfl rfl)
theorem dX0_round_1 : decode cX0_round 1 = .ok (.iconst 0, 1) := dk_3 (dk_at dksX0_round_0 1 rfl rfl)
theorem dX0_round_2 : decode cX0_round 2 = .ok (.iconst 3, 1) := dk_6 (dk_at dksX0_round_0 2 rfl rfl)
theorem dX0_round_3 : decode cX0_round 3 = .ok (.invokestatic 110, 3) := dk_184 0 110 (dk_at dksX0_round_0 3 rfl rfl)
theorem dX0_round_6 : decode cX0_round 6 = .ok (.ifCond .ne 6, 3) := dk_154 0 6 (dk_at dksX0_round_0 6 rfl rfl)
theorem dX0_round_9 : decode cX0_round 9 = .ok (.bipush (-100), 2) := dk_16 156 (dk_at dksX0_round_0 9 rfl rfl)
theorem dX0_round_11 : decode cX0_round 11 = .ok (.ireturn, 1) := dk_172 (dk_at dksX0_round_0 11 rfl rfl)
theorem dX0_round_12 : decode cX0_round 12 = .ok (.iconst 0, 1) := dk_3 (dk_at dksX0_round_0 12 rfl rfl)
theorem dX0_round_13 : decode cX0_round 13 = .ok (.istore_n 2, 1) := dk_61 (dk_at dksX0_round_0 13 rfl rfl)
theorem dX0_round_14 : decode cX0_round 14 = .ok (.iload_n 2, 1) := dk_28 (dk_at dksX0_round_0 14 rfl rfl)
theorem dX0_round_15 : decode cX0_round 15 = .ok (.aload_n 0, 1) := dk_42 (dk_at dksX0_round_0 15 rfl rfl)
theorem dX0_round_16 : decode cX0_round 16 = .ok (.getfield 53, 3) := dk_180 0 53 (dk_at dksX0_round_0 16 rfl rfl)
theorem dX0_round_19 : decode cX0_round 19 = .ok (.arraylength, 1) := dk_190 (dk_at dksX0_round_0 19 rfl rfl)
theorem dX0_round_20 : decode cX0_round 20 = .ok (.if_icmp .ge 16, 3) := dk_162 0 16 (dk_at dksX0_round_0 20 rfl rfl)
theorem dX0_round_23 : decode cX0_round 23 = .ok (.aload_n 0, 1) := dk_42 (dk_at dksX0_round_0 23 rfl rfl)
theorem dX0_round_24 : decode cX0_round 24 = .ok (.getfield 53, 3) := dk_180 0 53 (dk_at dksX0_round_1 0 rfl rfl)
theorem dX0_round_27 : decode cX0_round 27 = .ok (.iload_n 2, 1) := dk_28 (dk_at dksX0_round_1 3 rfl rfl)
theorem dX0_round_28 : decode cX0_round 28 = .ok (.iconst 0, 1) := dk_3 (dk_at dksX0_round_1 4 rfl rfl)
theorem dX0_round_29 : decode cX0_round 29 = .ok (.iastore, 1) := dk_79 (dk_at dksX0_round_1 5 rfl rfl)
theorem dX0_round_30 : decode cX0_round 30 = .ok (.iinc 2 1, 3) := dk_132 2 1 (dk_at dksX0_round_1 6 rfl rfl)
theorem dX0_round_33 : decode cX0_round 33 = .ok (.goto (-19), 3) := dk_167 255 237 (dk_at dksX0_round_1 9 rfl rfl)
theorem dX0_round_36 : decode cX0_round 36 = .ok (.iconst 0, 1) := dk_3 (dk_at dksX0_round_1 12 rfl rfl)
theorem dX0_round_37 : decode cX0_round 37 = .ok (.istore_n 2, 1) := dk_61 (dk_at dksX0_round_1 13 rfl rfl)
theorem dX0_round_38 : decode cX0_round 38 = .ok (.iconst 0, 1) := dk_3 (dk_at dksX0_round_1 14 rfl rfl)
theorem dX0_round_39 : decode cX0_round 39 = .ok (.istore_n 3, 1) := dk_62 (dk_at dksX0_round_1 15 rfl rfl)
theorem dX0_round_40 : decode cX0_round 40 = .ok (.iconst 0, 1) := dk_3 (dk_at dksX0_round_1 16 rfl rfl)
theorem dX0_round_41 : decode cX0_round 41 = .ok (.istore 4, 2) := dk_54 4 (dk_at dksX0_round_1 17 rfl rfl)
theorem dX0_round_43 : decode cX0_round 43 = .ok (.iconst 0, 1) := dk_3 (dk_at dksX0_round_1 19 rfl rfl)
theorem dX0_round_44 : decode cX0_round 44 = .ok (.istore 5, 2) := dk_54 5 (dk_at dksX0_round_1 20 rfl rfl)
theorem dX0_round_46 : decode cX0_round 46 = .ok (.aload_n 0, 1) := dk_42 (dk_at dksX0_round_1 22 rfl rfl)
theorem dX0_round_47 : decode cX0_round 47 = .ok (.getfield 53, 3) := dk_180 0 53 (dk_at dksX0_round_2 0 rfl rfl)
theorem dX0_round_50 : decode cX0_round 50 = .ok (.sipush 1200, 3) := dk_17 4 176 (dk_at dksX0_round_2 3 rfl rfl)
theorem dX0_round_53 : decode cX0_round 53 = .ok (.dup2, 1) := dk_92 (dk_at dksX0_round_2 6 rfl rfl)
theorem dX0_round_54 : decode cX0_round 54 = .ok (.iaload, 1) := dk_46 (dk_at dksX0_round_2 7 rfl rfl)
theorem dX0_round_55 : decode cX0_round 55 = .ok (.iconst 1, 1) := dk_4 (dk_at dksX0_round_2 8 rfl rfl)
theorem dX0_round_56 : decode cX0_round 56 = .ok (.iadd, 1) := dk_96 (dk_at dksX0_round_2 9 rfl rfl)
theorem dX0_round_57 : decode cX0_round 57 = .ok (.iastore, 1) := dk_79 (dk_at dksX0_round_2 10 rfl rfl)
theorem dX0_round_58 : decode cX0_round 58 = .ok (.iconst 0, 1) := dk_3 (dk_at dksX0_round_2 11 rfl rfl)
theorem dX0_round_59 : decode cX0_round 59 = .ok (.istore 6, 2) := dk_54 6 (dk_at dksX0_round_2 12 rfl rfl)
theorem dX0_round_61 : decode cX0_round 61 = .ok (.iload 6, 2) := dk_21 6 (dk_at dksX0_round_2 14 rfl rfl)
theorem dX0_round_63 : decode cX0_round 63 = .ok (.aload_n 0, 1) := dk_42 (dk_at dksX0_round_2 16 rfl rfl)
theorem dX0_round_64 : decode cX0_round 64 = .ok (.getfield 20, 3) := dk_180 0 20 (dk_at dksX0_round_2 17 rfl rfl)
theorem dX0_round_67 : decode cX0_round 67 = .ok (.getfield 385, 3) := dk_180 1 129 (dk_at dksX0_round_2 20 rfl rfl)
theorem dX0_round_70 : decode cX0_round 70 = .ok (.getfield 364, 3) := dk_180 1 108 (dk_at dksX0_round_3 0 rfl rfl)
theorem dX0_round_73 : decode cX0_round 73 = .ok (.if_icmp .ge 123, 3) := dk_162 0 123 (dk_at dksX0_round_3 3 rfl rfl)
theorem dX0_round_76 : decode cX0_round 76 = .ok (.aload_n 0, 1) := dk_42 (dk_at dksX0_round_3 6 rfl rfl)
theorem dX0_round_77 : decode cX0_round 77 = .ok (.getfield 20, 3) := dk_180 0 20 (dk_at dksX0_round_3 7 rfl rfl)
theorem dX0_round_80 : decode cX0_round 80 = .ok (.getfield 385, 3) := dk_180 1 129 (dk_at dksX0_round_3 10 rfl rfl)
theorem dX0_round_83 : decode cX0_round 83 = .ok (.iload 6, 2) := dk_21 6 (dk_at dksX0_round_3 13 rfl rfl)
theorem dX0_round_85 : decode cX0_round 85 = .ok (.invokevirtual 367, 3) := dk_182 1 111 (dk_at dksX0_round_3 15 rfl rfl)
theorem dX0_round_88 : decode cX0_round 88 = .ok (.istore 7, 2) := dk_54 7 (dk_at dksX0_round_3 18 rfl rfl)
theorem dX0_round_90 : decode cX0_round 90 = .ok (.iload_n 2, 1) := dk_28 (dk_at dksX0_round_3 20 rfl rfl)
theorem dX0_round_91 : decode cX0_round 91 = .ok (.iload 7, 2) := dk_21 7 (dk_at dksX0_round_3 21 rfl rfl)
theorem dX0_round_93 : decode cX0_round 93 = .ok (.iconst 1, 1) := dk_4 (dk_at dksX0_round_3 23 rfl rfl)
theorem dX0_round_94 : decode cX0_round 94 = .ok (.if_icmp .ne 7, 3) := dk_160 0 7 (dk_at dksX0_round_4 0 rfl rfl)
theorem dX0_round_97 : decode cX0_round 97 = .ok (.iconst (-1), 1) := dk_2 (dk_at dksX0_round_4 3 rfl rfl)
theorem dX0_round_98 : decode cX0_round 98 = .ok (.goto 14, 3) := dk_167 0 14 (dk_at dksX0_round_4 4 rfl rfl)
theorem dX0_round_101 : decode cX0_round 101 = .ok (.iload 7, 2) := dk_21 7 (dk_at dksX0_round_4 7 rfl rfl)
theorem dX0_round_103 : decode cX0_round 103 = .ok (.iconst 2, 1) := dk_5 (dk_at dksX0_round_4 9 rfl rfl)
theorem dX0_round_104 : decode cX0_round 104 = .ok (.if_icmp .ne 7, 3) := dk_160 0 7 (dk_at dksX0_round_4 10 rfl rfl)
theorem dX0_round_107 : decode cX0_round 107 = .ok (.iconst 1, 1) := dk_4 (dk_at dksX0_round_4 13 rfl rfl)
theorem dX0_round_108 : decode cX0_round 108 = .ok (.goto 4, 3) := dk_167 0 4 (dk_at dksX0_round_4 14 rfl rfl)
theorem dX0_round_111 : decode cX0_round 111 = .ok (.iconst 0, 1) := dk_3 (dk_at dksX0_round_4 17 rfl rfl)
theorem dX0_round_112 : decode cX0_round 112 = .ok (.iadd, 1) := dk_96 (dk_at dksX0_round_4 18 rfl rfl)
theorem dX0_round_113 : decode cX0_round 113 = .ok (.istore_n 2, 1) := dk_61 (dk_at dksX0_round_4 19 rfl rfl)
theorem dX0_round_114 : decode cX0_round 114 = .ok (.iload 7, 2) := dk_21 7 (dk_at dksX0_round_4 20 rfl rfl)
theorem dX0_round_116 : decode cX0_round 116 = .ok (.ifCond .eq 6, 3) := dk_153 0 6 (dk_at dksX0_round_5 0 rfl rfl)
theorem dX0_round_119 : decode cX0_round 119 = .ok (.goto 71, 3) := dk_167 0 71 (dk_at dksX0_round_5 3 rfl rfl)
theorem dX0_round_122 : decode cX0_round 122 = .ok (.iload_n 2, 1) := dk_28 (dk_at dksX0_round_5 6 rfl rfl)
theorem dX0_round_123 : decode cX0_round 123 = .ok (.iconst 4, 1) := dk_7 (dk_at dksX0_round_5 7 rfl rfl)
theorem dX0_round_124 : decode cX0_round 124 = .ok (.invokestatic 389, 3) := dk_184 1 133 (dk_at dksX0_round_5 8 rfl rfl)
theorem dX0_round_127 : decode cX0_round 127 = .ok (.istore 8, 2) := dk_54 8 (dk_at dksX0_round_5 11 rfl rfl)
theorem dX0_round_129 : decode cX0_round 129 = .ok (.iload 5, 2) := dk_21 5 (dk_at dksX0_round_5 13 rfl rfl)
theorem dX0_round_131 : decode cX0_round 131 = .ok (.iload_n 3, 1) := dk_29 (dk_at dksX0_round_5 15 rfl rfl)
theorem dX0_round_132 : decode cX0_round 132 = .ok (.iload 8, 2) := dk_21 8 (dk_at dksX0_round_5 16 rfl rfl)
theorem dX0_round_134 : decode cX0_round 134 = .ok (.invokestatic 118, 3) := dk_184 0 118 (dk_at dksX0_round_5 18 rfl rfl)
theorem dX0_round_137 : decode cX0_round 137 = .ok (.imul, 1) := dk_104 (dk_at dksX0_round_5 21 rfl rfl)
theorem dX0_round_138 : decode cX0_round 138 = .ok (.iload 4, 2) := dk_21 4 (dk_at dksX0_round_5 22 rfl rfl)
theorem dX0_round_140 : decode cX0_round 140 = .ok (.iload 8, 2) := dk_21 8 (dk_at dksX0_round_6 0 rfl rfl)
theorem dX0_round_142 : decode cX0_round 142 = .ok (.invokestatic 114, 3) := dk_184 0 114 (dk_at dksX0_round_6 2 rfl rfl)
theorem dX0_round_145 : decode cX0_round 145 = .ok (.imul, 1) := dk_104 (dk_at dksX0_round_6 5 rfl rfl)
theorem dX0_round_146 : decode cX0_round 146 = .ok (.isub, 1) := dk_100 (dk_at dksX0_round_6 6 rfl rfl)
theorem dX0_round_147 : decode cX0_round 147 = .ok (.iadd, 1) := dk_96 (dk_at dksX0_round_6 7 rfl rfl)
theorem dX0_round_148 : decode cX0_round 148 = .ok (.istore 5, 2) := dk_54 5 (dk_at dksX0_round_6 8 rfl rfl)
theorem dX0_round_150 : decode cX0_round 150 = .ok (.iload_n 3, 1) := dk_29 (dk_at dksX0_round_6 10 rfl rfl)
theorem dX0_round_151 : decode cX0_round 151 = .ok (.iload 8, 2) := dk_21 8 (dk_at dksX0_round_6 11 rfl rfl)
theorem dX0_round_153 : decode cX0_round 153 = .ok (.invokestatic 114, 3) := dk_184 0 114 (dk_at dksX0_round_6 13 rfl rfl)
theorem dX0_round_156 : decode cX0_round 156 = .ok (.iadd, 1) := dk_96 (dk_at dksX0_round_6 16 rfl rfl)
theorem dX0_round_157 : decode cX0_round 157 = .ok (.istore_n 3, 1) := dk_62 (dk_at dksX0_round_6 17 rfl rfl)
theorem dX0_round_158 : decode cX0_round 158 = .ok (.iload 4, 2) := dk_21 4 (dk_at dksX0_round_6 18 rfl rfl)
theorem dX0_round_160 : decode cX0_round 160 = .ok (.iload 8, 2) := dk_21 8 (dk_at dksX0_round_6 20 rfl rfl)
theorem dX0_round_162 : decode cX0_round 162 = .ok (.invokestatic 118, 3) := dk_184 0 118 (dk_at dksX0_round_7 0 rfl rfl)
theorem dX0_round_165 : decode cX0_round 165 = .ok (.iadd, 1) := dk_96 (dk_at dksX0_round_7 3 rfl rfl)
theorem dX0_round_166 : decode cX0_round 166 = .ok (.istore 4, 2) := dk_54 4 (dk_at dksX0_round_7 4 rfl rfl)
theorem dX0_round_168 : decode cX0_round 168 = .ok (.aload_n 0, 1) := dk_42 (dk_at dksX0_round_7 6 rfl rfl)
theorem dX0_round_169 : decode cX0_round 169 = .ok (.getfield 53, 3) := dk_180 0 53 (dk_at dksX0_round_7 7 rfl rfl)
theorem dX0_round_172 : decode cX0_round 172 = .ok (.iload 4, 2) := dk_21 4 (dk_at dksX0_round_7 10 rfl rfl)
theorem dX0_round_174 : decode cX0_round 174 = .ok (.bipush 24, 2) := dk_16 24 (dk_at dksX0_round_7 12 rfl rfl)
theorem dX0_round_176 : decode cX0_round 176 = .ok (.iadd, 1) := dk_96 (dk_at dksX0_round_7 14 rfl rfl)
theorem dX0_round_177 : decode cX0_round 177 = .ok (.bipush 49, 2) := dk_16 49 (dk_at dksX0_round_7 15 rfl rfl)
theorem dX0_round_179 : decode cX0_round 179 = .ok (.imul, 1) := dk_104 (dk_at dksX0_round_7 17 rfl rfl)
theorem dX0_round_180 : decode cX0_round 180 = .ok (.iload_n 3, 1) := dk_29 (dk_at dksX0_round_7 18 rfl rfl)
theorem dX0_round_181 : decode cX0_round 181 = .ok (.iadd, 1) := dk_96 (dk_at dksX0_round_7 19 rfl rfl)
theorem dX0_round_182 : decode cX0_round 182 = .ok (.bipush 24, 2) := dk_16 24 (dk_at dksX0_round_7 20 rfl rfl)
theorem dX0_round_184 : decode cX0_round 184 = .ok (.iadd, 1) := dk_96 (dk_at dksX0_round_7 22 rfl rfl)
theorem dX0_round_185 : decode cX0_round 185 = .ok (.dup2, 1) := dk_92 (dk_at dksX0_round_7 23 rfl rfl)
theorem dX0_round_186 : decode cX0_round 186 = .ok (.iaload, 1) := dk_46 (dk_at dksX0_round_8 0 rfl rfl)
theorem dX0_round_187 : decode cX0_round 187 = .ok (.iconst 1, 1) := dk_4 (dk_at dksX0_round_8 1 rfl rfl)
theorem dX0_round_188 : decode cX0_round 188 = .ok (.iadd, 1) := dk_96 (dk_at dksX0_round_8 2 rfl rfl)
theorem dX0_round_189 : decode cX0_round 189 = .ok (.iastore, 1) := dk_79 (dk_at dksX0_round_8 3 rfl rfl)
theorem dX0_round_190 : decode cX0_round 190 = .ok (.iinc 6 1, 3) := dk_132 6 1 (dk_at dksX0_round_8 4 rfl rfl)
theorem dX0_round_193 : decode cX0_round 193 = .ok (.goto (-132), 3) := dk_167 255 124 (dk_at dksX0_round_8 7 rfl rfl)
theorem dX0_round_196 : decode cX0_round 196 = .ok (.iconst 0, 1) := dk_3 (dk_at dksX0_round_8 10 rfl rfl)
theorem dX0_round_197 : decode cX0_round 197 = .ok (.istore 6, 2) := dk_54 6 (dk_at dksX0_round_8 11 rfl rfl)
theorem dX0_round_199 : decode cX0_round 199 = .ok (.aload_n 0, 1) := dk_42 (dk_at dksX0_round_8 13 rfl rfl)
theorem dX0_round_200 : decode cX0_round 200 = .ok (.getfield 53, 3) := dk_180 0 53 (dk_at dksX0_round_8 14 rfl rfl)
theorem dX0_round_203 : decode cX0_round 203 = .ok (.astore 7, 2) := dk_58 7 (dk_at dksX0_round_8 17 rfl rfl)
theorem dX0_round_205 : decode cX0_round 205 = .ok (.aload 7, 2) := dk_25 7 (dk_at dksX0_round_8 19 rfl rfl)
theorem dX0_round_207 : decode cX0_round 207 = .ok (.arraylength, 1) := dk_190 (dk_at dksX0_round_8 21 rfl rfl)
theorem dX0_round_208 : decode cX0_round 208 = .ok (.istore 8, 2) := dk_54 8 (dk_at dksX0_round_8 22 rfl rfl)
theorem dX0_round_210 : decode cX0_round 210 = .ok (.iconst 0, 1) := dk_3 (dk_at dksX0_round_9 0 rfl rfl)
theorem dX0_round_211 : decode cX0_round 211 = .ok (.istore 9, 2) := dk_54 9 (dk_at dksX0_round_9 1 rfl rfl)
theorem dX0_round_213 : decode cX0_round 213 = .ok (.iload 9, 2) := dk_21 9 (dk_at dksX0_round_9 3 rfl rfl)
theorem dX0_round_215 : decode cX0_round 215 = .ok (.iload 8, 2) := dk_21 8 (dk_at dksX0_round_9 5 rfl rfl)
theorem dX0_round_217 : decode cX0_round 217 = .ok (.if_icmp .ge 32, 3) := dk_162 0 32 (dk_at dksX0_round_9 7 rfl rfl)
theorem dX0_round_220 : decode cX0_round 220 = .ok (.aload 7, 2) := dk_25 7 (dk_at dksX0_round_9 10 rfl rfl)
theorem dX0_round_222 : decode cX0_round 222 = .ok (.iload 9, 2) := dk_21 9 (dk_at dksX0_round_9 12 rfl rfl)
theorem dX0_round_224 : decode cX0_round 224 = .ok (.iaload, 1) := dk_46 (dk_at dksX0_round_9 14 rfl rfl)
theorem dX0_round_225 : decode cX0_round 225 = .ok (.istore 10, 2) := dk_54 10 (dk_at dksX0_round_9 15 rfl rfl)
theorem dX0_round_227 : decode cX0_round 227 = .ok (.iload 6, 2) := dk_21 6 (dk_at dksX0_round_9 17 rfl rfl)
theorem dX0_round_229 : decode cX0_round 229 = .ok (.iload 10, 2) := dk_21 10 (dk_at dksX0_round_9 19 rfl rfl)
theorem dX0_round_231 : decode cX0_round 231 = .ok (.iconst 1, 1) := dk_4 (dk_at dksX0_round_9 21 rfl rfl)
theorem dX0_round_232 : decode cX0_round 232 = .ok (.if_icmp .le 7, 3) := dk_164 0 7 (dk_at dksX0_round_10 0 rfl rfl)
theorem dX0_round_235 : decode cX0_round 235 = .ok (.iconst 1, 1) := dk_4 (dk_at dksX0_round_10 3 rfl rfl)
theorem dX0_round_236 : decode cX0_round 236 = .ok (.goto 4, 3) := dk_167 0 4 (dk_at dksX0_round_10 4 rfl rfl)
theorem dX0_round_239 : decode cX0_round 239 = .ok (.iconst 0, 1) := dk_3 (dk_at dksX0_round_10 7 rfl rfl)
theorem dX0_round_240 : decode cX0_round 240 = .ok (.iadd, 1) := dk_96 (dk_at dksX0_round_10 8 rfl rfl)
theorem dX0_round_241 : decode cX0_round 241 = .ok (.istore 6, 2) := dk_54 6 (dk_at dksX0_round_10 9 rfl rfl)
theorem dX0_round_243 : decode cX0_round 243 = .ok (.iinc 9 1, 3) := dk_132 9 1 (dk_at dksX0_round_10 11 rfl rfl)
theorem dX0_round_246 : decode cX0_round 246 = .ok (.goto (-33), 3) := dk_167 255 223 (dk_at dksX0_round_10 14 rfl rfl)
theorem dX0_round_249 : decode cX0_round 249 = .ok (.iload_n 3, 1) := dk_29 (dk_at dksX0_round_10 17 rfl rfl)
theorem dX0_round_250 : decode cX0_round 250 = .ok (.invokestatic 340, 3) := dk_184 1 84 (dk_at dksX0_round_10 18 rfl rfl)
theorem dX0_round_253 : decode cX0_round 253 = .ok (.iload 4, 2) := dk_21 4 (dk_at dksX0_round_10 21 rfl rfl)
theorem dX0_round_255 : decode cX0_round 255 = .ok (.invokestatic 340, 3) := dk_184 1 84 (dk_at dksX0_round_11 0 rfl rfl)
theorem dX0_round_258 : decode cX0_round 258 = .ok (.iadd, 1) := dk_96 (dk_at dksX0_round_11 3 rfl rfl)
theorem dX0_round_259 : decode cX0_round 259 = .ok (.istore 7, 2) := dk_54 7 (dk_at dksX0_round_11 4 rfl rfl)
theorem dX0_round_261 : decode cX0_round 261 = .ok (.iload_n 1, 1) := dk_27 (dk_at dksX0_round_11 6 rfl rfl)
theorem dX0_round_262 : decode cX0_round 262 = .ok (.ifCond .ne 7, 3) := dk_154 0 7 (dk_at dksX0_round_11 7 rfl rfl)
theorem dX0_round_265 : decode cX0_round 265 = .ok (.iload_n 2, 1) := dk_28 (dk_at dksX0_round_11 10 rfl rfl)
theorem dX0_round_266 : decode cX0_round 266 = .ok (.goto 37, 3) := dk_167 0 37 (dk_at dksX0_round_11 11 rfl rfl)
theorem dX0_round_269 : decode cX0_round 269 = .ok (.iload_n 1, 1) := dk_27 (dk_at dksX0_round_11 14 rfl rfl)
theorem dX0_round_270 : decode cX0_round 270 = .ok (.iconst 1, 1) := dk_4 (dk_at dksX0_round_11 15 rfl rfl)
theorem dX0_round_271 : decode cX0_round 271 = .ok (.if_icmp .ne 8, 3) := dk_160 0 8 (dk_at dksX0_round_11 16 rfl rfl)
theorem dX0_round_274 : decode cX0_round 274 = .ok (.iload 7, 2) := dk_21 7 (dk_at dksX0_round_11 19 rfl rfl)
theorem dX0_round_276 : decode cX0_round 276 = .ok (.goto 27, 3) := dk_167 0 27 (dk_at dksX0_round_11 21 rfl rfl)
theorem dX0_round_279 : decode cX0_round 279 = .ok (.iload_n 1, 1) := dk_27 (dk_at dksX0_round_12 0 rfl rfl)
theorem dX0_round_280 : decode cX0_round 280 = .ok (.iconst 2, 1) := dk_5 (dk_at dksX0_round_12 1 rfl rfl)
theorem dX0_round_281 : decode cX0_round 281 = .ok (.if_icmp .ne 8, 3) := dk_160 0 8 (dk_at dksX0_round_12 2 rfl rfl)
theorem dX0_round_284 : decode cX0_round 284 = .ok (.iload 6, 2) := dk_21 6 (dk_at dksX0_round_12 5 rfl rfl)
theorem dX0_round_286 : decode cX0_round 286 = .ok (.goto 17, 3) := dk_167 0 17 (dk_at dksX0_round_12 7 rfl rfl)
theorem dX0_round_289 : decode cX0_round 289 = .ok (.iload 7, 2) := dk_21 7 (dk_at dksX0_round_12 10 rfl rfl)
theorem dX0_round_291 : decode cX0_round 291 = .ok (.ifCond .ne 11, 3) := dk_154 0 11 (dk_at dksX0_round_12 12 rfl rfl)
theorem dX0_round_294 : decode cX0_round 294 = .ok (.iload 5, 2) := dk_21 5 (dk_at dksX0_round_12 15 rfl rfl)
theorem dX0_round_296 : decode cX0_round 296 = .ok (.invokestatic 340, 3) := dk_184 1 84 (dk_at dksX0_round_12 17 rfl rfl)
theorem dX0_round_299 : decode cX0_round 299 = .ok (.goto 4, 3) := dk_167 0 4 (dk_at dksX0_round_12 20 rfl rfl)
theorem dX0_round_302 : decode cX0_round 302 = .ok (.iconst (-1), 1) := dk_2 (dk_at dksX0_round_12 23 rfl rfl)
theorem dX0_round_303 : decode cX0_round 303 = .ok (.ireturn, 1) := dk_172 (dk_at dksX0_round_13 0 rfl rfl)
abbrev cX0_folded : ByteArray := prog_1_method_50_code
def yX0_folded : MethodName := ⟨RX0, "folded", "(III)I"⟩
def dkwX0_folded_5 : List UInt8 := [160, 0, 8, 21, 4, 167, 0, 5, 21, 5, 172]
abbrev dktX0_folded_5 : List UInt8 := dkwX0_folded_5 ++ []
def dkwX0_folded_4 : List UInt8 := [184, 0, 114, 96, 54, 4, 21, 5, 21, 6, 184, 0, 118, 96, 54, 5, 132, 7, 1, 167, 255, 204, 29, 4]
abbrev dktX0_folded_4 : List UInt8 := dkwX0_folded_4 ++ dktX0_folded_5
def dkwX0_folded_3 : List UInt8 := [21, 7, 184, 1, 139, 4, 160, 0, 7, 4, 167, 0, 4, 6, 96, 7, 112, 54, 6, 21, 4, 21, 6]
abbrev dktX0_folded_3 : List UInt8 := dkwX0_folded_3 ++ dktX0_folded_4
def dkwX0_folded_2 : List UInt8 := [172, 3, 54, 4, 4, 54, 5, 3, 54, 6, 4, 54, 7, 21, 7, 4, 27, 120, 162, 0, 50, 21, 6]
abbrev dktX0_folded_2 : List UInt8 := dkwX0_folded_2 ++ dktX0_folded_3
def dkwX0_folded_1 : List UInt8 := [4, 4, 27, 120, 4, 100, 184, 0, 110, 154, 0, 7, 17, 252, 24, 172, 29, 154, 0, 8, 28, 184, 1, 139]
abbrev dktX0_folded_1 : List UInt8 := dkwX0_folded_1 ++ dktX0_folded_2
def dkwX0_folded_0 : List UInt8 := [27, 4, 16, 15, 184, 0, 110, 153, 0, 29, 29, 3, 5, 184, 0, 110, 153, 0, 20, 29, 154, 0, 20, 28]
abbrev dktX0_folded_0 : List UInt8 := dkwX0_folded_0 ++ dktX0_folded_1
theorem dksX0_folded_0 : cX0_folded.data.toList.drop 0 = dktX0_folded_0 := by decide +kernel
theorem dksX0_folded_1 : cX0_folded.data.toList.drop 24 = dktX0_folded_1 := dk_seg dksX0_folded_0 24 rfl rfl
theorem dksX0_folded_2 : cX0_folded.data.toList.drop 48 = dktX0_folded_2 := dk_seg dksX0_folded_1 24 rfl rfl
theorem dksX0_folded_3 : cX0_folded.data.toList.drop 71 = dktX0_folded_3 := dk_seg dksX0_folded_2 23 rfl rfl
theorem dksX0_folded_4 : cX0_folded.data.toList.drop 94 = dktX0_folded_4 := dk_seg dksX0_folded_3 23 rfl rfl
theorem dksX0_folded_5 : cX0_folded.data.toList.drop 118 = dktX0_folded_5 := dk_seg dksX0_folded_4 24 rfl rfl
theorem dX0_folded_0 : decode cX0_folded 0 = .ok (.iload_n 1, 1) := dk_27 (dk_at dksX0_folded_0 0 rfl rfl)
theorem dX0_folded_1 : decode cX0_folded 1 = .ok (.iconst 1, 1) := dk_4 (dk_at dksX0_folded_0 1 rfl rfl)
theorem dX0_folded_2 : decode cX0_folded 2 = .ok (.bipush 15, 2) := dk_16 15 (dk_at dksX0_folded_0 2 rfl rfl)
theorem dX0_folded_4 : decode cX0_folded 4 = .ok (.invokestatic 110, 3) := dk_184 0 110 (dk_at dksX0_folded_0 4 rfl rfl)
theorem dX0_folded_7 : decode cX0_folded 7 = .ok (.ifCond .eq 29, 3) := dk_153 0 29 (dk_at dksX0_folded_0 7 rfl rfl)
theorem dX0_folded_10 : decode cX0_folded 10 = .ok (.iload_n 3, 1) := dk_29 (dk_at dksX0_folded_0 10 rfl rfl)
theorem dX0_folded_11 : decode cX0_folded 11 = .ok (.iconst 0, 1) := dk_3 (dk_at dksX0_folded_0 11 rfl rfl)
theorem dX0_folded_12 : decode cX0_folded 12 = .ok (.iconst 2, 1) := dk_5 (dk_at dksX0_folded_0 12 rfl rfl)
theorem dX0_folded_13 : decode cX0_folded 13 = .ok (.invokestatic 110, 3) := dk_184 0 110 (dk_at dksX0_folded_0 13 rfl rfl)
theorem dX0_folded_16 : decode cX0_folded 16 = .ok (.ifCond .eq 20, 3) := dk_153 0 20 (dk_at dksX0_folded_0 16 rfl rfl)
theorem dX0_folded_19 : decode cX0_folded 19 = .ok (.iload_n 3, 1) := dk_29 (dk_at dksX0_folded_0 19 rfl rfl)
theorem dX0_folded_20 : decode cX0_folded 20 = .ok (.ifCond .ne 20, 3) := dk_154 0 20 (dk_at dksX0_folded_0 20 rfl rfl)
theorem dX0_folded_23 : decode cX0_folded 23 = .ok (.iload_n 2, 1) := dk_28 (dk_at dksX0_folded_0 23 rfl rfl)
theorem dX0_folded_24 : decode cX0_folded 24 = .ok (.iconst 1, 1) := dk_4 (dk_at dksX0_folded_1 0 rfl rfl)
theorem dX0_folded_25 : decode cX0_folded 25 = .ok (.iconst 1, 1) := dk_4 (dk_at dksX0_folded_1 1 rfl rfl)
theorem dX0_folded_26 : decode cX0_folded 26 = .ok (.iload_n 1, 1) := dk_27 (dk_at dksX0_folded_1 2 rfl rfl)
theorem dX0_folded_27 : decode cX0_folded 27 = .ok (.ishl, 1) := dk_120 (dk_at dksX0_folded_1 3 rfl rfl)
theorem dX0_folded_28 : decode cX0_folded 28 = .ok (.iconst 1, 1) := dk_4 (dk_at dksX0_folded_1 4 rfl rfl)
theorem dX0_folded_29 : decode cX0_folded 29 = .ok (.isub, 1) := dk_100 (dk_at dksX0_folded_1 5 rfl rfl)
theorem dX0_folded_30 : decode cX0_folded 30 = .ok (.invokestatic 110, 3) := dk_184 0 110 (dk_at dksX0_folded_1 6 rfl rfl)
theorem dX0_folded_33 : decode cX0_folded 33 = .ok (.ifCond .ne 7, 3) := dk_154 0 7 (dk_at dksX0_folded_1 9 rfl rfl)
theorem dX0_folded_36 : decode cX0_folded 36 = .ok (.sipush (-1000), 3) := dk_17 252 24 (dk_at dksX0_folded_1 12 rfl rfl)
theorem dX0_folded_39 : decode cX0_folded 39 = .ok (.ireturn, 1) := dk_172 (dk_at dksX0_folded_1 15 rfl rfl)
theorem dX0_folded_40 : decode cX0_folded 40 = .ok (.iload_n 3, 1) := dk_29 (dk_at dksX0_folded_1 16 rfl rfl)
theorem dX0_folded_41 : decode cX0_folded 41 = .ok (.ifCond .ne 8, 3) := dk_154 0 8 (dk_at dksX0_folded_1 17 rfl rfl)
theorem dX0_folded_44 : decode cX0_folded 44 = .ok (.iload_n 2, 1) := dk_28 (dk_at dksX0_folded_1 20 rfl rfl)
theorem dX0_folded_45 : decode cX0_folded 45 = .ok (.invokestatic 395, 3) := dk_184 1 139 (dk_at dksX0_folded_1 21 rfl rfl)
theorem dX0_folded_48 : decode cX0_folded 48 = .ok (.ireturn, 1) := dk_172 (dk_at dksX0_folded_2 0 rfl rfl)
theorem dX0_folded_49 : decode cX0_folded 49 = .ok (.iconst 0, 1) := dk_3 (dk_at dksX0_folded_2 1 rfl rfl)
theorem dX0_folded_50 : decode cX0_folded 50 = .ok (.istore 4, 2) := dk_54 4 (dk_at dksX0_folded_2 2 rfl rfl)
theorem dX0_folded_52 : decode cX0_folded 52 = .ok (.iconst 1, 1) := dk_4 (dk_at dksX0_folded_2 4 rfl rfl)
theorem dX0_folded_53 : decode cX0_folded 53 = .ok (.istore 5, 2) := dk_54 5 (dk_at dksX0_folded_2 5 rfl rfl)
theorem dX0_folded_55 : decode cX0_folded 55 = .ok (.iconst 0, 1) := dk_3 (dk_at dksX0_folded_2 7 rfl rfl)
theorem dX0_folded_56 : decode cX0_folded 56 = .ok (.istore 6, 2) := dk_54 6 (dk_at dksX0_folded_2 8 rfl rfl)
theorem dX0_folded_58 : decode cX0_folded 58 = .ok (.iconst 1, 1) := dk_4 (dk_at dksX0_folded_2 10 rfl rfl)
theorem dX0_folded_59 : decode cX0_folded 59 = .ok (.istore 7, 2) := dk_54 7 (dk_at dksX0_folded_2 11 rfl rfl)
theorem dX0_folded_61 : decode cX0_folded 61 = .ok (.iload 7, 2) := dk_21 7 (dk_at dksX0_folded_2 13 rfl rfl)
theorem dX0_folded_63 : decode cX0_folded 63 = .ok (.iconst 1, 1) := dk_4 (dk_at dksX0_folded_2 15 rfl rfl)
theorem dX0_folded_64 : decode cX0_folded 64 = .ok (.iload_n 1, 1) := dk_27 (dk_at dksX0_folded_2 16 rfl rfl)
theorem dX0_folded_65 : decode cX0_folded 65 = .ok (.ishl, 1) := dk_120 (dk_at dksX0_folded_2 17 rfl rfl)
theorem dX0_folded_66 : decode cX0_folded 66 = .ok (.if_icmp .ge 50, 3) := dk_162 0 50 (dk_at dksX0_folded_2 18 rfl rfl)
theorem dX0_folded_69 : decode cX0_folded 69 = .ok (.iload 6, 2) := dk_21 6 (dk_at dksX0_folded_2 21 rfl rfl)
theorem dX0_folded_71 : decode cX0_folded 71 = .ok (.iload 7, 2) := dk_21 7 (dk_at dksX0_folded_3 0 rfl rfl)
theorem dX0_folded_73 : decode cX0_folded 73 = .ok (.invokestatic 395, 3) := dk_184 1 139 (dk_at dksX0_folded_3 2 rfl rfl)
theorem dX0_folded_76 : decode cX0_folded 76 = .ok (.iconst 1, 1) := dk_4 (dk_at dksX0_folded_3 5 rfl rfl)
theorem dX0_folded_77 : decode cX0_folded 77 = .ok (.if_icmp .ne 7, 3) := dk_160 0 7 (dk_at dksX0_folded_3 6 rfl rfl)
theorem dX0_folded_80 : decode cX0_folded 80 = .ok (.iconst 1, 1) := dk_4 (dk_at dksX0_folded_3 9 rfl rfl)
theorem dX0_folded_81 : decode cX0_folded 81 = .ok (.goto 4, 3) := dk_167 0 4 (dk_at dksX0_folded_3 10 rfl rfl)
theorem dX0_folded_84 : decode cX0_folded 84 = .ok (.iconst 3, 1) := dk_6 (dk_at dksX0_folded_3 13 rfl rfl)
theorem dX0_folded_85 : decode cX0_folded 85 = .ok (.iadd, 1) := dk_96 (dk_at dksX0_folded_3 14 rfl rfl)
theorem dX0_folded_86 : decode cX0_folded 86 = .ok (.iconst 4, 1) := dk_7 (dk_at dksX0_folded_3 15 rfl rfl)
theorem dX0_folded_87 : decode cX0_folded 87 = .ok (.irem, 1) := dk_112 (dk_at dksX0_folded_3 16 rfl rfl)
theorem dX0_folded_88 : decode cX0_folded 88 = .ok (.istore 6, 2) := dk_54 6 (dk_at dksX0_folded_3 17 rfl rfl)
theorem dX0_folded_90 : decode cX0_folded 90 = .ok (.iload 4, 2) := dk_21 4 (dk_at dksX0_folded_3 19 rfl rfl)
theorem dX0_folded_92 : decode cX0_folded 92 = .ok (.iload 6, 2) := dk_21 6 (dk_at dksX0_folded_3 21 rfl rfl)
theorem dX0_folded_94 : decode cX0_folded 94 = .ok (.invokestatic 114, 3) := dk_184 0 114 (dk_at dksX0_folded_4 0 rfl rfl)
theorem dX0_folded_97 : decode cX0_folded 97 = .ok (.iadd, 1) := dk_96 (dk_at dksX0_folded_4 3 rfl rfl)
theorem dX0_folded_98 : decode cX0_folded 98 = .ok (.istore 4, 2) := dk_54 4 (dk_at dksX0_folded_4 4 rfl rfl)
theorem dX0_folded_100 : decode cX0_folded 100 = .ok (.iload 5, 2) := dk_21 5 (dk_at dksX0_folded_4 6 rfl rfl)
theorem dX0_folded_102 : decode cX0_folded 102 = .ok (.iload 6, 2) := dk_21 6 (dk_at dksX0_folded_4 8 rfl rfl)
theorem dX0_folded_104 : decode cX0_folded 104 = .ok (.invokestatic 118, 3) := dk_184 0 118 (dk_at dksX0_folded_4 10 rfl rfl)
theorem dX0_folded_107 : decode cX0_folded 107 = .ok (.iadd, 1) := dk_96 (dk_at dksX0_folded_4 13 rfl rfl)
theorem dX0_folded_108 : decode cX0_folded 108 = .ok (.istore 5, 2) := dk_54 5 (dk_at dksX0_folded_4 14 rfl rfl)
theorem dX0_folded_110 : decode cX0_folded 110 = .ok (.iinc 7 1, 3) := dk_132 7 1 (dk_at dksX0_folded_4 16 rfl rfl)
theorem dX0_folded_113 : decode cX0_folded 113 = .ok (.goto (-52), 3) := dk_167 255 204 (dk_at dksX0_folded_4 19 rfl rfl)
theorem dX0_folded_116 : decode cX0_folded 116 = .ok (.iload_n 3, 1) := dk_29 (dk_at dksX0_folded_4 22 rfl rfl)
theorem dX0_folded_117 : decode cX0_folded 117 = .ok (.iconst 1, 1) := dk_4 (dk_at dksX0_folded_4 23 rfl rfl)
theorem dX0_folded_118 : decode cX0_folded 118 = .ok (.if_icmp .ne 8, 3) := dk_160 0 8 (dk_at dksX0_folded_5 0 rfl rfl)
theorem dX0_folded_121 : decode cX0_folded 121 = .ok (.iload 4, 2) := dk_21 4 (dk_at dksX0_folded_5 3 rfl rfl)
theorem dX0_folded_123 : decode cX0_folded 123 = .ok (.goto 5, 3) := dk_167 0 5 (dk_at dksX0_folded_5 5 rfl rfl)
theorem dX0_folded_126 : decode cX0_folded 126 = .ok (.iload 5, 2) := dk_21 5 (dk_at dksX0_folded_5 8 rfl rfl)
theorem dX0_folded_128 : decode cX0_folded 128 = .ok (.ireturn, 1) := dk_172 (dk_at dksX0_folded_5 10 rfl rfl)
abbrev cX0_fold : ByteArray := prog_1_method_49_code
def yX0_fold : MethodName := ⟨RX0, "fold", "(I)I"⟩
def dkwX0_fold_0 : List UInt8 := [26, 26, 184, 1, 136, 108, 7, 112, 4, 160, 0, 7, 4, 167, 0, 4, 3, 172]
abbrev dktX0_fold_0 : List UInt8 := dkwX0_fold_0 ++ []
theorem dksX0_fold_0 : cX0_fold.data.toList.drop 0 = dktX0_fold_0 := by decide +kernel
theorem dX0_fold_0 : decode cX0_fold 0 = .ok (.iload_n 0, 1) := dk_26 (dk_at dksX0_fold_0 0 rfl rfl)
theorem dX0_fold_1 : decode cX0_fold 1 = .ok (.iload_n 0, 1) := dk_26 (dk_at dksX0_fold_0 1 rfl rfl)
theorem dX0_fold_2 : decode cX0_fold 2 = .ok (.invokestatic 392, 3) := dk_184 1 136 (dk_at dksX0_fold_0 2 rfl rfl)
theorem dX0_fold_5 : decode cX0_fold 5 = .ok (.idiv, 1) := dk_108 (dk_at dksX0_fold_0 5 rfl rfl)
theorem dX0_fold_6 : decode cX0_fold 6 = .ok (.iconst 4, 1) := dk_7 (dk_at dksX0_fold_0 6 rfl rfl)
theorem dX0_fold_7 : decode cX0_fold 7 = .ok (.irem, 1) := dk_112 (dk_at dksX0_fold_0 7 rfl rfl)
theorem dX0_fold_8 : decode cX0_fold 8 = .ok (.iconst 1, 1) := dk_4 (dk_at dksX0_fold_0 8 rfl rfl)
theorem dX0_fold_9 : decode cX0_fold 9 = .ok (.if_icmp .ne 7, 3) := dk_160 0 7 (dk_at dksX0_fold_0 9 rfl rfl)
theorem dX0_fold_12 : decode cX0_fold 12 = .ok (.iconst 1, 1) := dk_4 (dk_at dksX0_fold_0 12 rfl rfl)
theorem dX0_fold_13 : decode cX0_fold 13 = .ok (.goto 4, 3) := dk_167 0 4 (dk_at dksX0_fold_0 13 rfl rfl)
theorem dX0_fold_16 : decode cX0_fold 16 = .ok (.iconst 0, 1) := dk_3 (dk_at dksX0_fold_0 16 rfl rfl)
theorem dX0_fold_17 : decode cX0_fold 17 = .ok (.ireturn, 1) := dk_172 (dk_at dksX0_fold_0 17 rfl rfl)
abbrev cX0_duel : ByteArray := prog_1_method_52_code
def yX0_duel : MethodName := ⟨RX0, "duel", "(III)I"⟩
def dkwX0_duel_10 : List UInt8 := [96, 104, 16, 60, 96, 28, 96, 46, 172]
abbrev dktX0_duel_10 : List UInt8 := dkwX0_duel_10 ++ []
def dkwX0_duel_9 : List UInt8 := [182, 1, 145, 132, 7, 1, 167, 255, 177, 132, 6, 1, 167, 255, 142, 42, 180, 0, 56, 16, 121, 16, 60, 29]
abbrev dktX0_duel_9 : List UInt8 := dkwX0_duel_9 ++ dktX0_duel_10
def dkwX0_duel_8 : List UInt8 := [104, 182, 1, 145, 42, 42, 180, 0, 59, 21, 6, 46, 21, 8, 21, 5, 104, 21, 9, 21, 4, 104]
abbrev dktX0_duel_8 : List UInt8 := dkwX0_duel_8 ++ dktX0_duel_9
def dkwX0_duel_7 : List UInt8 := [4, 167, 0, 4, 2, 54, 9, 42, 42, 180, 0, 59, 21, 6, 46, 21, 8, 21, 4, 104, 21, 9, 21, 5]
abbrev dktX0_duel_7 : List UInt8 := dkwX0_duel_7 ++ dktX0_duel_8
def dkwX0_duel_6 : List UInt8 := [162, 0, 79, 21, 7, 5, 112, 154, 0, 7, 4, 167, 0, 4, 2, 54, 8, 21, 7, 5, 108, 154, 0, 7]
abbrev dktX0_duel_6 : List UInt8 := dkwX0_duel_6 ++ dktX0_duel_7
def dkwX0_duel_5 : List UInt8 := [42, 180, 0, 56, 42, 180, 0, 59, 21, 6, 46, 46, 16, 12, 162, 0, 94, 3, 54, 7, 21, 7, 7]
abbrev dktX0_duel_5 : List UInt8 := dkwX0_duel_5 ++ dktX0_duel_6
def dkwX0_duel_4 : List UInt8 := [180, 0, 59, 3, 46, 3, 79, 42, 4, 181, 1, 142, 3, 54, 6, 21, 6, 42, 180, 1, 142, 162, 0, 111]
abbrev dktX0_duel_4 : List UInt8 := dkwX0_duel_4 ++ dktX0_duel_5
def dkwX0_duel_3 : List UInt8 := [2, 79, 132, 6, 1, 167, 255, 235, 42, 180, 0, 59, 3, 17, 28, 152, 79, 42, 180, 0, 56, 42]
abbrev dktX0_duel_3 : List UInt8 := dkwX0_duel_3 ++ dktX0_duel_4
def dkwX0_duel_2 : List UInt8 := [154, 0, 5, 2, 172, 3, 54, 6, 21, 6, 42, 180, 0, 56, 190, 162, 0, 17, 42, 180, 0, 56, 21, 6]
abbrev dktX0_duel_2 : List UInt8 := dkwX0_duel_2 ++ dktX0_duel_3
def dkwX0_duel_1 : List UInt8 := [8, 163, 0, 25, 28, 16, 236, 16, 20, 184, 0, 110, 153, 0, 14, 29, 16, 236, 16, 20, 184, 0, 110]
abbrev dktX0_duel_1 : List UInt8 := dkwX0_duel_1 ++ dktX0_duel_2
def dkwX0_duel_0 : List UInt8 := [27, 16, 10, 108, 54, 4, 27, 16, 10, 112, 54, 5, 27, 4, 16, 55, 184, 0, 110, 153, 0, 31, 21, 5]
abbrev dktX0_duel_0 : List UInt8 := dkwX0_duel_0 ++ dktX0_duel_1
theorem dksX0_duel_0 : cX0_duel.data.toList.drop 0 = dktX0_duel_0 := by decide +kernel
theorem dksX0_duel_1 : cX0_duel.data.toList.drop 24 = dktX0_duel_1 := dk_seg dksX0_duel_0 24 rfl rfl
theorem dksX0_duel_2 : cX0_duel.data.toList.drop 47 = dktX0_duel_2 := dk_seg dksX0_duel_1 23 rfl rfl
theorem dksX0_duel_3 : cX0_duel.data.toList.drop 71 = dktX0_duel_3 := dk_seg dksX0_duel_2 24 rfl rfl
theorem dksX0_duel_4 : cX0_duel.data.toList.drop 93 = dktX0_duel_4 := dk_seg dksX0_duel_3 22 rfl rfl
theorem dksX0_duel_5 : cX0_duel.data.toList.drop 117 = dktX0_duel_5 := dk_seg dksX0_duel_4 24 rfl rfl
theorem dksX0_duel_6 : cX0_duel.data.toList.drop 140 = dktX0_duel_6 := dk_seg dksX0_duel_5 23 rfl rfl
theorem dksX0_duel_7 : cX0_duel.data.toList.drop 164 = dktX0_duel_7 := dk_seg dksX0_duel_6 24 rfl rfl
theorem dksX0_duel_8 : cX0_duel.data.toList.drop 188 = dktX0_duel_8 := dk_seg dksX0_duel_7 24 rfl rfl
theorem dksX0_duel_9 : cX0_duel.data.toList.drop 210 = dktX0_duel_9 := dk_seg dksX0_duel_8 22 rfl rfl
theorem dksX0_duel_10 : cX0_duel.data.toList.drop 234 = dktX0_duel_10 := dk_seg dksX0_duel_9 24 rfl rfl
theorem dX0_duel_0 : decode cX0_duel 0 = .ok (.iload_n 1, 1) := dk_27 (dk_at dksX0_duel_0 0 rfl rfl)
theorem dX0_duel_1 : decode cX0_duel 1 = .ok (.bipush 10, 2) := dk_16 10 (dk_at dksX0_duel_0 1 rfl rfl)
theorem dX0_duel_3 : decode cX0_duel 3 = .ok (.idiv, 1) := dk_108 (dk_at dksX0_duel_0 3 rfl rfl)
theorem dX0_duel_4 : decode cX0_duel 4 = .ok (.istore 4, 2) := dk_54 4 (dk_at dksX0_duel_0 4 rfl rfl)
theorem dX0_duel_6 : decode cX0_duel 6 = .ok (.iload_n 1, 1) := dk_27 (dk_at dksX0_duel_0 6 rfl rfl)
theorem dX0_duel_7 : decode cX0_duel 7 = .ok (.bipush 10, 2) := dk_16 10 (dk_at dksX0_duel_0 7 rfl rfl)
theorem dX0_duel_9 : decode cX0_duel 9 = .ok (.irem, 1) := dk_112 (dk_at dksX0_duel_0 9 rfl rfl)
theorem dX0_duel_10 : decode cX0_duel 10 = .ok (.istore 5, 2) := dk_54 5 (dk_at dksX0_duel_0 10 rfl rfl)
theorem dX0_duel_12 : decode cX0_duel 12 = .ok (.iload_n 1, 1) := dk_27 (dk_at dksX0_duel_0 12 rfl rfl)
theorem dX0_duel_13 : decode cX0_duel 13 = .ok (.iconst 1, 1) := dk_4 (dk_at dksX0_duel_0 13 rfl rfl)
theorem dX0_duel_14 : decode cX0_duel 14 = .ok (.bipush 55, 2) := dk_16 55 (dk_at dksX0_duel_0 14 rfl rfl)
theorem dX0_duel_16 : decode cX0_duel 16 = .ok (.invokestatic 110, 3) := dk_184 0 110 (dk_at dksX0_duel_0 16 rfl rfl)
theorem dX0_duel_19 : decode cX0_duel 19 = .ok (.ifCond .eq 31, 3) := dk_153 0 31 (dk_at dksX0_duel_0 19 rfl rfl)
theorem dX0_duel_22 : decode cX0_duel 22 = .ok (.iload 5, 2) := dk_21 5 (dk_at dksX0_duel_0 22 rfl rfl)
theorem dX0_duel_24 : decode cX0_duel 24 = .ok (.iconst 5, 1) := dk_8 (dk_at dksX0_duel_1 0 rfl rfl)
theorem dX0_duel_25 : decode cX0_duel 25 = .ok (.if_icmp .gt 25, 3) := dk_163 0 25 (dk_at dksX0_duel_1 1 rfl rfl)
theorem dX0_duel_28 : decode cX0_duel 28 = .ok (.iload_n 2, 1) := dk_28 (dk_at dksX0_duel_1 4 rfl rfl)
theorem dX0_duel_29 : decode cX0_duel 29 = .ok (.bipush (-20), 2) := dk_16 236 (dk_at dksX0_duel_1 5 rfl rfl)
theorem dX0_duel_31 : decode cX0_duel 31 = .ok (.bipush 20, 2) := dk_16 20 (dk_at dksX0_duel_1 7 rfl rfl)
theorem dX0_duel_33 : decode cX0_duel 33 = .ok (.invokestatic 110, 3) := dk_184 0 110 (dk_at dksX0_duel_1 9 rfl rfl)
theorem dX0_duel_36 : decode cX0_duel 36 = .ok (.ifCond .eq 14, 3) := dk_153 0 14 (dk_at dksX0_duel_1 12 rfl rfl)
theorem dX0_duel_39 : decode cX0_duel 39 = .ok (.iload_n 3, 1) := dk_29 (dk_at dksX0_duel_1 15 rfl rfl)
theorem dX0_duel_40 : decode cX0_duel 40 = .ok (.bipush (-20), 2) := dk_16 236 (dk_at dksX0_duel_1 16 rfl rfl)
theorem dX0_duel_42 : decode cX0_duel 42 = .ok (.bipush 20, 2) := dk_16 20 (dk_at dksX0_duel_1 18 rfl rfl)
theorem dX0_duel_44 : decode cX0_duel 44 = .ok (.invokestatic 110, 3) := dk_184 0 110 (dk_at dksX0_duel_1 20 rfl rfl)
theorem dX0_duel_47 : decode cX0_duel 47 = .ok (.ifCond .ne 5, 3) := dk_154 0 5 (dk_at dksX0_duel_2 0 rfl rfl)
theorem dX0_duel_50 : decode cX0_duel 50 = .ok (.iconst (-1), 1) := dk_2 (dk_at dksX0_duel_2 3 rfl rfl)
theorem dX0_duel_51 : decode cX0_duel 51 = .ok (.ireturn, 1) := dk_172 (dk_at dksX0_duel_2 4 rfl rfl)
theorem dX0_duel_52 : decode cX0_duel 52 = .ok (.iconst 0, 1) := dk_3 (dk_at dksX0_duel_2 5 rfl rfl)
theorem dX0_duel_53 : decode cX0_duel 53 = .ok (.istore 6, 2) := dk_54 6 (dk_at dksX0_duel_2 6 rfl rfl)
theorem dX0_duel_55 : decode cX0_duel 55 = .ok (.iload 6, 2) := dk_21 6 (dk_at dksX0_duel_2 8 rfl rfl)
theorem dX0_duel_57 : decode cX0_duel 57 = .ok (.aload_n 0, 1) := dk_42 (dk_at dksX0_duel_2 10 rfl rfl)
theorem dX0_duel_58 : decode cX0_duel 58 = .ok (.getfield 56, 3) := dk_180 0 56 (dk_at dksX0_duel_2 11 rfl rfl)
theorem dX0_duel_61 : decode cX0_duel 61 = .ok (.arraylength, 1) := dk_190 (dk_at dksX0_duel_2 14 rfl rfl)
theorem dX0_duel_62 : decode cX0_duel 62 = .ok (.if_icmp .ge 17, 3) := dk_162 0 17 (dk_at dksX0_duel_2 15 rfl rfl)
theorem dX0_duel_65 : decode cX0_duel 65 = .ok (.aload_n 0, 1) := dk_42 (dk_at dksX0_duel_2 18 rfl rfl)
theorem dX0_duel_66 : decode cX0_duel 66 = .ok (.getfield 56, 3) := dk_180 0 56 (dk_at dksX0_duel_2 19 rfl rfl)
theorem dX0_duel_69 : decode cX0_duel 69 = .ok (.iload 6, 2) := dk_21 6 (dk_at dksX0_duel_2 22 rfl rfl)
theorem dX0_duel_71 : decode cX0_duel 71 = .ok (.iconst (-1), 1) := dk_2 (dk_at dksX0_duel_3 0 rfl rfl)
theorem dX0_duel_72 : decode cX0_duel 72 = .ok (.iastore, 1) := dk_79 (dk_at dksX0_duel_3 1 rfl rfl)
theorem dX0_duel_73 : decode cX0_duel 73 = .ok (.iinc 6 1, 3) := dk_132 6 1 (dk_at dksX0_duel_3 2 rfl rfl)
theorem dX0_duel_76 : decode cX0_duel 76 = .ok (.goto (-21), 3) := dk_167 255 235 (dk_at dksX0_duel_3 5 rfl rfl)
theorem dX0_duel_79 : decode cX0_duel 79 = .ok (.aload_n 0, 1) := dk_42 (dk_at dksX0_duel_3 8 rfl rfl)
theorem dX0_duel_80 : decode cX0_duel 80 = .ok (.getfield 59, 3) := dk_180 0 59 (dk_at dksX0_duel_3 9 rfl rfl)
theorem dX0_duel_83 : decode cX0_duel 83 = .ok (.iconst 0, 1) := dk_3 (dk_at dksX0_duel_3 12 rfl rfl)
theorem dX0_duel_84 : decode cX0_duel 84 = .ok (.sipush 7320, 3) := dk_17 28 152 (dk_at dksX0_duel_3 13 rfl rfl)
theorem dX0_duel_87 : decode cX0_duel 87 = .ok (.iastore, 1) := dk_79 (dk_at dksX0_duel_3 16 rfl rfl)
theorem dX0_duel_88 : decode cX0_duel 88 = .ok (.aload_n 0, 1) := dk_42 (dk_at dksX0_duel_3 17 rfl rfl)
theorem dX0_duel_89 : decode cX0_duel 89 = .ok (.getfield 56, 3) := dk_180 0 56 (dk_at dksX0_duel_3 18 rfl rfl)
theorem dX0_duel_92 : decode cX0_duel 92 = .ok (.aload_n 0, 1) := dk_42 (dk_at dksX0_duel_3 21 rfl rfl)
theorem dX0_duel_93 : decode cX0_duel 93 = .ok (.getfield 59, 3) := dk_180 0 59 (dk_at dksX0_duel_4 0 rfl rfl)
theorem dX0_duel_96 : decode cX0_duel 96 = .ok (.iconst 0, 1) := dk_3 (dk_at dksX0_duel_4 3 rfl rfl)
theorem dX0_duel_97 : decode cX0_duel 97 = .ok (.iaload, 1) := dk_46 (dk_at dksX0_duel_4 4 rfl rfl)
theorem dX0_duel_98 : decode cX0_duel 98 = .ok (.iconst 0, 1) := dk_3 (dk_at dksX0_duel_4 5 rfl rfl)
theorem dX0_duel_99 : decode cX0_duel 99 = .ok (.iastore, 1) := dk_79 (dk_at dksX0_duel_4 6 rfl rfl)
theorem dX0_duel_100 : decode cX0_duel 100 = .ok (.aload_n 0, 1) := dk_42 (dk_at dksX0_duel_4 7 rfl rfl)
theorem dX0_duel_101 : decode cX0_duel 101 = .ok (.iconst 1, 1) := dk_4 (dk_at dksX0_duel_4 8 rfl rfl)
theorem dX0_duel_102 : decode cX0_duel 102 = .ok (.putfield 398, 3) := dk_181 1 142 (dk_at dksX0_duel_4 9 rfl rfl)
theorem dX0_duel_105 : decode cX0_duel 105 = .ok (.iconst 0, 1) := dk_3 (dk_at dksX0_duel_4 12 rfl rfl)
theorem dX0_duel_106 : decode cX0_duel 106 = .ok (.istore 6, 2) := dk_54 6 (dk_at dksX0_duel_4 13 rfl rfl)
theorem dX0_duel_108 : decode cX0_duel 108 = .ok (.iload 6, 2) := dk_21 6 (dk_at dksX0_duel_4 15 rfl rfl)
theorem dX0_duel_110 : decode cX0_duel 110 = .ok (.aload_n 0, 1) := dk_42 (dk_at dksX0_duel_4 17 rfl rfl)
theorem dX0_duel_111 : decode cX0_duel 111 = .ok (.getfield 398, 3) := dk_180 1 142 (dk_at dksX0_duel_4 18 rfl rfl)
theorem dX0_duel_114 : decode cX0_duel 114 = .ok (.if_icmp .ge 111, 3) := dk_162 0 111 (dk_at dksX0_duel_4 21 rfl rfl)
theorem dX0_duel_117 : decode cX0_duel 117 = .ok (.aload_n 0, 1) := dk_42 (dk_at dksX0_duel_5 0 rfl rfl)
theorem dX0_duel_118 : decode cX0_duel 118 = .ok (.getfield 56, 3) := dk_180 0 56 (dk_at dksX0_duel_5 1 rfl rfl)
theorem dX0_duel_121 : decode cX0_duel 121 = .ok (.aload_n 0, 1) := dk_42 (dk_at dksX0_duel_5 4 rfl rfl)
theorem dX0_duel_122 : decode cX0_duel 122 = .ok (.getfield 59, 3) := dk_180 0 59 (dk_at dksX0_duel_5 5 rfl rfl)
theorem dX0_duel_125 : decode cX0_duel 125 = .ok (.iload 6, 2) := dk_21 6 (dk_at dksX0_duel_5 8 rfl rfl)
theorem dX0_duel_127 : decode cX0_duel 127 = .ok (.iaload, 1) := dk_46 (dk_at dksX0_duel_5 10 rfl rfl)
theorem dX0_duel_128 : decode cX0_duel 128 = .ok (.iaload, 1) := dk_46 (dk_at dksX0_duel_5 11 rfl rfl)
theorem dX0_duel_129 : decode cX0_duel 129 = .ok (.bipush 12, 2) := dk_16 12 (dk_at dksX0_duel_5 12 rfl rfl)
theorem dX0_duel_131 : decode cX0_duel 131 = .ok (.if_icmp .ge 94, 3) := dk_162 0 94 (dk_at dksX0_duel_5 14 rfl rfl)
theorem dX0_duel_134 : decode cX0_duel 134 = .ok (.iconst 0, 1) := dk_3 (dk_at dksX0_duel_5 17 rfl rfl)
theorem dX0_duel_135 : decode cX0_duel 135 = .ok (.istore 7, 2) := dk_54 7 (dk_at dksX0_duel_5 18 rfl rfl)
theorem dX0_duel_137 : decode cX0_duel 137 = .ok (.iload 7, 2) := dk_21 7 (dk_at dksX0_duel_5 20 rfl rfl)
theorem dX0_duel_139 : decode cX0_duel 139 = .ok (.iconst 4, 1) := dk_7 (dk_at dksX0_duel_5 22 rfl rfl)
theorem dX0_duel_140 : decode cX0_duel 140 = .ok (.if_icmp .ge 79, 3) := dk_162 0 79 (dk_at dksX0_duel_6 0 rfl rfl)
theorem dX0_duel_143 : decode cX0_duel 143 = .ok (.iload 7, 2) := dk_21 7 (dk_at dksX0_duel_6 3 rfl rfl)
theorem dX0_duel_145 : decode cX0_duel 145 = .ok (.iconst 2, 1) := dk_5 (dk_at dksX0_duel_6 5 rfl rfl)
theorem dX0_duel_146 : decode cX0_duel 146 = .ok (.irem, 1) := dk_112 (dk_at dksX0_duel_6 6 rfl rfl)
theorem dX0_duel_147 : decode cX0_duel 147 = .ok (.ifCond .ne 7, 3) := dk_154 0 7 (dk_at dksX0_duel_6 7 rfl rfl)
theorem dX0_duel_150 : decode cX0_duel 150 = .ok (.iconst 1, 1) := dk_4 (dk_at dksX0_duel_6 10 rfl rfl)
theorem dX0_duel_151 : decode cX0_duel 151 = .ok (.goto 4, 3) := dk_167 0 4 (dk_at dksX0_duel_6 11 rfl rfl)
theorem dX0_duel_154 : decode cX0_duel 154 = .ok (.iconst (-1), 1) := dk_2 (dk_at dksX0_duel_6 14 rfl rfl)
theorem dX0_duel_155 : decode cX0_duel 155 = .ok (.istore 8, 2) := dk_54 8 (dk_at dksX0_duel_6 15 rfl rfl)
theorem dX0_duel_157 : decode cX0_duel 157 = .ok (.iload 7, 2) := dk_21 7 (dk_at dksX0_duel_6 17 rfl rfl)
theorem dX0_duel_159 : decode cX0_duel 159 = .ok (.iconst 2, 1) := dk_5 (dk_at dksX0_duel_6 19 rfl rfl)
theorem dX0_duel_160 : decode cX0_duel 160 = .ok (.idiv, 1) := dk_108 (dk_at dksX0_duel_6 20 rfl rfl)
theorem dX0_duel_161 : decode cX0_duel 161 = .ok (.ifCond .ne 7, 3) := dk_154 0 7 (dk_at dksX0_duel_6 21 rfl rfl)
theorem dX0_duel_164 : decode cX0_duel 164 = .ok (.iconst 1, 1) := dk_4 (dk_at dksX0_duel_7 0 rfl rfl)
theorem dX0_duel_165 : decode cX0_duel 165 = .ok (.goto 4, 3) := dk_167 0 4 (dk_at dksX0_duel_7 1 rfl rfl)
theorem dX0_duel_168 : decode cX0_duel 168 = .ok (.iconst (-1), 1) := dk_2 (dk_at dksX0_duel_7 4 rfl rfl)
theorem dX0_duel_169 : decode cX0_duel 169 = .ok (.istore 9, 2) := dk_54 9 (dk_at dksX0_duel_7 5 rfl rfl)
theorem dX0_duel_171 : decode cX0_duel 171 = .ok (.aload_n 0, 1) := dk_42 (dk_at dksX0_duel_7 7 rfl rfl)
theorem dX0_duel_172 : decode cX0_duel 172 = .ok (.aload_n 0, 1) := dk_42 (dk_at dksX0_duel_7 8 rfl rfl)
theorem dX0_duel_173 : decode cX0_duel 173 = .ok (.getfield 59, 3) := dk_180 0 59 (dk_at dksX0_duel_7 9 rfl rfl)
theorem dX0_duel_176 : decode cX0_duel 176 = .ok (.iload 6, 2) := dk_21 6 (dk_at dksX0_duel_7 12 rfl rfl)
theorem dX0_duel_178 : decode cX0_duel 178 = .ok (.iaload, 1) := dk_46 (dk_at dksX0_duel_7 14 rfl rfl)
theorem dX0_duel_179 : decode cX0_duel 179 = .ok (.iload 8, 2) := dk_21 8 (dk_at dksX0_duel_7 15 rfl rfl)
theorem dX0_duel_181 : decode cX0_duel 181 = .ok (.iload 4, 2) := dk_21 4 (dk_at dksX0_duel_7 17 rfl rfl)
theorem dX0_duel_183 : decode cX0_duel 183 = .ok (.imul, 1) := dk_104 (dk_at dksX0_duel_7 19 rfl rfl)
theorem dX0_duel_184 : decode cX0_duel 184 = .ok (.iload 9, 2) := dk_21 9 (dk_at dksX0_duel_7 20 rfl rfl)
theorem dX0_duel_186 : decode cX0_duel 186 = .ok (.iload 5, 2) := dk_21 5 (dk_at dksX0_duel_7 22 rfl rfl)
theorem dX0_duel_188 : decode cX0_duel 188 = .ok (.imul, 1) := dk_104 (dk_at dksX0_duel_8 0 rfl rfl)
theorem dX0_duel_189 : decode cX0_duel 189 = .ok (.invokevirtual 401, 3) := dk_182 1 145 (dk_at dksX0_duel_8 1 rfl rfl)
theorem dX0_duel_192 : decode cX0_duel 192 = .ok (.aload_n 0, 1) := dk_42 (dk_at dksX0_duel_8 4 rfl rfl)
theorem dX0_duel_193 : decode cX0_duel 193 = .ok (.aload_n 0, 1) := dk_42 (dk_at dksX0_duel_8 5 rfl rfl)
theorem dX0_duel_194 : decode cX0_duel 194 = .ok (.getfield 59, 3) := dk_180 0 59 (dk_at dksX0_duel_8 6 rfl rfl)
theorem dX0_duel_197 : decode cX0_duel 197 = .ok (.iload 6, 2) := dk_21 6 (dk_at dksX0_duel_8 9 rfl rfl)
theorem dX0_duel_199 : decode cX0_duel 199 = .ok (.iaload, 1) := dk_46 (dk_at dksX0_duel_8 11 rfl rfl)
theorem dX0_duel_200 : decode cX0_duel 200 = .ok (.iload 8, 2) := dk_21 8 (dk_at dksX0_duel_8 12 rfl rfl)
theorem dX0_duel_202 : decode cX0_duel 202 = .ok (.iload 5, 2) := dk_21 5 (dk_at dksX0_duel_8 14 rfl rfl)
theorem dX0_duel_204 : decode cX0_duel 204 = .ok (.imul, 1) := dk_104 (dk_at dksX0_duel_8 16 rfl rfl)
theorem dX0_duel_205 : decode cX0_duel 205 = .ok (.iload 9, 2) := dk_21 9 (dk_at dksX0_duel_8 17 rfl rfl)
theorem dX0_duel_207 : decode cX0_duel 207 = .ok (.iload 4, 2) := dk_21 4 (dk_at dksX0_duel_8 19 rfl rfl)
theorem dX0_duel_209 : decode cX0_duel 209 = .ok (.imul, 1) := dk_104 (dk_at dksX0_duel_8 21 rfl rfl)
theorem dX0_duel_210 : decode cX0_duel 210 = .ok (.invokevirtual 401, 3) := dk_182 1 145 (dk_at dksX0_duel_9 0 rfl rfl)
theorem dX0_duel_213 : decode cX0_duel 213 = .ok (.iinc 7 1, 3) := dk_132 7 1 (dk_at dksX0_duel_9 3 rfl rfl)
theorem dX0_duel_216 : decode cX0_duel 216 = .ok (.goto (-79), 3) := dk_167 255 177 (dk_at dksX0_duel_9 6 rfl rfl)
theorem dX0_duel_219 : decode cX0_duel 219 = .ok (.iinc 6 1, 3) := dk_132 6 1 (dk_at dksX0_duel_9 9 rfl rfl)
theorem dX0_duel_222 : decode cX0_duel 222 = .ok (.goto (-114), 3) := dk_167 255 142 (dk_at dksX0_duel_9 12 rfl rfl)
theorem dX0_duel_225 : decode cX0_duel 225 = .ok (.aload_n 0, 1) := dk_42 (dk_at dksX0_duel_9 15 rfl rfl)
theorem dX0_duel_226 : decode cX0_duel 226 = .ok (.getfield 56, 3) := dk_180 0 56 (dk_at dksX0_duel_9 16 rfl rfl)
theorem dX0_duel_229 : decode cX0_duel 229 = .ok (.bipush 121, 2) := dk_16 121 (dk_at dksX0_duel_9 19 rfl rfl)
theorem dX0_duel_231 : decode cX0_duel 231 = .ok (.bipush 60, 2) := dk_16 60 (dk_at dksX0_duel_9 21 rfl rfl)
theorem dX0_duel_233 : decode cX0_duel 233 = .ok (.iload_n 3, 1) := dk_29 (dk_at dksX0_duel_9 23 rfl rfl)
theorem dX0_duel_234 : decode cX0_duel 234 = .ok (.iadd, 1) := dk_96 (dk_at dksX0_duel_10 0 rfl rfl)
theorem dX0_duel_235 : decode cX0_duel 235 = .ok (.imul, 1) := dk_104 (dk_at dksX0_duel_10 1 rfl rfl)
theorem dX0_duel_236 : decode cX0_duel 236 = .ok (.bipush 60, 2) := dk_16 60 (dk_at dksX0_duel_10 2 rfl rfl)
theorem dX0_duel_238 : decode cX0_duel 238 = .ok (.iadd, 1) := dk_96 (dk_at dksX0_duel_10 4 rfl rfl)
theorem dX0_duel_239 : decode cX0_duel 239 = .ok (.iload_n 2, 1) := dk_28 (dk_at dksX0_duel_10 5 rfl rfl)
theorem dX0_duel_240 : decode cX0_duel 240 = .ok (.iadd, 1) := dk_96 (dk_at dksX0_duel_10 6 rfl rfl)
theorem dX0_duel_241 : decode cX0_duel 241 = .ok (.iaload, 1) := dk_46 (dk_at dksX0_duel_10 7 rfl rfl)
theorem dX0_duel_242 : decode cX0_duel 242 = .ok (.ireturn, 1) := dk_172 (dk_at dksX0_duel_10 8 rfl rfl)
abbrev cX0_paces : ByteArray := prog_1_method_51_code
def yX0_paces : MethodName := ⟨RX0, "paces", "(III)V"⟩
def dkwX0_paces_4 : List UInt8 := [79, 42, 89, 180, 1, 142, 4, 96, 181, 1, 142, 177]
abbrev dktX0_paces_4 : List UInt8 := dkwX0_paces_4 ++ []
def dkwX0_paces_3 : List UInt8 := [180, 0, 56, 27, 46, 4, 96, 79, 42, 180, 0, 59, 42, 180, 1, 142, 16, 121, 21, 5, 104, 21, 4, 96]
abbrev dktX0_paces_3 : List UInt8 := dkwX0_paces_3 ++ dktX0_paces_4
def dkwX0_paces_2 : List UInt8 := [21, 4, 96, 46, 2, 159, 0, 4, 177, 42, 180, 0, 56, 16, 121, 21, 5, 104, 21, 4, 96, 42]
abbrev dktX0_paces_2 : List UInt8 := dkwX0_paces_2 ++ dktX0_paces_3
def dkwX0_paces_1 : List UInt8 := [153, 0, 31, 21, 5, 3, 16, 120, 184, 0, 110, 153, 0, 20, 42, 180, 0, 56, 16, 121, 21, 5, 104]
abbrev dktX0_paces_1 : List UInt8 := dkwX0_paces_1 ++ dktX0_paces_2
def dkwX0_paces_0 : List UInt8 := [27, 16, 121, 112, 28, 96, 54, 4, 27, 16, 121, 108, 29, 96, 54, 5, 21, 4, 3, 16, 120, 184, 0, 110]
abbrev dktX0_paces_0 : List UInt8 := dkwX0_paces_0 ++ dktX0_paces_1
theorem dksX0_paces_0 : cX0_paces.data.toList.drop 0 = dktX0_paces_0 := by decide +kernel
theorem dksX0_paces_1 : cX0_paces.data.toList.drop 24 = dktX0_paces_1 := dk_seg dksX0_paces_0 24 rfl rfl
theorem dksX0_paces_2 : cX0_paces.data.toList.drop 47 = dktX0_paces_2 := dk_seg dksX0_paces_1 23 rfl rfl
theorem dksX0_paces_3 : cX0_paces.data.toList.drop 69 = dktX0_paces_3 := dk_seg dksX0_paces_2 22 rfl rfl
theorem dksX0_paces_4 : cX0_paces.data.toList.drop 93 = dktX0_paces_4 := dk_seg dksX0_paces_3 24 rfl rfl
theorem dX0_paces_0 : decode cX0_paces 0 = .ok (.iload_n 1, 1) := dk_27 (dk_at dksX0_paces_0 0 rfl rfl)
theorem dX0_paces_1 : decode cX0_paces 1 = .ok (.bipush 121, 2) := dk_16 121 (dk_at dksX0_paces_0 1 rfl rfl)
theorem dX0_paces_3 : decode cX0_paces 3 = .ok (.irem, 1) := dk_112 (dk_at dksX0_paces_0 3 rfl rfl)
theorem dX0_paces_4 : decode cX0_paces 4 = .ok (.iload_n 2, 1) := dk_28 (dk_at dksX0_paces_0 4 rfl rfl)
theorem dX0_paces_5 : decode cX0_paces 5 = .ok (.iadd, 1) := dk_96 (dk_at dksX0_paces_0 5 rfl rfl)
theorem dX0_paces_6 : decode cX0_paces 6 = .ok (.istore 4, 2) := dk_54 4 (dk_at dksX0_paces_0 6 rfl rfl)
theorem dX0_paces_8 : decode cX0_paces 8 = .ok (.iload_n 1, 1) := dk_27 (dk_at dksX0_paces_0 8 rfl rfl)
theorem dX0_paces_9 : decode cX0_paces 9 = .ok (.bipush 121, 2) := dk_16 121 (dk_at dksX0_paces_0 9 rfl rfl)
theorem dX0_paces_11 : decode cX0_paces 11 = .ok (.idiv, 1) := dk_108 (dk_at dksX0_paces_0 11 rfl rfl)
theorem dX0_paces_12 : decode cX0_paces 12 = .ok (.iload_n 3, 1) := dk_29 (dk_at dksX0_paces_0 12 rfl rfl)
theorem dX0_paces_13 : decode cX0_paces 13 = .ok (.iadd, 1) := dk_96 (dk_at dksX0_paces_0 13 rfl rfl)
theorem dX0_paces_14 : decode cX0_paces 14 = .ok (.istore 5, 2) := dk_54 5 (dk_at dksX0_paces_0 14 rfl rfl)
theorem dX0_paces_16 : decode cX0_paces 16 = .ok (.iload 4, 2) := dk_21 4 (dk_at dksX0_paces_0 16 rfl rfl)
theorem dX0_paces_18 : decode cX0_paces 18 = .ok (.iconst 0, 1) := dk_3 (dk_at dksX0_paces_0 18 rfl rfl)
theorem dX0_paces_19 : decode cX0_paces 19 = .ok (.bipush 120, 2) := dk_16 120 (dk_at dksX0_paces_0 19 rfl rfl)
theorem dX0_paces_21 : decode cX0_paces 21 = .ok (.invokestatic 110, 3) := dk_184 0 110 (dk_at dksX0_paces_0 21 rfl rfl)
theorem dX0_paces_24 : decode cX0_paces 24 = .ok (.ifCond .eq 31, 3) := dk_153 0 31 (dk_at dksX0_paces_1 0 rfl rfl)
theorem dX0_paces_27 : decode cX0_paces 27 = .ok (.iload 5, 2) := dk_21 5 (dk_at dksX0_paces_1 3 rfl rfl)
theorem dX0_paces_29 : decode cX0_paces 29 = .ok (.iconst 0, 1) := dk_3 (dk_at dksX0_paces_1 5 rfl rfl)
theorem dX0_paces_30 : decode cX0_paces 30 = .ok (.bipush 120, 2) := dk_16 120 (dk_at dksX0_paces_1 6 rfl rfl)
theorem dX0_paces_32 : decode cX0_paces 32 = .ok (.invokestatic 110, 3) := dk_184 0 110 (dk_at dksX0_paces_1 8 rfl rfl)
theorem dX0_paces_35 : decode cX0_paces 35 = .ok (.ifCond .eq 20, 3) := dk_153 0 20 (dk_at dksX0_paces_1 11 rfl rfl)
theorem dX0_paces_38 : decode cX0_paces 38 = .ok (.aload_n 0, 1) := dk_42 (dk_at dksX0_paces_1 14 rfl rfl)
theorem dX0_paces_39 : decode cX0_paces 39 = .ok (.getfield 56, 3) := dk_180 0 56 (dk_at dksX0_paces_1 15 rfl rfl)
theorem dX0_paces_42 : decode cX0_paces 42 = .ok (.bipush 121, 2) := dk_16 121 (dk_at dksX0_paces_1 18 rfl rfl)
theorem dX0_paces_44 : decode cX0_paces 44 = .ok (.iload 5, 2) := dk_21 5 (dk_at dksX0_paces_1 20 rfl rfl)
theorem dX0_paces_46 : decode cX0_paces 46 = .ok (.imul, 1) := dk_104 (dk_at dksX0_paces_1 22 rfl rfl)
theorem dX0_paces_47 : decode cX0_paces 47 = .ok (.iload 4, 2) := dk_21 4 (dk_at dksX0_paces_2 0 rfl rfl)
theorem dX0_paces_49 : decode cX0_paces 49 = .ok (.iadd, 1) := dk_96 (dk_at dksX0_paces_2 2 rfl rfl)
theorem dX0_paces_50 : decode cX0_paces 50 = .ok (.iaload, 1) := dk_46 (dk_at dksX0_paces_2 3 rfl rfl)
theorem dX0_paces_51 : decode cX0_paces 51 = .ok (.iconst (-1), 1) := dk_2 (dk_at dksX0_paces_2 4 rfl rfl)
theorem dX0_paces_52 : decode cX0_paces 52 = .ok (.if_icmp .eq 4, 3) := dk_159 0 4 (dk_at dksX0_paces_2 5 rfl rfl)
theorem dX0_paces_55 : decode cX0_paces 55 = .ok (.return_, 1) := dk_177 (dk_at dksX0_paces_2 8 rfl rfl)
theorem dX0_paces_56 : decode cX0_paces 56 = .ok (.aload_n 0, 1) := dk_42 (dk_at dksX0_paces_2 9 rfl rfl)
theorem dX0_paces_57 : decode cX0_paces 57 = .ok (.getfield 56, 3) := dk_180 0 56 (dk_at dksX0_paces_2 10 rfl rfl)
theorem dX0_paces_60 : decode cX0_paces 60 = .ok (.bipush 121, 2) := dk_16 121 (dk_at dksX0_paces_2 13 rfl rfl)
theorem dX0_paces_62 : decode cX0_paces 62 = .ok (.iload 5, 2) := dk_21 5 (dk_at dksX0_paces_2 15 rfl rfl)
theorem dX0_paces_64 : decode cX0_paces 64 = .ok (.imul, 1) := dk_104 (dk_at dksX0_paces_2 17 rfl rfl)
theorem dX0_paces_65 : decode cX0_paces 65 = .ok (.iload 4, 2) := dk_21 4 (dk_at dksX0_paces_2 18 rfl rfl)
theorem dX0_paces_67 : decode cX0_paces 67 = .ok (.iadd, 1) := dk_96 (dk_at dksX0_paces_2 20 rfl rfl)
theorem dX0_paces_68 : decode cX0_paces 68 = .ok (.aload_n 0, 1) := dk_42 (dk_at dksX0_paces_2 21 rfl rfl)
theorem dX0_paces_69 : decode cX0_paces 69 = .ok (.getfield 56, 3) := dk_180 0 56 (dk_at dksX0_paces_3 0 rfl rfl)
theorem dX0_paces_72 : decode cX0_paces 72 = .ok (.iload_n 1, 1) := dk_27 (dk_at dksX0_paces_3 3 rfl rfl)
theorem dX0_paces_73 : decode cX0_paces 73 = .ok (.iaload, 1) := dk_46 (dk_at dksX0_paces_3 4 rfl rfl)
theorem dX0_paces_74 : decode cX0_paces 74 = .ok (.iconst 1, 1) := dk_4 (dk_at dksX0_paces_3 5 rfl rfl)
theorem dX0_paces_75 : decode cX0_paces 75 = .ok (.iadd, 1) := dk_96 (dk_at dksX0_paces_3 6 rfl rfl)
theorem dX0_paces_76 : decode cX0_paces 76 = .ok (.iastore, 1) := dk_79 (dk_at dksX0_paces_3 7 rfl rfl)
theorem dX0_paces_77 : decode cX0_paces 77 = .ok (.aload_n 0, 1) := dk_42 (dk_at dksX0_paces_3 8 rfl rfl)
theorem dX0_paces_78 : decode cX0_paces 78 = .ok (.getfield 59, 3) := dk_180 0 59 (dk_at dksX0_paces_3 9 rfl rfl)
theorem dX0_paces_81 : decode cX0_paces 81 = .ok (.aload_n 0, 1) := dk_42 (dk_at dksX0_paces_3 12 rfl rfl)
theorem dX0_paces_82 : decode cX0_paces 82 = .ok (.getfield 398, 3) := dk_180 1 142 (dk_at dksX0_paces_3 13 rfl rfl)
theorem dX0_paces_85 : decode cX0_paces 85 = .ok (.bipush 121, 2) := dk_16 121 (dk_at dksX0_paces_3 16 rfl rfl)
theorem dX0_paces_87 : decode cX0_paces 87 = .ok (.iload 5, 2) := dk_21 5 (dk_at dksX0_paces_3 18 rfl rfl)
theorem dX0_paces_89 : decode cX0_paces 89 = .ok (.imul, 1) := dk_104 (dk_at dksX0_paces_3 20 rfl rfl)
theorem dX0_paces_90 : decode cX0_paces 90 = .ok (.iload 4, 2) := dk_21 4 (dk_at dksX0_paces_3 21 rfl rfl)
theorem dX0_paces_92 : decode cX0_paces 92 = .ok (.iadd, 1) := dk_96 (dk_at dksX0_paces_3 23 rfl rfl)
theorem dX0_paces_93 : decode cX0_paces 93 = .ok (.iastore, 1) := dk_79 (dk_at dksX0_paces_4 0 rfl rfl)
theorem dX0_paces_94 : decode cX0_paces 94 = .ok (.aload_n 0, 1) := dk_42 (dk_at dksX0_paces_4 1 rfl rfl)
theorem dX0_paces_95 : decode cX0_paces 95 = .ok (.dup, 1) := dk_89 (dk_at dksX0_paces_4 2 rfl rfl)
theorem dX0_paces_96 : decode cX0_paces 96 = .ok (.getfield 398, 3) := dk_180 1 142 (dk_at dksX0_paces_4 3 rfl rfl)
theorem dX0_paces_99 : decode cX0_paces 99 = .ok (.iconst 1, 1) := dk_4 (dk_at dksX0_paces_4 6 rfl rfl)
theorem dX0_paces_100 : decode cX0_paces 100 = .ok (.iadd, 1) := dk_96 (dk_at dksX0_paces_4 7 rfl rfl)
theorem dX0_paces_101 : decode cX0_paces 101 = .ok (.putfield 398, 3) := dk_181 1 142 (dk_at dksX0_paces_4 8 rfl rfl)
theorem dX0_paces_104 : decode cX0_paces 104 = .ok (.return_, 1) := dk_177 (dk_at dksX0_paces_4 11 rfl rfl)
abbrev cX0_ant : ByteArray := prog_1_method_53_code
def yX0_ant : MethodName := ⟨RX0, "ant", "(II)I"⟩
def dkwX0_ant_9 : List UInt8 := [172]
abbrev dktX0_ant_9 : List UInt8 := dkwX0_ant_9 ++ []
def dkwX0_ant_8 : List UInt8 := [167, 0, 24, 28, 4, 160, 0, 7, 29, 167, 0, 15, 28, 5, 160, 0, 8, 21, 4, 167, 0, 5, 21, 7]
abbrev dktX0_ant_8 : List UInt8 := dkwX0_ant_8 ++ dktX0_ant_9
def dkwX0_ant_7 : List UInt8 := [96, 62, 21, 4, 21, 5, 184, 0, 118, 96, 54, 4, 132, 8, 1, 167, 255, 141, 28, 154, 0, 8, 21, 6]
abbrev dktX0_ant_7 : List UInt8 := dkwX0_ant_7 ++ dktX0_ant_8
def dkwX0_ant_6 : List UInt8 := [154, 0, 7, 4, 167, 0, 4, 3, 84, 21, 7, 21, 6, 184, 0, 107, 54, 7, 29, 21, 5, 184, 0, 114]
abbrev dktX0_ant_6 : List UInt8 := dkwX0_ant_6 ++ dktX0_ant_7
def dkwX0_ant_5 : List UInt8 := [153, 0, 7, 2, 167, 0, 4, 4, 96, 54, 6, 42, 180, 0, 62, 21, 9, 42, 180, 0, 62, 21, 9, 51]
abbrev dktX0_ant_5 : List UInt8 := dkwX0_ant_5 ++ dktX0_ant_6
def dkwX0_ant_4 : List UInt8 := [153, 0, 7, 6, 167, 0, 4, 4, 96, 7, 112, 54, 5, 21, 6, 42, 180, 0, 62, 21, 9, 51]
abbrev dktX0_ant_4 : List UInt8 := dkwX0_ant_4 ++ dktX0_ant_5
def dkwX0_ant_3 : List UInt8 := [16, 121, 21, 4, 16, 60, 96, 104, 29, 96, 16, 60, 96, 54, 9, 21, 5, 42, 180, 0, 62, 21, 9, 51]
abbrev dktX0_ant_3 : List UInt8 := dkwX0_ant_3 ++ dktX0_ant_4
def dkwX0_ant_2 : List UInt8 := [3, 62, 3, 54, 4, 3, 54, 5, 3, 54, 6, 3, 54, 7, 3, 54, 8, 21, 8, 27, 162, 0, 115]
abbrev dktX0_ant_2 : List UInt8 := dkwX0_ant_2 ++ dktX0_ant_3
def dkwX0_ant_1 : List UInt8 := [3, 62, 29, 42, 180, 0, 62, 190, 162, 0, 16, 42, 180, 0, 62, 29, 3, 84, 132, 3, 1, 167, 255, 237]
abbrev dktX0_ant_1 : List UInt8 := dkwX0_ant_1 ++ dktX0_ant_2
def dkwX0_ant_0 : List UInt8 := [27, 3, 17, 7, 208, 184, 0, 110, 153, 0, 12, 28, 3, 6, 184, 0, 110, 154, 0, 7, 17, 216, 240, 172]
abbrev dktX0_ant_0 : List UInt8 := dkwX0_ant_0 ++ dktX0_ant_1
theorem dksX0_ant_0 : cX0_ant.data.toList.drop 0 = dktX0_ant_0 := by decide +kernel
theorem dksX0_ant_1 : cX0_ant.data.toList.drop 24 = dktX0_ant_1 := dk_seg dksX0_ant_0 24 rfl rfl
theorem dksX0_ant_2 : cX0_ant.data.toList.drop 48 = dktX0_ant_2 := dk_seg dksX0_ant_1 24 rfl rfl
theorem dksX0_ant_3 : cX0_ant.data.toList.drop 71 = dktX0_ant_3 := dk_seg dksX0_ant_2 23 rfl rfl
theorem dksX0_ant_4 : cX0_ant.data.toList.drop 95 = dktX0_ant_4 := dk_seg dksX0_ant_3 24 rfl rfl
theorem dksX0_ant_5 : cX0_ant.data.toList.drop 117 = dktX0_ant_5 := dk_seg dksX0_ant_4 22 rfl rfl
theorem dksX0_ant_6 : cX0_ant.data.toList.drop 141 = dktX0_ant_6 := dk_seg dksX0_ant_5 24 rfl rfl
theorem dksX0_ant_7 : cX0_ant.data.toList.drop 165 = dktX0_ant_7 := dk_seg dksX0_ant_6 24 rfl rfl
theorem dksX0_ant_8 : cX0_ant.data.toList.drop 189 = dktX0_ant_8 := dk_seg dksX0_ant_7 24 rfl rfl
theorem dksX0_ant_9 : cX0_ant.data.toList.drop 213 = dktX0_ant_9 := dk_seg dksX0_ant_8 24 rfl rfl
theorem dX0_ant_0 : decode cX0_ant 0 = .ok (.iload_n 1, 1) := dk_27 (dk_at dksX0_ant_0 0 rfl rfl)
theorem dX0_ant_1 : decode cX0_ant 1 = .ok (.iconst 0, 1) := dk_3 (dk_at dksX0_ant_0 1 rfl rfl)
theorem dX0_ant_2 : decode cX0_ant 2 = .ok (.sipush 2000, 3) := dk_17 7 208 (dk_at dksX0_ant_0 2 rfl rfl)
theorem dX0_ant_5 : decode cX0_ant 5 = .ok (.invokestatic 110, 3) := dk_184 0 110 (dk_at dksX0_ant_0 5 rfl rfl)
theorem dX0_ant_8 : decode cX0_ant 8 = .ok (.ifCond .eq 12, 3) := dk_153 0 12 (dk_at dksX0_ant_0 8 rfl rfl)
theorem dX0_ant_11 : decode cX0_ant 11 = .ok (.iload_n 2, 1) := dk_28 (dk_at dksX0_ant_0 11 rfl rfl)
theorem dX0_ant_12 : decode cX0_ant 12 = .ok (.iconst 0, 1) := dk_3 (dk_at dksX0_ant_0 12 rfl rfl)
theorem dX0_ant_13 : decode cX0_ant 13 = .ok (.iconst 3, 1) := dk_6 (dk_at dksX0_ant_0 13 rfl rfl)
theorem dX0_ant_14 : decode cX0_ant 14 = .ok (.invokestatic 110, 3) := dk_184 0 110 (dk_at dksX0_ant_0 14 rfl rfl)
theorem dX0_ant_17 : decode cX0_ant 17 = .ok (.ifCond .ne 7, 3) := dk_154 0 7 (dk_at dksX0_ant_0 17 rfl rfl)
theorem dX0_ant_20 : decode cX0_ant 20 = .ok (.sipush (-10000), 3) := dk_17 216 240 (dk_at dksX0_ant_0 20 rfl rfl)
theorem dX0_ant_23 : decode cX0_ant 23 = .ok (.ireturn, 1) := dk_172 (dk_at dksX0_ant_0 23 rfl rfl)
theorem dX0_ant_24 : decode cX0_ant 24 = .ok (.iconst 0, 1) := dk_3 (dk_at dksX0_ant_1 0 rfl rfl)
theorem dX0_ant_25 : decode cX0_ant 25 = .ok (.istore_n 3, 1) := dk_62 (dk_at dksX0_ant_1 1 rfl rfl)
theorem dX0_ant_26 : decode cX0_ant 26 = .ok (.iload_n 3, 1) := dk_29 (dk_at dksX0_ant_1 2 rfl rfl)
theorem dX0_ant_27 : decode cX0_ant 27 = .ok (.aload_n 0, 1) := dk_42 (dk_at dksX0_ant_1 3 rfl rfl)
theorem dX0_ant_28 : decode cX0_ant 28 = .ok (.getfield 62, 3) := dk_180 0 62 (dk_at dksX0_ant_1 4 rfl rfl)
theorem dX0_ant_31 : decode cX0_ant 31 = .ok (.arraylength, 1) := dk_190 (dk_at dksX0_ant_1 7 rfl rfl)
theorem dX0_ant_32 : decode cX0_ant 32 = .ok (.if_icmp .ge 16, 3) := dk_162 0 16 (dk_at dksX0_ant_1 8 rfl rfl)
theorem dX0_ant_35 : decode cX0_ant 35 = .ok (.aload_n 0, 1) := dk_42 (dk_at dksX0_ant_1 11 rfl rfl)
theorem dX0_ant_36 : decode cX0_ant 36 = .ok (.getfield 62, 3) := dk_180 0 62 (dk_at dksX0_ant_1 12 rfl rfl)
theorem dX0_ant_39 : decode cX0_ant 39 = .ok (.iload_n 3, 1) := dk_29 (dk_at dksX0_ant_1 15 rfl rfl)
theorem dX0_ant_40 : decode cX0_ant 40 = .ok (.iconst 0, 1) := dk_3 (dk_at dksX0_ant_1 16 rfl rfl)
theorem dX0_ant_41 : decode cX0_ant 41 = .ok (.bastore, 1) := dk_84 (dk_at dksX0_ant_1 17 rfl rfl)
theorem dX0_ant_42 : decode cX0_ant 42 = .ok (.iinc 3 1, 3) := dk_132 3 1 (dk_at dksX0_ant_1 18 rfl rfl)
theorem dX0_ant_45 : decode cX0_ant 45 = .ok (.goto (-19), 3) := dk_167 255 237 (dk_at dksX0_ant_1 21 rfl rfl)
theorem dX0_ant_48 : decode cX0_ant 48 = .ok (.iconst 0, 1) := dk_3 (dk_at dksX0_ant_2 0 rfl rfl)
theorem dX0_ant_49 : decode cX0_ant 49 = .ok (.istore_n 3, 1) := dk_62 (dk_at dksX0_ant_2 1 rfl rfl)
theorem dX0_ant_50 : decode cX0_ant 50 = .ok (.iconst 0, 1) := dk_3 (dk_at dksX0_ant_2 2 rfl rfl)
theorem dX0_ant_51 : decode cX0_ant 51 = .ok (.istore 4, 2) := dk_54 4 (dk_at dksX0_ant_2 3 rfl rfl)
theorem dX0_ant_53 : decode cX0_ant 53 = .ok (.iconst 0, 1) := dk_3 (dk_at dksX0_ant_2 5 rfl rfl)
theorem dX0_ant_54 : decode cX0_ant 54 = .ok (.istore 5, 2) := dk_54 5 (dk_at dksX0_ant_2 6 rfl rfl)
theorem dX0_ant_56 : decode cX0_ant 56 = .ok (.iconst 0, 1) := dk_3 (dk_at dksX0_ant_2 8 rfl rfl)
theorem dX0_ant_57 : decode cX0_ant 57 = .ok (.istore 6, 2) := dk_54 6 (dk_at dksX0_ant_2 9 rfl rfl)
theorem dX0_ant_59 : decode cX0_ant 59 = .ok (.iconst 0, 1) := dk_3 (dk_at dksX0_ant_2 11 rfl rfl)
theorem dX0_ant_60 : decode cX0_ant 60 = .ok (.istore 7, 2) := dk_54 7 (dk_at dksX0_ant_2 12 rfl rfl)
theorem dX0_ant_62 : decode cX0_ant 62 = .ok (.iconst 0, 1) := dk_3 (dk_at dksX0_ant_2 14 rfl rfl)
theorem dX0_ant_63 : decode cX0_ant 63 = .ok (.istore 8, 2) := dk_54 8 (dk_at dksX0_ant_2 15 rfl rfl)
theorem dX0_ant_65 : decode cX0_ant 65 = .ok (.iload 8, 2) := dk_21 8 (dk_at dksX0_ant_2 17 rfl rfl)
theorem dX0_ant_67 : decode cX0_ant 67 = .ok (.iload_n 1, 1) := dk_27 (dk_at dksX0_ant_2 19 rfl rfl)
theorem dX0_ant_68 : decode cX0_ant 68 = .ok (.if_icmp .ge 115, 3) := dk_162 0 115 (dk_at dksX0_ant_2 20 rfl rfl)
theorem dX0_ant_71 : decode cX0_ant 71 = .ok (.bipush 121, 2) := dk_16 121 (dk_at dksX0_ant_3 0 rfl rfl)
theorem dX0_ant_73 : decode cX0_ant 73 = .ok (.iload 4, 2) := dk_21 4 (dk_at dksX0_ant_3 2 rfl rfl)
theorem dX0_ant_75 : decode cX0_ant 75 = .ok (.bipush 60, 2) := dk_16 60 (dk_at dksX0_ant_3 4 rfl rfl)
theorem dX0_ant_77 : decode cX0_ant 77 = .ok (.iadd, 1) := dk_96 (dk_at dksX0_ant_3 6 rfl rfl)
theorem dX0_ant_78 : decode cX0_ant 78 = .ok (.imul, 1) := dk_104 (dk_at dksX0_ant_3 7 rfl rfl)
theorem dX0_ant_79 : decode cX0_ant 79 = .ok (.iload_n 3, 1) := dk_29 (dk_at dksX0_ant_3 8 rfl rfl)
theorem dX0_ant_80 : decode cX0_ant 80 = .ok (.iadd, 1) := dk_96 (dk_at dksX0_ant_3 9 rfl rfl)
theorem dX0_ant_81 : decode cX0_ant 81 = .ok (.bipush 60, 2) := dk_16 60 (dk_at dksX0_ant_3 10 rfl rfl)
theorem dX0_ant_83 : decode cX0_ant 83 = .ok (.iadd, 1) := dk_96 (dk_at dksX0_ant_3 12 rfl rfl)
theorem dX0_ant_84 : decode cX0_ant 84 = .ok (.istore 9, 2) := dk_54 9 (dk_at dksX0_ant_3 13 rfl rfl)
theorem dX0_ant_86 : decode cX0_ant 86 = .ok (.iload 5, 2) := dk_21 5 (dk_at dksX0_ant_3 15 rfl rfl)
theorem dX0_ant_88 : decode cX0_ant 88 = .ok (.aload_n 0, 1) := dk_42 (dk_at dksX0_ant_3 17 rfl rfl)
theorem dX0_ant_89 : decode cX0_ant 89 = .ok (.getfield 62, 3) := dk_180 0 62 (dk_at dksX0_ant_3 18 rfl rfl)
theorem dX0_ant_92 : decode cX0_ant 92 = .ok (.iload 9, 2) := dk_21 9 (dk_at dksX0_ant_3 21 rfl rfl)
theorem dX0_ant_94 : decode cX0_ant 94 = .ok (.baload, 1) := dk_51 (dk_at dksX0_ant_3 23 rfl rfl)
theorem dX0_ant_95 : decode cX0_ant 95 = .ok (.ifCond .eq 7, 3) := dk_153 0 7 (dk_at dksX0_ant_4 0 rfl rfl)
theorem dX0_ant_98 : decode cX0_ant 98 = .ok (.iconst 3, 1) := dk_6 (dk_at dksX0_ant_4 3 rfl rfl)
theorem dX0_ant_99 : decode cX0_ant 99 = .ok (.goto 4, 3) := dk_167 0 4 (dk_at dksX0_ant_4 4 rfl rfl)
theorem dX0_ant_102 : decode cX0_ant 102 = .ok (.iconst 1, 1) := dk_4 (dk_at dksX0_ant_4 7 rfl rfl)
theorem dX0_ant_103 : decode cX0_ant 103 = .ok (.iadd, 1) := dk_96 (dk_at dksX0_ant_4 8 rfl rfl)
theorem dX0_ant_104 : decode cX0_ant 104 = .ok (.iconst 4, 1) := dk_7 (dk_at dksX0_ant_4 9 rfl rfl)
theorem dX0_ant_105 : decode cX0_ant 105 = .ok (.irem, 1) := dk_112 (dk_at dksX0_ant_4 10 rfl rfl)
theorem dX0_ant_106 : decode cX0_ant 106 = .ok (.istore 5, 2) := dk_54 5 (dk_at dksX0_ant_4 11 rfl rfl)
theorem dX0_ant_108 : decode cX0_ant 108 = .ok (.iload 6, 2) := dk_21 6 (dk_at dksX0_ant_4 13 rfl rfl)
theorem dX0_ant_110 : decode cX0_ant 110 = .ok (.aload_n 0, 1) := dk_42 (dk_at dksX0_ant_4 15 rfl rfl)
theorem dX0_ant_111 : decode cX0_ant 111 = .ok (.getfield 62, 3) := dk_180 0 62 (dk_at dksX0_ant_4 16 rfl rfl)
theorem dX0_ant_114 : decode cX0_ant 114 = .ok (.iload 9, 2) := dk_21 9 (dk_at dksX0_ant_4 19 rfl rfl)
theorem dX0_ant_116 : decode cX0_ant 116 = .ok (.baload, 1) := dk_51 (dk_at dksX0_ant_4 21 rfl rfl)
theorem dX0_ant_117 : decode cX0_ant 117 = .ok (.ifCond .eq 7, 3) := dk_153 0 7 (dk_at dksX0_ant_5 0 rfl rfl)
theorem dX0_ant_120 : decode cX0_ant 120 = .ok (.iconst (-1), 1) := dk_2 (dk_at dksX0_ant_5 3 rfl rfl)
theorem dX0_ant_121 : decode cX0_ant 121 = .ok (.goto 4, 3) := dk_167 0 4 (dk_at dksX0_ant_5 4 rfl rfl)
theorem dX0_ant_124 : decode cX0_ant 124 = .ok (.iconst 1, 1) := dk_4 (dk_at dksX0_ant_5 7 rfl rfl)
theorem dX0_ant_125 : decode cX0_ant 125 = .ok (.iadd, 1) := dk_96 (dk_at dksX0_ant_5 8 rfl rfl)
theorem dX0_ant_126 : decode cX0_ant 126 = .ok (.istore 6, 2) := dk_54 6 (dk_at dksX0_ant_5 9 rfl rfl)
theorem dX0_ant_128 : decode cX0_ant 128 = .ok (.aload_n 0, 1) := dk_42 (dk_at dksX0_ant_5 11 rfl rfl)
theorem dX0_ant_129 : decode cX0_ant 129 = .ok (.getfield 62, 3) := dk_180 0 62 (dk_at dksX0_ant_5 12 rfl rfl)
theorem dX0_ant_132 : decode cX0_ant 132 = .ok (.iload 9, 2) := dk_21 9 (dk_at dksX0_ant_5 15 rfl rfl)
theorem dX0_ant_134 : decode cX0_ant 134 = .ok (.aload_n 0, 1) := dk_42 (dk_at dksX0_ant_5 17 rfl rfl)
theorem dX0_ant_135 : decode cX0_ant 135 = .ok (.getfield 62, 3) := dk_180 0 62 (dk_at dksX0_ant_5 18 rfl rfl)
theorem dX0_ant_138 : decode cX0_ant 138 = .ok (.iload 9, 2) := dk_21 9 (dk_at dksX0_ant_5 21 rfl rfl)
theorem dX0_ant_140 : decode cX0_ant 140 = .ok (.baload, 1) := dk_51 (dk_at dksX0_ant_5 23 rfl rfl)
theorem dX0_ant_141 : decode cX0_ant 141 = .ok (.ifCond .ne 7, 3) := dk_154 0 7 (dk_at dksX0_ant_6 0 rfl rfl)
theorem dX0_ant_144 : decode cX0_ant 144 = .ok (.iconst 1, 1) := dk_4 (dk_at dksX0_ant_6 3 rfl rfl)
theorem dX0_ant_145 : decode cX0_ant 145 = .ok (.goto 4, 3) := dk_167 0 4 (dk_at dksX0_ant_6 4 rfl rfl)
theorem dX0_ant_148 : decode cX0_ant 148 = .ok (.iconst 0, 1) := dk_3 (dk_at dksX0_ant_6 7 rfl rfl)
theorem dX0_ant_149 : decode cX0_ant 149 = .ok (.bastore, 1) := dk_84 (dk_at dksX0_ant_6 8 rfl rfl)
theorem dX0_ant_150 : decode cX0_ant 150 = .ok (.iload 7, 2) := dk_21 7 (dk_at dksX0_ant_6 9 rfl rfl)
theorem dX0_ant_152 : decode cX0_ant 152 = .ok (.iload 6, 2) := dk_21 6 (dk_at dksX0_ant_6 11 rfl rfl)
theorem dX0_ant_154 : decode cX0_ant 154 = .ok (.invokestatic 107, 3) := dk_184 0 107 (dk_at dksX0_ant_6 13 rfl rfl)
theorem dX0_ant_157 : decode cX0_ant 157 = .ok (.istore 7, 2) := dk_54 7 (dk_at dksX0_ant_6 16 rfl rfl)
theorem dX0_ant_159 : decode cX0_ant 159 = .ok (.iload_n 3, 1) := dk_29 (dk_at dksX0_ant_6 18 rfl rfl)
theorem dX0_ant_160 : decode cX0_ant 160 = .ok (.iload 5, 2) := dk_21 5 (dk_at dksX0_ant_6 19 rfl rfl)
theorem dX0_ant_162 : decode cX0_ant 162 = .ok (.invokestatic 114, 3) := dk_184 0 114 (dk_at dksX0_ant_6 21 rfl rfl)
theorem dX0_ant_165 : decode cX0_ant 165 = .ok (.iadd, 1) := dk_96 (dk_at dksX0_ant_7 0 rfl rfl)
theorem dX0_ant_166 : decode cX0_ant 166 = .ok (.istore_n 3, 1) := dk_62 (dk_at dksX0_ant_7 1 rfl rfl)
theorem dX0_ant_167 : decode cX0_ant 167 = .ok (.iload 4, 2) := dk_21 4 (dk_at dksX0_ant_7 2 rfl rfl)
theorem dX0_ant_169 : decode cX0_ant 169 = .ok (.iload 5, 2) := dk_21 5 (dk_at dksX0_ant_7 4 rfl rfl)
theorem dX0_ant_171 : decode cX0_ant 171 = .ok (.invokestatic 118, 3) := dk_184 0 118 (dk_at dksX0_ant_7 6 rfl rfl)
theorem dX0_ant_174 : decode cX0_ant 174 = .ok (.iadd, 1) := dk_96 (dk_at dksX0_ant_7 9 rfl rfl)
theorem dX0_ant_175 : decode cX0_ant 175 = .ok (.istore 4, 2) := dk_54 4 (dk_at dksX0_ant_7 10 rfl rfl)
theorem dX0_ant_177 : decode cX0_ant 177 = .ok (.iinc 8 1, 3) := dk_132 8 1 (dk_at dksX0_ant_7 12 rfl rfl)
theorem dX0_ant_180 : decode cX0_ant 180 = .ok (.goto (-115), 3) := dk_167 255 141 (dk_at dksX0_ant_7 15 rfl rfl)
theorem dX0_ant_183 : decode cX0_ant 183 = .ok (.iload_n 2, 1) := dk_28 (dk_at dksX0_ant_7 18 rfl rfl)
theorem dX0_ant_184 : decode cX0_ant 184 = .ok (.ifCond .ne 8, 3) := dk_154 0 8 (dk_at dksX0_ant_7 19 rfl rfl)
theorem dX0_ant_187 : decode cX0_ant 187 = .ok (.iload 6, 2) := dk_21 6 (dk_at dksX0_ant_7 22 rfl rfl)
theorem dX0_ant_189 : decode cX0_ant 189 = .ok (.goto 24, 3) := dk_167 0 24 (dk_at dksX0_ant_8 0 rfl rfl)
theorem dX0_ant_192 : decode cX0_ant 192 = .ok (.iload_n 2, 1) := dk_28 (dk_at dksX0_ant_8 3 rfl rfl)
theorem dX0_ant_193 : decode cX0_ant 193 = .ok (.iconst 1, 1) := dk_4 (dk_at dksX0_ant_8 4 rfl rfl)
theorem dX0_ant_194 : decode cX0_ant 194 = .ok (.if_icmp .ne 7, 3) := dk_160 0 7 (dk_at dksX0_ant_8 5 rfl rfl)
theorem dX0_ant_197 : decode cX0_ant 197 = .ok (.iload_n 3, 1) := dk_29 (dk_at dksX0_ant_8 8 rfl rfl)
theorem dX0_ant_198 : decode cX0_ant 198 = .ok (.goto 15, 3) := dk_167 0 15 (dk_at dksX0_ant_8 9 rfl rfl)
theorem dX0_ant_201 : decode cX0_ant 201 = .ok (.iload_n 2, 1) := dk_28 (dk_at dksX0_ant_8 12 rfl rfl)
theorem dX0_ant_202 : decode cX0_ant 202 = .ok (.iconst 2, 1) := dk_5 (dk_at dksX0_ant_8 13 rfl rfl)
theorem dX0_ant_203 : decode cX0_ant 203 = .ok (.if_icmp .ne 8, 3) := dk_160 0 8 (dk_at dksX0_ant_8 14 rfl rfl)
theorem dX0_ant_206 : decode cX0_ant 206 = .ok (.iload 4, 2) := dk_21 4 (dk_at dksX0_ant_8 17 rfl rfl)
theorem dX0_ant_208 : decode cX0_ant 208 = .ok (.goto 5, 3) := dk_167 0 5 (dk_at dksX0_ant_8 19 rfl rfl)
theorem dX0_ant_211 : decode cX0_ant 211 = .ok (.iload 7, 2) := dk_21 7 (dk_at dksX0_ant_8 22 rfl rfl)
theorem dX0_ant_213 : decode cX0_ant 213 = .ok (.ireturn, 1) := dk_172 (dk_at dksX0_ant_9 0 rfl rfl)
abbrev cX0_hooks : ByteArray := prog_1_method_54_code
def yX0_hooks : MethodName := ⟨RX0, "hooks", "(II)I"⟩
def dkwX0_hooks_4 : List UInt8 := [113, 80, 132, 3, 1, 167, 255, 203, 42, 180, 0, 66, 27, 47, 136, 172]
abbrev dktX0_hooks_4 : List UInt8 := dkwX0_hooks_4 ++ []
def dkwX0_hooks_3 : List UInt8 := [20, 1, 148, 42, 180, 0, 66, 29, 4, 100, 47, 105, 42, 180, 0, 66, 29, 6, 100, 47, 97, 20, 1, 150]
abbrev dktX0_hooks_3 : List UInt8 := dkwX0_hooks_3 ++ dktX0_hooks_4
def dkwX0_hooks_2 : List UInt8 := [163, 0, 54, 42, 180, 0, 66, 29, 29, 6, 162, 0, 12, 4, 29, 184, 0, 107, 133, 167, 0, 28]
abbrev dktX0_hooks_2 : List UInt8 := dkwX0_hooks_2 ++ dktX0_hooks_3
def dkwX0_hooks_1 : List UInt8 := [160, 0, 19, 27, 6, 112, 154, 0, 11, 4, 27, 6, 108, 120, 167, 0, 4, 3, 172, 3, 62, 29, 27]
abbrev dktX0_hooks_1 : List UInt8 := dkwX0_hooks_1 ++ dktX0_hooks_2
def dkwX0_hooks_0 : List UInt8 := [27, 3, 16, 40, 184, 0, 110, 153, 0, 12, 28, 3, 4, 184, 0, 110, 154, 0, 5, 2, 172, 28, 4]
abbrev dktX0_hooks_0 : List UInt8 := dkwX0_hooks_0 ++ dktX0_hooks_1
theorem dksX0_hooks_0 : cX0_hooks.data.toList.drop 0 = dktX0_hooks_0 := by decide +kernel
theorem dksX0_hooks_1 : cX0_hooks.data.toList.drop 23 = dktX0_hooks_1 := dk_seg dksX0_hooks_0 23 rfl rfl
theorem dksX0_hooks_2 : cX0_hooks.data.toList.drop 46 = dktX0_hooks_2 := dk_seg dksX0_hooks_1 23 rfl rfl
theorem dksX0_hooks_3 : cX0_hooks.data.toList.drop 68 = dktX0_hooks_3 := dk_seg dksX0_hooks_2 22 rfl rfl
theorem dksX0_hooks_4 : cX0_hooks.data.toList.drop 92 = dktX0_hooks_4 := dk_seg dksX0_hooks_3 24 rfl rfl
theorem dX0_hooks_0 : decode cX0_hooks 0 = .ok (.iload_n 1, 1) := dk_27 (dk_at dksX0_hooks_0 0 rfl rfl)
theorem dX0_hooks_1 : decode cX0_hooks 1 = .ok (.iconst 0, 1) := dk_3 (dk_at dksX0_hooks_0 1 rfl rfl)
theorem dX0_hooks_2 : decode cX0_hooks 2 = .ok (.bipush 40, 2) := dk_16 40 (dk_at dksX0_hooks_0 2 rfl rfl)
theorem dX0_hooks_4 : decode cX0_hooks 4 = .ok (.invokestatic 110, 3) := dk_184 0 110 (dk_at dksX0_hooks_0 4 rfl rfl)
theorem dX0_hooks_7 : decode cX0_hooks 7 = .ok (.ifCond .eq 12, 3) := dk_153 0 12 (dk_at dksX0_hooks_0 7 rfl rfl)
theorem dX0_hooks_10 : decode cX0_hooks 10 = .ok (.iload_n 2, 1) := dk_28 (dk_at dksX0_hooks_0 10 rfl rfl)
theorem dX0_hooks_11 : decode cX0_hooks 11 = .ok (.iconst 0, 1) := dk_3 (dk_at dksX0_hooks_0 11 rfl rfl)
theorem dX0_hooks_12 : decode cX0_hooks 12 = .ok (.iconst 1, 1) := dk_4 (dk_at dksX0_hooks_0 12 rfl rfl)
theorem dX0_hooks_13 : decode cX0_hooks 13 = .ok (.invokestatic 110, 3) := dk_184 0 110 (dk_at dksX0_hooks_0 13 rfl rfl)
theorem dX0_hooks_16 : decode cX0_hooks 16 = .ok (.ifCond .ne 5, 3) := dk_154 0 5 (dk_at dksX0_hooks_0 16 rfl rfl)
theorem dX0_hooks_19 : decode cX0_hooks 19 = .ok (.iconst (-1), 1) := dk_2 (dk_at dksX0_hooks_0 19 rfl rfl)
theorem dX0_hooks_20 : decode cX0_hooks 20 = .ok (.ireturn, 1) := dk_172 (dk_at dksX0_hooks_0 20 rfl rfl)
theorem dX0_hooks_21 : decode cX0_hooks 21 = .ok (.iload_n 2, 1) := dk_28 (dk_at dksX0_hooks_0 21 rfl rfl)
theorem dX0_hooks_22 : decode cX0_hooks 22 = .ok (.iconst 1, 1) := dk_4 (dk_at dksX0_hooks_0 22 rfl rfl)
theorem dX0_hooks_23 : decode cX0_hooks 23 = .ok (.if_icmp .ne 19, 3) := dk_160 0 19 (dk_at dksX0_hooks_1 0 rfl rfl)
theorem dX0_hooks_26 : decode cX0_hooks 26 = .ok (.iload_n 1, 1) := dk_27 (dk_at dksX0_hooks_1 3 rfl rfl)
theorem dX0_hooks_27 : decode cX0_hooks 27 = .ok (.iconst 3, 1) := dk_6 (dk_at dksX0_hooks_1 4 rfl rfl)
theorem dX0_hooks_28 : decode cX0_hooks 28 = .ok (.irem, 1) := dk_112 (dk_at dksX0_hooks_1 5 rfl rfl)
theorem dX0_hooks_29 : decode cX0_hooks 29 = .ok (.ifCond .ne 11, 3) := dk_154 0 11 (dk_at dksX0_hooks_1 6 rfl rfl)
theorem dX0_hooks_32 : decode cX0_hooks 32 = .ok (.iconst 1, 1) := dk_4 (dk_at dksX0_hooks_1 9 rfl rfl)
theorem dX0_hooks_33 : decode cX0_hooks 33 = .ok (.iload_n 1, 1) := dk_27 (dk_at dksX0_hooks_1 10 rfl rfl)
theorem dX0_hooks_34 : decode cX0_hooks 34 = .ok (.iconst 3, 1) := dk_6 (dk_at dksX0_hooks_1 11 rfl rfl)
theorem dX0_hooks_35 : decode cX0_hooks 35 = .ok (.idiv, 1) := dk_108 (dk_at dksX0_hooks_1 12 rfl rfl)
theorem dX0_hooks_36 : decode cX0_hooks 36 = .ok (.ishl, 1) := dk_120 (dk_at dksX0_hooks_1 13 rfl rfl)
theorem dX0_hooks_37 : decode cX0_hooks 37 = .ok (.goto 4, 3) := dk_167 0 4 (dk_at dksX0_hooks_1 14 rfl rfl)
theorem dX0_hooks_40 : decode cX0_hooks 40 = .ok (.iconst 0, 1) := dk_3 (dk_at dksX0_hooks_1 17 rfl rfl)
theorem dX0_hooks_41 : decode cX0_hooks 41 = .ok (.ireturn, 1) := dk_172 (dk_at dksX0_hooks_1 18 rfl rfl)
theorem dX0_hooks_42 : decode cX0_hooks 42 = .ok (.iconst 0, 1) := dk_3 (dk_at dksX0_hooks_1 19 rfl rfl)
theorem dX0_hooks_43 : decode cX0_hooks 43 = .ok (.istore_n 3, 1) := dk_62 (dk_at dksX0_hooks_1 20 rfl rfl)
theorem dX0_hooks_44 : decode cX0_hooks 44 = .ok (.iload_n 3, 1) := dk_29 (dk_at dksX0_hooks_1 21 rfl rfl)
theorem dX0_hooks_45 : decode cX0_hooks 45 = .ok (.iload_n 1, 1) := dk_27 (dk_at dksX0_hooks_1 22 rfl rfl)
theorem dX0_hooks_46 : decode cX0_hooks 46 = .ok (.if_icmp .gt 54, 3) := dk_163 0 54 (dk_at dksX0_hooks_2 0 rfl rfl)
theorem dX0_hooks_49 : decode cX0_hooks 49 = .ok (.aload_n 0, 1) := dk_42 (dk_at dksX0_hooks_2 3 rfl rfl)
theorem dX0_hooks_50 : decode cX0_hooks 50 = .ok (.getfield 66, 3) := dk_180 0 66 (dk_at dksX0_hooks_2 4 rfl rfl)
theorem dX0_hooks_53 : decode cX0_hooks 53 = .ok (.iload_n 3, 1) := dk_29 (dk_at dksX0_hooks_2 7 rfl rfl)
theorem dX0_hooks_54 : decode cX0_hooks 54 = .ok (.iload_n 3, 1) := dk_29 (dk_at dksX0_hooks_2 8 rfl rfl)
theorem dX0_hooks_55 : decode cX0_hooks 55 = .ok (.iconst 3, 1) := dk_6 (dk_at dksX0_hooks_2 9 rfl rfl)
theorem dX0_hooks_56 : decode cX0_hooks 56 = .ok (.if_icmp .ge 12, 3) := dk_162 0 12 (dk_at dksX0_hooks_2 10 rfl rfl)
theorem dX0_hooks_59 : decode cX0_hooks 59 = .ok (.iconst 1, 1) := dk_4 (dk_at dksX0_hooks_2 13 rfl rfl)
theorem dX0_hooks_60 : decode cX0_hooks 60 = .ok (.iload_n 3, 1) := dk_29 (dk_at dksX0_hooks_2 14 rfl rfl)
theorem dX0_hooks_61 : decode cX0_hooks 61 = .ok (.invokestatic 107, 3) := dk_184 0 107 (dk_at dksX0_hooks_2 15 rfl rfl)
theorem dX0_hooks_64 : decode cX0_hooks 64 = .ok (.i2l, 1) := dk_133 (dk_at dksX0_hooks_2 18 rfl rfl)
theorem dX0_hooks_65 : decode cX0_hooks 65 = .ok (.goto 28, 3) := dk_167 0 28 (dk_at dksX0_hooks_2 19 rfl rfl)
theorem dX0_hooks_68 : decode cX0_hooks 68 = .ok (.ldc2_w 404, 3) := dk_20 1 148 (dk_at dksX0_hooks_3 0 rfl rfl)
theorem dX0_hooks_71 : decode cX0_hooks 71 = .ok (.aload_n 0, 1) := dk_42 (dk_at dksX0_hooks_3 3 rfl rfl)
theorem dX0_hooks_72 : decode cX0_hooks 72 = .ok (.getfield 66, 3) := dk_180 0 66 (dk_at dksX0_hooks_3 4 rfl rfl)
theorem dX0_hooks_75 : decode cX0_hooks 75 = .ok (.iload_n 3, 1) := dk_29 (dk_at dksX0_hooks_3 7 rfl rfl)
theorem dX0_hooks_76 : decode cX0_hooks 76 = .ok (.iconst 1, 1) := dk_4 (dk_at dksX0_hooks_3 8 rfl rfl)
theorem dX0_hooks_77 : decode cX0_hooks 77 = .ok (.isub, 1) := dk_100 (dk_at dksX0_hooks_3 9 rfl rfl)
theorem dX0_hooks_78 : decode cX0_hooks 78 = .ok (.laload, 1) := dk_47 (dk_at dksX0_hooks_3 10 rfl rfl)
theorem dX0_hooks_79 : decode cX0_hooks 79 = .ok (.lmul, 1) := dk_105 (dk_at dksX0_hooks_3 11 rfl rfl)
theorem dX0_hooks_80 : decode cX0_hooks 80 = .ok (.aload_n 0, 1) := dk_42 (dk_at dksX0_hooks_3 12 rfl rfl)
theorem dX0_hooks_81 : decode cX0_hooks 81 = .ok (.getfield 66, 3) := dk_180 0 66 (dk_at dksX0_hooks_3 13 rfl rfl)
theorem dX0_hooks_84 : decode cX0_hooks 84 = .ok (.iload_n 3, 1) := dk_29 (dk_at dksX0_hooks_3 16 rfl rfl)
theorem dX0_hooks_85 : decode cX0_hooks 85 = .ok (.iconst 3, 1) := dk_6 (dk_at dksX0_hooks_3 17 rfl rfl)
theorem dX0_hooks_86 : decode cX0_hooks 86 = .ok (.isub, 1) := dk_100 (dk_at dksX0_hooks_3 18 rfl rfl)
theorem dX0_hooks_87 : decode cX0_hooks 87 = .ok (.laload, 1) := dk_47 (dk_at dksX0_hooks_3 19 rfl rfl)
theorem dX0_hooks_88 : decode cX0_hooks 88 = .ok (.ladd, 1) := dk_97 (dk_at dksX0_hooks_3 20 rfl rfl)
theorem dX0_hooks_89 : decode cX0_hooks 89 = .ok (.ldc2_w 406, 3) := dk_20 1 150 (dk_at dksX0_hooks_3 21 rfl rfl)
theorem dX0_hooks_92 : decode cX0_hooks 92 = .ok (.lrem, 1) := dk_113 (dk_at dksX0_hooks_4 0 rfl rfl)
theorem dX0_hooks_93 : decode cX0_hooks 93 = .ok (.lastore, 1) := dk_80 (dk_at dksX0_hooks_4 1 rfl rfl)
theorem dX0_hooks_94 : decode cX0_hooks 94 = .ok (.iinc 3 1, 3) := dk_132 3 1 (dk_at dksX0_hooks_4 2 rfl rfl)
theorem dX0_hooks_97 : decode cX0_hooks 97 = .ok (.goto (-53), 3) := dk_167 255 203 (dk_at dksX0_hooks_4 5 rfl rfl)
theorem dX0_hooks_100 : decode cX0_hooks 100 = .ok (.aload_n 0, 1) := dk_42 (dk_at dksX0_hooks_4 8 rfl rfl)
theorem dX0_hooks_101 : decode cX0_hooks 101 = .ok (.getfield 66, 3) := dk_180 0 66 (dk_at dksX0_hooks_4 9 rfl rfl)
theorem dX0_hooks_104 : decode cX0_hooks 104 = .ok (.iload_n 1, 1) := dk_27 (dk_at dksX0_hooks_4 12 rfl rfl)
theorem dX0_hooks_105 : decode cX0_hooks 105 = .ok (.laload, 1) := dk_47 (dk_at dksX0_hooks_4 13 rfl rfl)
theorem dX0_hooks_106 : decode cX0_hooks 106 = .ok (.l2i, 1) := dk_136 (dk_at dksX0_hooks_4 14 rfl rfl)
theorem dX0_hooks_107 : decode cX0_hooks 107 = .ok (.ireturn, 1) := dk_172 (dk_at dksX0_hooks_4 15 rfl rfl)
abbrev cX0_apart : ByteArray := prog_1_method_61_code
def yX0_apart : MethodName := ⟨RX0, "apart", "(I)I"⟩
def dkwX0_apart_1 : List UInt8 := [172]
abbrev dktX0_apart_1 : List UInt8 := dkwX0_apart_1 ++ []
def dkwX0_apart_0 : List UInt8 := [27, 154, 0, 10, 42, 182, 1, 164, 167, 0, 16, 27, 4, 160, 0, 10, 42, 182, 1, 167, 167, 0, 4, 2]
abbrev dktX0_apart_0 : List UInt8 := dkwX0_apart_0 ++ dktX0_apart_1
theorem dksX0_apart_0 : cX0_apart.data.toList.drop 0 = dktX0_apart_0 := by decide +kernel
theorem dksX0_apart_1 : cX0_apart.data.toList.drop 24 = dktX0_apart_1 := dk_seg dksX0_apart_0 24 rfl rfl
theorem dX0_apart_0 : decode cX0_apart 0 = .ok (.iload_n 1, 1) := dk_27 (dk_at dksX0_apart_0 0 rfl rfl)
theorem dX0_apart_1 : decode cX0_apart 1 = .ok (.ifCond .ne 10, 3) := dk_154 0 10 (dk_at dksX0_apart_0 1 rfl rfl)
theorem dX0_apart_4 : decode cX0_apart 4 = .ok (.aload_n 0, 1) := dk_42 (dk_at dksX0_apart_0 4 rfl rfl)
theorem dX0_apart_5 : decode cX0_apart 5 = .ok (.invokevirtual 420, 3) := dk_182 1 164 (dk_at dksX0_apart_0 5 rfl rfl)
theorem dX0_apart_8 : decode cX0_apart 8 = .ok (.goto 16, 3) := dk_167 0 16 (dk_at dksX0_apart_0 8 rfl rfl)
theorem dX0_apart_11 : decode cX0_apart 11 = .ok (.iload_n 1, 1) := dk_27 (dk_at dksX0_apart_0 11 rfl rfl)
theorem dX0_apart_12 : decode cX0_apart 12 = .ok (.iconst 1, 1) := dk_4 (dk_at dksX0_apart_0 12 rfl rfl)
theorem dX0_apart_13 : decode cX0_apart 13 = .ok (.if_icmp .ne 10, 3) := dk_160 0 10 (dk_at dksX0_apart_0 13 rfl rfl)
theorem dX0_apart_16 : decode cX0_apart 16 = .ok (.aload_n 0, 1) := dk_42 (dk_at dksX0_apart_0 16 rfl rfl)
theorem dX0_apart_17 : decode cX0_apart 17 = .ok (.invokevirtual 423, 3) := dk_182 1 167 (dk_at dksX0_apart_0 17 rfl rfl)
theorem dX0_apart_20 : decode cX0_apart 20 = .ok (.goto 4, 3) := dk_167 0 4 (dk_at dksX0_apart_0 20 rfl rfl)
theorem dX0_apart_23 : decode cX0_apart 23 = .ok (.iconst (-1), 1) := dk_2 (dk_at dksX0_apart_0 23 rfl rfl)
theorem dX0_apart_24 : decode cX0_apart 24 = .ok (.ireturn, 1) := dk_172 (dk_at dksX0_apart_1 0 rfl rfl)
abbrev cX0_mostApart : ByteArray := prog_1_method_58_code
def yX0_mostApart : MethodName := ⟨RX0, "mostApart", "()I"⟩
def dkwX0_mostApart_1 : List UInt8 := [132, 1, 1, 167, 255, 232, 3, 60, 42, 182, 1, 158, 153, 0, 9, 132, 1, 1, 167, 255, 246, 27, 172]
abbrev dktX0_mostApart_1 : List UInt8 := dkwX0_mostApart_1 ++ []
def dkwX0_mostApart_0 : List UInt8 := [3, 60, 27, 17, 0, 144, 162, 0, 23, 42, 180, 0, 70, 27, 2, 79, 42, 180, 0, 73, 27, 2, 79]
abbrev dktX0_mostApart_0 : List UInt8 := dkwX0_mostApart_0 ++ dktX0_mostApart_1
theorem dksX0_mostApart_0 : cX0_mostApart.data.toList.drop 0 = dktX0_mostApart_0 := by decide +kernel
theorem dksX0_mostApart_1 : cX0_mostApart.data.toList.drop 23 = dktX0_mostApart_1 := dk_seg dksX0_mostApart_0 23 rfl rfl
theorem dX0_mostApart_0 : decode cX0_mostApart 0 = .ok (.iconst 0, 1) := dk_3 (dk_at dksX0_mostApart_0 0 rfl rfl)
theorem dX0_mostApart_1 : decode cX0_mostApart 1 = .ok (.istore_n 1, 1) := dk_60 (dk_at dksX0_mostApart_0 1 rfl rfl)
theorem dX0_mostApart_2 : decode cX0_mostApart 2 = .ok (.iload_n 1, 1) := dk_27 (dk_at dksX0_mostApart_0 2 rfl rfl)
theorem dX0_mostApart_3 : decode cX0_mostApart 3 = .ok (.sipush 144, 3) := dk_17 0 144 (dk_at dksX0_mostApart_0 3 rfl rfl)
theorem dX0_mostApart_6 : decode cX0_mostApart 6 = .ok (.if_icmp .ge 23, 3) := dk_162 0 23 (dk_at dksX0_mostApart_0 6 rfl rfl)
theorem dX0_mostApart_9 : decode cX0_mostApart 9 = .ok (.aload_n 0, 1) := dk_42 (dk_at dksX0_mostApart_0 9 rfl rfl)
theorem dX0_mostApart_10 : decode cX0_mostApart 10 = .ok (.getfield 70, 3) := dk_180 0 70 (dk_at dksX0_mostApart_0 10 rfl rfl)
theorem dX0_mostApart_13 : decode cX0_mostApart 13 = .ok (.iload_n 1, 1) := dk_27 (dk_at dksX0_mostApart_0 13 rfl rfl)
theorem dX0_mostApart_14 : decode cX0_mostApart 14 = .ok (.iconst (-1), 1) := dk_2 (dk_at dksX0_mostApart_0 14 rfl rfl)
theorem dX0_mostApart_15 : decode cX0_mostApart 15 = .ok (.iastore, 1) := dk_79 (dk_at dksX0_mostApart_0 15 rfl rfl)
theorem dX0_mostApart_16 : decode cX0_mostApart 16 = .ok (.aload_n 0, 1) := dk_42 (dk_at dksX0_mostApart_0 16 rfl rfl)
theorem dX0_mostApart_17 : decode cX0_mostApart 17 = .ok (.getfield 73, 3) := dk_180 0 73 (dk_at dksX0_mostApart_0 17 rfl rfl)
theorem dX0_mostApart_20 : decode cX0_mostApart 20 = .ok (.iload_n 1, 1) := dk_27 (dk_at dksX0_mostApart_0 20 rfl rfl)
theorem dX0_mostApart_21 : decode cX0_mostApart 21 = .ok (.iconst (-1), 1) := dk_2 (dk_at dksX0_mostApart_0 21 rfl rfl)
theorem dX0_mostApart_22 : decode cX0_mostApart 22 = .ok (.iastore, 1) := dk_79 (dk_at dksX0_mostApart_0 22 rfl rfl)
theorem dX0_mostApart_23 : decode cX0_mostApart 23 = .ok (.iinc 1 1, 3) := dk_132 1 1 (dk_at dksX0_mostApart_1 0 rfl rfl)
theorem dX0_mostApart_26 : decode cX0_mostApart 26 = .ok (.goto (-24), 3) := dk_167 255 232 (dk_at dksX0_mostApart_1 3 rfl rfl)
theorem dX0_mostApart_29 : decode cX0_mostApart 29 = .ok (.iconst 0, 1) := dk_3 (dk_at dksX0_mostApart_1 6 rfl rfl)
theorem dX0_mostApart_30 : decode cX0_mostApart 30 = .ok (.istore_n 1, 1) := dk_60 (dk_at dksX0_mostApart_1 7 rfl rfl)
theorem dX0_mostApart_31 : decode cX0_mostApart 31 = .ok (.aload_n 0, 1) := dk_42 (dk_at dksX0_mostApart_1 8 rfl rfl)
theorem dX0_mostApart_32 : decode cX0_mostApart 32 = .ok (.invokevirtual 414, 3) := dk_182 1 158 (dk_at dksX0_mostApart_1 9 rfl rfl)
theorem dX0_mostApart_35 : decode cX0_mostApart 35 = .ok (.ifCond .eq 9, 3) := dk_153 0 9 (dk_at dksX0_mostApart_1 12 rfl rfl)
theorem dX0_mostApart_38 : decode cX0_mostApart 38 = .ok (.iinc 1 1, 3) := dk_132 1 1 (dk_at dksX0_mostApart_1 15 rfl rfl)
theorem dX0_mostApart_41 : decode cX0_mostApart 41 = .ok (.goto (-10), 3) := dk_167 255 246 (dk_at dksX0_mostApart_1 18 rfl rfl)
theorem dX0_mostApart_44 : decode cX0_mostApart 44 = .ok (.iload_n 1, 1) := dk_27 (dk_at dksX0_mostApart_1 21 rfl rfl)
theorem dX0_mostApart_45 : decode cX0_mostApart 45 = .ok (.ireturn, 1) := dk_172 (dk_at dksX0_mostApart_1 22 rfl rfl)
abbrev cX0_hasOneMore : ByteArray := prog_1_method_57_code
def yX0_hasOneMore : MethodName := ⟨RX0, "hasOneMore", "()Z"⟩
def dkwX0_hasOneMore_2 : List UInt8 := [159, 0, 16, 42, 27, 17, 0, 144, 182, 1, 155, 153, 0, 5, 4, 172, 132, 1, 1, 167, 255, 222, 3, 172]
abbrev dktX0_hasOneMore_2 : List UInt8 := dkwX0_hasOneMore_2 ++ []
def dkwX0_hasOneMore_1 : List UInt8 := [132, 1, 1, 167, 255, 232, 3, 60, 27, 16, 12, 162, 0, 34, 42, 180, 0, 70, 27, 46, 17, 0, 144]
abbrev dktX0_hasOneMore_1 : List UInt8 := dkwX0_hasOneMore_1 ++ dktX0_hasOneMore_2
def dkwX0_hasOneMore_0 : List UInt8 := [3, 60, 27, 17, 0, 144, 162, 0, 23, 42, 180, 0, 76, 27, 3, 84, 42, 180, 0, 79, 27, 3, 84]
abbrev dktX0_hasOneMore_0 : List UInt8 := dkwX0_hasOneMore_0 ++ dktX0_hasOneMore_1
theorem dksX0_hasOneMore_0 : cX0_hasOneMore.data.toList.drop 0 = dktX0_hasOneMore_0 := by decide +kernel
theorem dksX0_hasOneMore_1 : cX0_hasOneMore.data.toList.drop 23 = dktX0_hasOneMore_1 := dk_seg dksX0_hasOneMore_0 23 rfl rfl
theorem dksX0_hasOneMore_2 : cX0_hasOneMore.data.toList.drop 46 = dktX0_hasOneMore_2 := dk_seg dksX0_hasOneMore_1 23 rfl rfl
theorem dX0_hasOneMore_0 : decode cX0_hasOneMore 0 = .ok (.iconst 0, 1) := dk_3 (dk_at dksX0_hasOneMore_0 0 rfl rfl)
theorem dX0_hasOneMore_1 : decode cX0_hasOneMore 1 = .ok (.istore_n 1, 1) := dk_60 (dk_at dksX0_hasOneMore_0 1 rfl rfl)
theorem dX0_hasOneMore_2 : decode cX0_hasOneMore 2 = .ok (.iload_n 1, 1) := dk_27 (dk_at dksX0_hasOneMore_0 2 rfl rfl)
theorem dX0_hasOneMore_3 : decode cX0_hasOneMore 3 = .ok (.sipush 144, 3) := dk_17 0 144 (dk_at dksX0_hasOneMore_0 3 rfl rfl)
theorem dX0_hasOneMore_6 : decode cX0_hasOneMore 6 = .ok (.if_icmp .ge 23, 3) := dk_162 0 23 (dk_at dksX0_hasOneMore_0 6 rfl rfl)
theorem dX0_hasOneMore_9 : decode cX0_hasOneMore 9 = .ok (.aload_n 0, 1) := dk_42 (dk_at dksX0_hasOneMore_0 9 rfl rfl)
theorem dX0_hasOneMore_10 : decode cX0_hasOneMore 10 = .ok (.getfield 76, 3) := dk_180 0 76 (dk_at dksX0_hasOneMore_0 10 rfl rfl)
theorem dX0_hasOneMore_13 : decode cX0_hasOneMore 13 = .ok (.iload_n 1, 1) := dk_27 (dk_at dksX0_hasOneMore_0 13 rfl rfl)
theorem dX0_hasOneMore_14 : decode cX0_hasOneMore 14 = .ok (.iconst 0, 1) := dk_3 (dk_at dksX0_hasOneMore_0 14 rfl rfl)
theorem dX0_hasOneMore_15 : decode cX0_hasOneMore 15 = .ok (.bastore, 1) := dk_84 (dk_at dksX0_hasOneMore_0 15 rfl rfl)
theorem dX0_hasOneMore_16 : decode cX0_hasOneMore 16 = .ok (.aload_n 0, 1) := dk_42 (dk_at dksX0_hasOneMore_0 16 rfl rfl)
theorem dX0_hasOneMore_17 : decode cX0_hasOneMore 17 = .ok (.getfield 79, 3) := dk_180 0 79 (dk_at dksX0_hasOneMore_0 17 rfl rfl)
theorem dX0_hasOneMore_20 : decode cX0_hasOneMore 20 = .ok (.iload_n 1, 1) := dk_27 (dk_at dksX0_hasOneMore_0 20 rfl rfl)
theorem dX0_hasOneMore_21 : decode cX0_hasOneMore 21 = .ok (.iconst 0, 1) := dk_3 (dk_at dksX0_hasOneMore_0 21 rfl rfl)
theorem dX0_hasOneMore_22 : decode cX0_hasOneMore 22 = .ok (.bastore, 1) := dk_84 (dk_at dksX0_hasOneMore_0 22 rfl rfl)
theorem dX0_hasOneMore_23 : decode cX0_hasOneMore 23 = .ok (.iinc 1 1, 3) := dk_132 1 1 (dk_at dksX0_hasOneMore_1 0 rfl rfl)
theorem dX0_hasOneMore_26 : decode cX0_hasOneMore 26 = .ok (.goto (-24), 3) := dk_167 255 232 (dk_at dksX0_hasOneMore_1 3 rfl rfl)
theorem dX0_hasOneMore_29 : decode cX0_hasOneMore 29 = .ok (.iconst 0, 1) := dk_3 (dk_at dksX0_hasOneMore_1 6 rfl rfl)
theorem dX0_hasOneMore_30 : decode cX0_hasOneMore 30 = .ok (.istore_n 1, 1) := dk_60 (dk_at dksX0_hasOneMore_1 7 rfl rfl)
theorem dX0_hasOneMore_31 : decode cX0_hasOneMore 31 = .ok (.iload_n 1, 1) := dk_27 (dk_at dksX0_hasOneMore_1 8 rfl rfl)
theorem dX0_hasOneMore_32 : decode cX0_hasOneMore 32 = .ok (.bipush 12, 2) := dk_16 12 (dk_at dksX0_hasOneMore_1 9 rfl rfl)
theorem dX0_hasOneMore_34 : decode cX0_hasOneMore 34 = .ok (.if_icmp .ge 34, 3) := dk_162 0 34 (dk_at dksX0_hasOneMore_1 11 rfl rfl)
theorem dX0_hasOneMore_37 : decode cX0_hasOneMore 37 = .ok (.aload_n 0, 1) := dk_42 (dk_at dksX0_hasOneMore_1 14 rfl rfl)
theorem dX0_hasOneMore_38 : decode cX0_hasOneMore 38 = .ok (.getfield 70, 3) := dk_180 0 70 (dk_at dksX0_hasOneMore_1 15 rfl rfl)
theorem dX0_hasOneMore_41 : decode cX0_hasOneMore 41 = .ok (.iload_n 1, 1) := dk_27 (dk_at dksX0_hasOneMore_1 18 rfl rfl)
theorem dX0_hasOneMore_42 : decode cX0_hasOneMore 42 = .ok (.iaload, 1) := dk_46 (dk_at dksX0_hasOneMore_1 19 rfl rfl)
theorem dX0_hasOneMore_43 : decode cX0_hasOneMore 43 = .ok (.sipush 144, 3) := dk_17 0 144 (dk_at dksX0_hasOneMore_1 20 rfl rfl)
theorem dX0_hasOneMore_46 : decode cX0_hasOneMore 46 = .ok (.if_icmp .eq 16, 3) := dk_159 0 16 (dk_at dksX0_hasOneMore_2 0 rfl rfl)
theorem dX0_hasOneMore_49 : decode cX0_hasOneMore 49 = .ok (.aload_n 0, 1) := dk_42 (dk_at dksX0_hasOneMore_2 3 rfl rfl)
theorem dX0_hasOneMore_50 : decode cX0_hasOneMore 50 = .ok (.iload_n 1, 1) := dk_27 (dk_at dksX0_hasOneMore_2 4 rfl rfl)
theorem dX0_hasOneMore_51 : decode cX0_hasOneMore 51 = .ok (.sipush 144, 3) := dk_17 0 144 (dk_at dksX0_hasOneMore_2 5 rfl rfl)
theorem dX0_hasOneMore_54 : decode cX0_hasOneMore 54 = .ok (.invokevirtual 411, 3) := dk_182 1 155 (dk_at dksX0_hasOneMore_2 8 rfl rfl)
theorem dX0_hasOneMore_57 : decode cX0_hasOneMore 57 = .ok (.ifCond .eq 5, 3) := dk_153 0 5 (dk_at dksX0_hasOneMore_2 11 rfl rfl)
theorem dX0_hasOneMore_60 : decode cX0_hasOneMore 60 = .ok (.iconst 1, 1) := dk_4 (dk_at dksX0_hasOneMore_2 14 rfl rfl)
theorem dX0_hasOneMore_61 : decode cX0_hasOneMore 61 = .ok (.ireturn, 1) := dk_172 (dk_at dksX0_hasOneMore_2 15 rfl rfl)
theorem dX0_hasOneMore_62 : decode cX0_hasOneMore 62 = .ok (.iinc 1 1, 3) := dk_132 1 1 (dk_at dksX0_hasOneMore_2 16 rfl rfl)
theorem dX0_hasOneMore_65 : decode cX0_hasOneMore 65 = .ok (.goto (-34), 3) := dk_167 255 222 (dk_at dksX0_hasOneMore_2 19 rfl rfl)
theorem dX0_hasOneMore_68 : decode cX0_hasOneMore 68 = .ok (.iconst 0, 1) := dk_3 (dk_at dksX0_hasOneMore_2 22 rfl rfl)
theorem dX0_hasOneMore_69 : decode cX0_hasOneMore 69 = .ok (.ireturn, 1) := dk_172 (dk_at dksX0_hasOneMore_2 23 rfl rfl)
abbrev cX0_enters : ByteArray := prog_1_method_55_code
def yX0_enters : MethodName := ⟨RX0, "enters", "(II)Z"⟩
def dkwX0_enters_3 : List UInt8 := [160, 0, 13, 42, 27, 182, 1, 152, 154, 0, 5, 3, 172, 42, 180, 0, 70, 27, 28, 79, 4, 172]
abbrev dktX0_enters_3 : List UInt8 := dkwX0_enters_3 ++ []
def dkwX0_enters_2 : List UInt8 := [42, 42, 180, 0, 70, 27, 46, 182, 1, 152, 154, 0, 5, 3, 172, 42, 180, 0, 73, 27, 46, 2]
abbrev dktX0_enters_2 : List UInt8 := dkwX0_enters_2 ++ dktX0_enters_3
def dkwX0_enters_1 : List UInt8 := [4, 84, 42, 180, 0, 73, 27, 46, 2, 159, 0, 30, 42, 180, 0, 70, 27, 46, 17, 0, 144, 159, 0, 16]
abbrev dktX0_enters_1 : List UInt8 := dkwX0_enters_1 ++ dktX0_enters_2
def dkwX0_enters_0 : List UInt8 := [42, 27, 182, 1, 60, 153, 0, 12, 42, 180, 0, 76, 27, 51, 153, 0, 5, 3, 172, 42, 180, 0, 76, 27]
abbrev dktX0_enters_0 : List UInt8 := dkwX0_enters_0 ++ dktX0_enters_1
theorem dksX0_enters_0 : cX0_enters.data.toList.drop 0 = dktX0_enters_0 := by decide +kernel
theorem dksX0_enters_1 : cX0_enters.data.toList.drop 24 = dktX0_enters_1 := dk_seg dksX0_enters_0 24 rfl rfl
theorem dksX0_enters_2 : cX0_enters.data.toList.drop 48 = dktX0_enters_2 := dk_seg dksX0_enters_1 24 rfl rfl
theorem dksX0_enters_3 : cX0_enters.data.toList.drop 70 = dktX0_enters_3 := dk_seg dksX0_enters_2 22 rfl rfl
theorem dX0_enters_0 : decode cX0_enters 0 = .ok (.aload_n 0, 1) := dk_42 (dk_at dksX0_enters_0 0 rfl rfl)
theorem dX0_enters_1 : decode cX0_enters 1 = .ok (.iload_n 1, 1) := dk_27 (dk_at dksX0_enters_0 1 rfl rfl)
theorem dX0_enters_2 : decode cX0_enters 2 = .ok (.invokevirtual 316, 3) := dk_182 1 60 (dk_at dksX0_enters_0 2 rfl rfl)
theorem dX0_enters_5 : decode cX0_enters 5 = .ok (.ifCond .eq 12, 3) := dk_153 0 12 (dk_at dksX0_enters_0 5 rfl rfl)
theorem dX0_enters_8 : decode cX0_enters 8 = .ok (.aload_n 0, 1) := dk_42 (dk_at dksX0_enters_0 8 rfl rfl)
theorem dX0_enters_9 : decode cX0_enters 9 = .ok (.getfield 76, 3) := dk_180 0 76 (dk_at dksX0_enters_0 9 rfl rfl)
theorem dX0_enters_12 : decode cX0_enters 12 = .ok (.iload_n 1, 1) := dk_27 (dk_at dksX0_enters_0 12 rfl rfl)
theorem dX0_enters_13 : decode cX0_enters 13 = .ok (.baload, 1) := dk_51 (dk_at dksX0_enters_0 13 rfl rfl)
theorem dX0_enters_14 : decode cX0_enters 14 = .ok (.ifCond .eq 5, 3) := dk_153 0 5 (dk_at dksX0_enters_0 14 rfl rfl)
theorem dX0_enters_17 : decode cX0_enters 17 = .ok (.iconst 0, 1) := dk_3 (dk_at dksX0_enters_0 17 rfl rfl)
theorem dX0_enters_18 : decode cX0_enters 18 = .ok (.ireturn, 1) := dk_172 (dk_at dksX0_enters_0 18 rfl rfl)
theorem dX0_enters_19 : decode cX0_enters 19 = .ok (.aload_n 0, 1) := dk_42 (dk_at dksX0_enters_0 19 rfl rfl)
theorem dX0_enters_20 : decode cX0_enters 20 = .ok (.getfield 76, 3) := dk_180 0 76 (dk_at dksX0_enters_0 20 rfl rfl)
theorem dX0_enters_23 : decode cX0_enters 23 = .ok (.iload_n 1, 1) := dk_27 (dk_at dksX0_enters_0 23 rfl rfl)
theorem dX0_enters_24 : decode cX0_enters 24 = .ok (.iconst 1, 1) := dk_4 (dk_at dksX0_enters_1 0 rfl rfl)
theorem dX0_enters_25 : decode cX0_enters 25 = .ok (.bastore, 1) := dk_84 (dk_at dksX0_enters_1 1 rfl rfl)
theorem dX0_enters_26 : decode cX0_enters 26 = .ok (.aload_n 0, 1) := dk_42 (dk_at dksX0_enters_1 2 rfl rfl)
theorem dX0_enters_27 : decode cX0_enters 27 = .ok (.getfield 73, 3) := dk_180 0 73 (dk_at dksX0_enters_1 3 rfl rfl)
theorem dX0_enters_30 : decode cX0_enters 30 = .ok (.iload_n 1, 1) := dk_27 (dk_at dksX0_enters_1 6 rfl rfl)
theorem dX0_enters_31 : decode cX0_enters 31 = .ok (.iaload, 1) := dk_46 (dk_at dksX0_enters_1 7 rfl rfl)
theorem dX0_enters_32 : decode cX0_enters 32 = .ok (.iconst (-1), 1) := dk_2 (dk_at dksX0_enters_1 8 rfl rfl)
theorem dX0_enters_33 : decode cX0_enters 33 = .ok (.if_icmp .eq 30, 3) := dk_159 0 30 (dk_at dksX0_enters_1 9 rfl rfl)
theorem dX0_enters_36 : decode cX0_enters 36 = .ok (.aload_n 0, 1) := dk_42 (dk_at dksX0_enters_1 12 rfl rfl)
theorem dX0_enters_37 : decode cX0_enters 37 = .ok (.getfield 70, 3) := dk_180 0 70 (dk_at dksX0_enters_1 13 rfl rfl)
theorem dX0_enters_40 : decode cX0_enters 40 = .ok (.iload_n 1, 1) := dk_27 (dk_at dksX0_enters_1 16 rfl rfl)
theorem dX0_enters_41 : decode cX0_enters 41 = .ok (.iaload, 1) := dk_46 (dk_at dksX0_enters_1 17 rfl rfl)
theorem dX0_enters_42 : decode cX0_enters 42 = .ok (.sipush 144, 3) := dk_17 0 144 (dk_at dksX0_enters_1 18 rfl rfl)
theorem dX0_enters_45 : decode cX0_enters 45 = .ok (.if_icmp .eq 16, 3) := dk_159 0 16 (dk_at dksX0_enters_1 21 rfl rfl)
theorem dX0_enters_48 : decode cX0_enters 48 = .ok (.aload_n 0, 1) := dk_42 (dk_at dksX0_enters_2 0 rfl rfl)
theorem dX0_enters_49 : decode cX0_enters 49 = .ok (.aload_n 0, 1) := dk_42 (dk_at dksX0_enters_2 1 rfl rfl)
theorem dX0_enters_50 : decode cX0_enters 50 = .ok (.getfield 70, 3) := dk_180 0 70 (dk_at dksX0_enters_2 2 rfl rfl)
theorem dX0_enters_53 : decode cX0_enters 53 = .ok (.iload_n 1, 1) := dk_27 (dk_at dksX0_enters_2 5 rfl rfl)
theorem dX0_enters_54 : decode cX0_enters 54 = .ok (.iaload, 1) := dk_46 (dk_at dksX0_enters_2 6 rfl rfl)
theorem dX0_enters_55 : decode cX0_enters 55 = .ok (.invokevirtual 408, 3) := dk_182 1 152 (dk_at dksX0_enters_2 7 rfl rfl)
theorem dX0_enters_58 : decode cX0_enters 58 = .ok (.ifCond .ne 5, 3) := dk_154 0 5 (dk_at dksX0_enters_2 10 rfl rfl)
theorem dX0_enters_61 : decode cX0_enters 61 = .ok (.iconst 0, 1) := dk_3 (dk_at dksX0_enters_2 13 rfl rfl)
theorem dX0_enters_62 : decode cX0_enters 62 = .ok (.ireturn, 1) := dk_172 (dk_at dksX0_enters_2 14 rfl rfl)
theorem dX0_enters_63 : decode cX0_enters 63 = .ok (.aload_n 0, 1) := dk_42 (dk_at dksX0_enters_2 15 rfl rfl)
theorem dX0_enters_64 : decode cX0_enters 64 = .ok (.getfield 73, 3) := dk_180 0 73 (dk_at dksX0_enters_2 16 rfl rfl)
theorem dX0_enters_67 : decode cX0_enters 67 = .ok (.iload_n 1, 1) := dk_27 (dk_at dksX0_enters_2 19 rfl rfl)
theorem dX0_enters_68 : decode cX0_enters 68 = .ok (.iaload, 1) := dk_46 (dk_at dksX0_enters_2 20 rfl rfl)
theorem dX0_enters_69 : decode cX0_enters 69 = .ok (.iconst (-1), 1) := dk_2 (dk_at dksX0_enters_2 21 rfl rfl)
theorem dX0_enters_70 : decode cX0_enters 70 = .ok (.if_icmp .ne 13, 3) := dk_160 0 13 (dk_at dksX0_enters_3 0 rfl rfl)
theorem dX0_enters_73 : decode cX0_enters 73 = .ok (.aload_n 0, 1) := dk_42 (dk_at dksX0_enters_3 3 rfl rfl)
theorem dX0_enters_74 : decode cX0_enters 74 = .ok (.iload_n 1, 1) := dk_27 (dk_at dksX0_enters_3 4 rfl rfl)
theorem dX0_enters_75 : decode cX0_enters 75 = .ok (.invokevirtual 408, 3) := dk_182 1 152 (dk_at dksX0_enters_3 5 rfl rfl)
theorem dX0_enters_78 : decode cX0_enters 78 = .ok (.ifCond .ne 5, 3) := dk_154 0 5 (dk_at dksX0_enters_3 8 rfl rfl)
theorem dX0_enters_81 : decode cX0_enters 81 = .ok (.iconst 0, 1) := dk_3 (dk_at dksX0_enters_3 11 rfl rfl)
theorem dX0_enters_82 : decode cX0_enters 82 = .ok (.ireturn, 1) := dk_172 (dk_at dksX0_enters_3 12 rfl rfl)
theorem dX0_enters_83 : decode cX0_enters 83 = .ok (.aload_n 0, 1) := dk_42 (dk_at dksX0_enters_3 13 rfl rfl)
theorem dX0_enters_84 : decode cX0_enters 84 = .ok (.getfield 70, 3) := dk_180 0 70 (dk_at dksX0_enters_3 14 rfl rfl)
theorem dX0_enters_87 : decode cX0_enters 87 = .ok (.iload_n 1, 1) := dk_27 (dk_at dksX0_enters_3 17 rfl rfl)
theorem dX0_enters_88 : decode cX0_enters 88 = .ok (.iload_n 2, 1) := dk_28 (dk_at dksX0_enters_3 18 rfl rfl)
theorem dX0_enters_89 : decode cX0_enters 89 = .ok (.iastore, 1) := dk_79 (dk_at dksX0_enters_3 19 rfl rfl)
theorem dX0_enters_90 : decode cX0_enters 90 = .ok (.iconst 1, 1) := dk_4 (dk_at dksX0_enters_3 20 rfl rfl)
theorem dX0_enters_91 : decode cX0_enters 91 = .ok (.ireturn, 1) := dk_172 (dk_at dksX0_enters_3 21 rfl rfl)
abbrev cX0_leaves : ByteArray := prog_1_method_56_code
def yX0_leaves : MethodName := ⟨RX0, "leaves", "(I)Z"⟩
def dkwX0_leaves_7 : List UInt8 := [42, 180, 0, 70, 27, 2, 79, 4, 172]
abbrev dktX0_leaves_7 : List UInt8 := dkwX0_leaves_7 ++ []
def dkwX0_leaves_6 : List UInt8 := [4, 84, 42, 42, 180, 0, 70, 27, 46, 182, 1, 152, 154, 0, 5, 3, 172, 42, 180, 0, 73, 27, 2, 79]
abbrev dktX0_leaves_6 : List UInt8 := dkwX0_leaves_6 ++ dktX0_leaves_7
def dkwX0_leaves_5 : List UInt8 := [27, 46, 17, 0, 144, 159, 0, 12, 42, 180, 0, 76, 27, 51, 153, 0, 5, 3, 172, 42, 180, 0, 76, 27]
abbrev dktX0_leaves_5 : List UInt8 := dkwX0_leaves_5 ++ dktX0_leaves_6
def dkwX0_leaves_4 : List UInt8 := [180, 0, 73, 27, 21, 4, 79, 4, 172, 132, 3, 1, 167, 255, 206, 28, 2, 159, 0, 24, 42, 180, 0, 70]
abbrev dktX0_leaves_4 : List UInt8 := dkwX0_leaves_4 ++ dktX0_leaves_5
def dkwX0_leaves_3 : List UInt8 := [159, 0, 32, 21, 4, 28, 159, 0, 26, 42, 21, 4, 27, 182, 1, 155, 154, 0, 6, 167, 0, 13, 42]
abbrev dktX0_leaves_3 : List UInt8 := dkwX0_leaves_3 ++ dktX0_leaves_4
def dkwX0_leaves_2 : List UInt8 := [17, 0, 144, 79, 4, 172, 3, 62, 29, 7, 162, 0, 51, 27, 29, 184, 1, 57, 54, 4, 21, 4, 2]
abbrev dktX0_leaves_2 : List UInt8 := dkwX0_leaves_2 ++ dktX0_leaves_3
def dkwX0_leaves_1 : List UInt8 := [61, 27, 16, 12, 108, 16, 11, 160, 0, 21, 28, 17, 0, 144, 159, 0, 14, 42, 180, 0, 73, 27]
abbrev dktX0_leaves_1 : List UInt8 := dkwX0_leaves_1 ++ dktX0_leaves_2
def dkwX0_leaves_0 : List UInt8 := [42, 180, 0, 79, 27, 51, 153, 0, 5, 3, 172, 42, 180, 0, 79, 27, 4, 84, 42, 180, 0, 73, 27, 46]
abbrev dktX0_leaves_0 : List UInt8 := dkwX0_leaves_0 ++ dktX0_leaves_1
theorem dksX0_leaves_0 : cX0_leaves.data.toList.drop 0 = dktX0_leaves_0 := by decide +kernel
theorem dksX0_leaves_1 : cX0_leaves.data.toList.drop 24 = dktX0_leaves_1 := dk_seg dksX0_leaves_0 24 rfl rfl
theorem dksX0_leaves_2 : cX0_leaves.data.toList.drop 46 = dktX0_leaves_2 := dk_seg dksX0_leaves_1 22 rfl rfl
theorem dksX0_leaves_3 : cX0_leaves.data.toList.drop 69 = dktX0_leaves_3 := dk_seg dksX0_leaves_2 23 rfl rfl
theorem dksX0_leaves_4 : cX0_leaves.data.toList.drop 92 = dktX0_leaves_4 := dk_seg dksX0_leaves_3 23 rfl rfl
theorem dksX0_leaves_5 : cX0_leaves.data.toList.drop 116 = dktX0_leaves_5 := dk_seg dksX0_leaves_4 24 rfl rfl
theorem dksX0_leaves_6 : cX0_leaves.data.toList.drop 140 = dktX0_leaves_6 := dk_seg dksX0_leaves_5 24 rfl rfl
theorem dksX0_leaves_7 : cX0_leaves.data.toList.drop 164 = dktX0_leaves_7 := dk_seg dksX0_leaves_6 24 rfl rfl
theorem dX0_leaves_0 : decode cX0_leaves 0 = .ok (.aload_n 0, 1) := dk_42 (dk_at dksX0_leaves_0 0 rfl rfl)
theorem dX0_leaves_1 : decode cX0_leaves 1 = .ok (.getfield 79, 3) := dk_180 0 79 (dk_at dksX0_leaves_0 1 rfl rfl)
theorem dX0_leaves_4 : decode cX0_leaves 4 = .ok (.iload_n 1, 1) := dk_27 (dk_at dksX0_leaves_0 4 rfl rfl)
theorem dX0_leaves_5 : decode cX0_leaves 5 = .ok (.baload, 1) := dk_51 (dk_at dksX0_leaves_0 5 rfl rfl)
theorem dX0_leaves_6 : decode cX0_leaves 6 = .ok (.ifCond .eq 5, 3) := dk_153 0 5 (dk_at dksX0_leaves_0 6 rfl rfl)
theorem dX0_leaves_9 : decode cX0_leaves 9 = .ok (.iconst 0, 1) := dk_3 (dk_at dksX0_leaves_0 9 rfl rfl)
theorem dX0_leaves_10 : decode cX0_leaves 10 = .ok (.ireturn, 1) := dk_172 (dk_at dksX0_leaves_0 10 rfl rfl)
theorem dX0_leaves_11 : decode cX0_leaves 11 = .ok (.aload_n 0, 1) := dk_42 (dk_at dksX0_leaves_0 11 rfl rfl)
theorem dX0_leaves_12 : decode cX0_leaves 12 = .ok (.getfield 79, 3) := dk_180 0 79 (dk_at dksX0_leaves_0 12 rfl rfl)
theorem dX0_leaves_15 : decode cX0_leaves 15 = .ok (.iload_n 1, 1) := dk_27 (dk_at dksX0_leaves_0 15 rfl rfl)
theorem dX0_leaves_16 : decode cX0_leaves 16 = .ok (.iconst 1, 1) := dk_4 (dk_at dksX0_leaves_0 16 rfl rfl)
theorem dX0_leaves_17 : decode cX0_leaves 17 = .ok (.bastore, 1) := dk_84 (dk_at dksX0_leaves_0 17 rfl rfl)
theorem dX0_leaves_18 : decode cX0_leaves 18 = .ok (.aload_n 0, 1) := dk_42 (dk_at dksX0_leaves_0 18 rfl rfl)
theorem dX0_leaves_19 : decode cX0_leaves 19 = .ok (.getfield 73, 3) := dk_180 0 73 (dk_at dksX0_leaves_0 19 rfl rfl)
theorem dX0_leaves_22 : decode cX0_leaves 22 = .ok (.iload_n 1, 1) := dk_27 (dk_at dksX0_leaves_0 22 rfl rfl)
theorem dX0_leaves_23 : decode cX0_leaves 23 = .ok (.iaload, 1) := dk_46 (dk_at dksX0_leaves_0 23 rfl rfl)
theorem dX0_leaves_24 : decode cX0_leaves 24 = .ok (.istore_n 2, 1) := dk_61 (dk_at dksX0_leaves_1 0 rfl rfl)
theorem dX0_leaves_25 : decode cX0_leaves 25 = .ok (.iload_n 1, 1) := dk_27 (dk_at dksX0_leaves_1 1 rfl rfl)
theorem dX0_leaves_26 : decode cX0_leaves 26 = .ok (.bipush 12, 2) := dk_16 12 (dk_at dksX0_leaves_1 2 rfl rfl)
theorem dX0_leaves_28 : decode cX0_leaves 28 = .ok (.idiv, 1) := dk_108 (dk_at dksX0_leaves_1 4 rfl rfl)
theorem dX0_leaves_29 : decode cX0_leaves 29 = .ok (.bipush 11, 2) := dk_16 11 (dk_at dksX0_leaves_1 5 rfl rfl)
theorem dX0_leaves_31 : decode cX0_leaves 31 = .ok (.if_icmp .ne 21, 3) := dk_160 0 21 (dk_at dksX0_leaves_1 7 rfl rfl)
theorem dX0_leaves_34 : decode cX0_leaves 34 = .ok (.iload_n 2, 1) := dk_28 (dk_at dksX0_leaves_1 10 rfl rfl)
theorem dX0_leaves_35 : decode cX0_leaves 35 = .ok (.sipush 144, 3) := dk_17 0 144 (dk_at dksX0_leaves_1 11 rfl rfl)
theorem dX0_leaves_38 : decode cX0_leaves 38 = .ok (.if_icmp .eq 14, 3) := dk_159 0 14 (dk_at dksX0_leaves_1 14 rfl rfl)
theorem dX0_leaves_41 : decode cX0_leaves 41 = .ok (.aload_n 0, 1) := dk_42 (dk_at dksX0_leaves_1 17 rfl rfl)
theorem dX0_leaves_42 : decode cX0_leaves 42 = .ok (.getfield 73, 3) := dk_180 0 73 (dk_at dksX0_leaves_1 18 rfl rfl)
theorem dX0_leaves_45 : decode cX0_leaves 45 = .ok (.iload_n 1, 1) := dk_27 (dk_at dksX0_leaves_1 21 rfl rfl)
theorem dX0_leaves_46 : decode cX0_leaves 46 = .ok (.sipush 144, 3) := dk_17 0 144 (dk_at dksX0_leaves_2 0 rfl rfl)
theorem dX0_leaves_49 : decode cX0_leaves 49 = .ok (.iastore, 1) := dk_79 (dk_at dksX0_leaves_2 3 rfl rfl)
theorem dX0_leaves_50 : decode cX0_leaves 50 = .ok (.iconst 1, 1) := dk_4 (dk_at dksX0_leaves_2 4 rfl rfl)
theorem dX0_leaves_51 : decode cX0_leaves 51 = .ok (.ireturn, 1) := dk_172 (dk_at dksX0_leaves_2 5 rfl rfl)
theorem dX0_leaves_52 : decode cX0_leaves 52 = .ok (.iconst 0, 1) := dk_3 (dk_at dksX0_leaves_2 6 rfl rfl)
theorem dX0_leaves_53 : decode cX0_leaves 53 = .ok (.istore_n 3, 1) := dk_62 (dk_at dksX0_leaves_2 7 rfl rfl)
theorem dX0_leaves_54 : decode cX0_leaves 54 = .ok (.iload_n 3, 1) := dk_29 (dk_at dksX0_leaves_2 8 rfl rfl)
theorem dX0_leaves_55 : decode cX0_leaves 55 = .ok (.iconst 4, 1) := dk_7 (dk_at dksX0_leaves_2 9 rfl rfl)
theorem dX0_leaves_56 : decode cX0_leaves 56 = .ok (.if_icmp .ge 51, 3) := dk_162 0 51 (dk_at dksX0_leaves_2 10 rfl rfl)
theorem dX0_leaves_59 : decode cX0_leaves 59 = .ok (.iload_n 1, 1) := dk_27 (dk_at dksX0_leaves_2 13 rfl rfl)
theorem dX0_leaves_60 : decode cX0_leaves 60 = .ok (.iload_n 3, 1) := dk_29 (dk_at dksX0_leaves_2 14 rfl rfl)
theorem dX0_leaves_61 : decode cX0_leaves 61 = .ok (.invokestatic 313, 3) := dk_184 1 57 (dk_at dksX0_leaves_2 15 rfl rfl)
theorem dX0_leaves_64 : decode cX0_leaves 64 = .ok (.istore 4, 2) := dk_54 4 (dk_at dksX0_leaves_2 18 rfl rfl)
theorem dX0_leaves_66 : decode cX0_leaves 66 = .ok (.iload 4, 2) := dk_21 4 (dk_at dksX0_leaves_2 20 rfl rfl)
theorem dX0_leaves_68 : decode cX0_leaves 68 = .ok (.iconst (-1), 1) := dk_2 (dk_at dksX0_leaves_2 22 rfl rfl)
theorem dX0_leaves_69 : decode cX0_leaves 69 = .ok (.if_icmp .eq 32, 3) := dk_159 0 32 (dk_at dksX0_leaves_3 0 rfl rfl)
theorem dX0_leaves_72 : decode cX0_leaves 72 = .ok (.iload 4, 2) := dk_21 4 (dk_at dksX0_leaves_3 3 rfl rfl)
theorem dX0_leaves_74 : decode cX0_leaves 74 = .ok (.iload_n 2, 1) := dk_28 (dk_at dksX0_leaves_3 5 rfl rfl)
theorem dX0_leaves_75 : decode cX0_leaves 75 = .ok (.if_icmp .eq 26, 3) := dk_159 0 26 (dk_at dksX0_leaves_3 6 rfl rfl)
theorem dX0_leaves_78 : decode cX0_leaves 78 = .ok (.aload_n 0, 1) := dk_42 (dk_at dksX0_leaves_3 9 rfl rfl)
theorem dX0_leaves_79 : decode cX0_leaves 79 = .ok (.iload 4, 2) := dk_21 4 (dk_at dksX0_leaves_3 10 rfl rfl)
theorem dX0_leaves_81 : decode cX0_leaves 81 = .ok (.iload_n 1, 1) := dk_27 (dk_at dksX0_leaves_3 12 rfl rfl)
theorem dX0_leaves_82 : decode cX0_leaves 82 = .ok (.invokevirtual 411, 3) := dk_182 1 155 (dk_at dksX0_leaves_3 13 rfl rfl)
theorem dX0_leaves_85 : decode cX0_leaves 85 = .ok (.ifCond .ne 6, 3) := dk_154 0 6 (dk_at dksX0_leaves_3 16 rfl rfl)
theorem dX0_leaves_88 : decode cX0_leaves 88 = .ok (.goto 13, 3) := dk_167 0 13 (dk_at dksX0_leaves_3 19 rfl rfl)
theorem dX0_leaves_91 : decode cX0_leaves 91 = .ok (.aload_n 0, 1) := dk_42 (dk_at dksX0_leaves_3 22 rfl rfl)
theorem dX0_leaves_92 : decode cX0_leaves 92 = .ok (.getfield 73, 3) := dk_180 0 73 (dk_at dksX0_leaves_4 0 rfl rfl)
theorem dX0_leaves_95 : decode cX0_leaves 95 = .ok (.iload_n 1, 1) := dk_27 (dk_at dksX0_leaves_4 3 rfl rfl)
theorem dX0_leaves_96 : decode cX0_leaves 96 = .ok (.iload 4, 2) := dk_21 4 (dk_at dksX0_leaves_4 4 rfl rfl)
theorem dX0_leaves_98 : decode cX0_leaves 98 = .ok (.iastore, 1) := dk_79 (dk_at dksX0_leaves_4 6 rfl rfl)
theorem dX0_leaves_99 : decode cX0_leaves 99 = .ok (.iconst 1, 1) := dk_4 (dk_at dksX0_leaves_4 7 rfl rfl)
theorem dX0_leaves_100 : decode cX0_leaves 100 = .ok (.ireturn, 1) := dk_172 (dk_at dksX0_leaves_4 8 rfl rfl)
theorem dX0_leaves_101 : decode cX0_leaves 101 = .ok (.iinc 3 1, 3) := dk_132 3 1 (dk_at dksX0_leaves_4 9 rfl rfl)
theorem dX0_leaves_104 : decode cX0_leaves 104 = .ok (.goto (-50), 3) := dk_167 255 206 (dk_at dksX0_leaves_4 12 rfl rfl)
theorem dX0_leaves_107 : decode cX0_leaves 107 = .ok (.iload_n 2, 1) := dk_28 (dk_at dksX0_leaves_4 15 rfl rfl)
theorem dX0_leaves_108 : decode cX0_leaves 108 = .ok (.iconst (-1), 1) := dk_2 (dk_at dksX0_leaves_4 16 rfl rfl)
theorem dX0_leaves_109 : decode cX0_leaves 109 = .ok (.if_icmp .eq 24, 3) := dk_159 0 24 (dk_at dksX0_leaves_4 17 rfl rfl)
theorem dX0_leaves_112 : decode cX0_leaves 112 = .ok (.aload_n 0, 1) := dk_42 (dk_at dksX0_leaves_4 20 rfl rfl)
theorem dX0_leaves_113 : decode cX0_leaves 113 = .ok (.getfield 70, 3) := dk_180 0 70 (dk_at dksX0_leaves_4 21 rfl rfl)
theorem dX0_leaves_116 : decode cX0_leaves 116 = .ok (.iload_n 1, 1) := dk_27 (dk_at dksX0_leaves_5 0 rfl rfl)
theorem dX0_leaves_117 : decode cX0_leaves 117 = .ok (.iaload, 1) := dk_46 (dk_at dksX0_leaves_5 1 rfl rfl)
theorem dX0_leaves_118 : decode cX0_leaves 118 = .ok (.sipush 144, 3) := dk_17 0 144 (dk_at dksX0_leaves_5 2 rfl rfl)
theorem dX0_leaves_121 : decode cX0_leaves 121 = .ok (.if_icmp .eq 12, 3) := dk_159 0 12 (dk_at dksX0_leaves_5 5 rfl rfl)
theorem dX0_leaves_124 : decode cX0_leaves 124 = .ok (.aload_n 0, 1) := dk_42 (dk_at dksX0_leaves_5 8 rfl rfl)
theorem dX0_leaves_125 : decode cX0_leaves 125 = .ok (.getfield 76, 3) := dk_180 0 76 (dk_at dksX0_leaves_5 9 rfl rfl)
theorem dX0_leaves_128 : decode cX0_leaves 128 = .ok (.iload_n 1, 1) := dk_27 (dk_at dksX0_leaves_5 12 rfl rfl)
theorem dX0_leaves_129 : decode cX0_leaves 129 = .ok (.baload, 1) := dk_51 (dk_at dksX0_leaves_5 13 rfl rfl)
theorem dX0_leaves_130 : decode cX0_leaves 130 = .ok (.ifCond .eq 5, 3) := dk_153 0 5 (dk_at dksX0_leaves_5 14 rfl rfl)
theorem dX0_leaves_133 : decode cX0_leaves 133 = .ok (.iconst 0, 1) := dk_3 (dk_at dksX0_leaves_5 17 rfl rfl)
theorem dX0_leaves_134 : decode cX0_leaves 134 = .ok (.ireturn, 1) := dk_172 (dk_at dksX0_leaves_5 18 rfl rfl)
theorem dX0_leaves_135 : decode cX0_leaves 135 = .ok (.aload_n 0, 1) := dk_42 (dk_at dksX0_leaves_5 19 rfl rfl)
theorem dX0_leaves_136 : decode cX0_leaves 136 = .ok (.getfield 76, 3) := dk_180 0 76 (dk_at dksX0_leaves_5 20 rfl rfl)
theorem dX0_leaves_139 : decode cX0_leaves 139 = .ok (.iload_n 1, 1) := dk_27 (dk_at dksX0_leaves_5 23 rfl rfl)
theorem dX0_leaves_140 : decode cX0_leaves 140 = .ok (.iconst 1, 1) := dk_4 (dk_at dksX0_leaves_6 0 rfl rfl)
theorem dX0_leaves_141 : decode cX0_leaves 141 = .ok (.bastore, 1) := dk_84 (dk_at dksX0_leaves_6 1 rfl rfl)
theorem dX0_leaves_142 : decode cX0_leaves 142 = .ok (.aload_n 0, 1) := dk_42 (dk_at dksX0_leaves_6 2 rfl rfl)
theorem dX0_leaves_143 : decode cX0_leaves 143 = .ok (.aload_n 0, 1) := dk_42 (dk_at dksX0_leaves_6 3 rfl rfl)
theorem dX0_leaves_144 : decode cX0_leaves 144 = .ok (.getfield 70, 3) := dk_180 0 70 (dk_at dksX0_leaves_6 4 rfl rfl)
theorem dX0_leaves_147 : decode cX0_leaves 147 = .ok (.iload_n 1, 1) := dk_27 (dk_at dksX0_leaves_6 7 rfl rfl)
theorem dX0_leaves_148 : decode cX0_leaves 148 = .ok (.iaload, 1) := dk_46 (dk_at dksX0_leaves_6 8 rfl rfl)
theorem dX0_leaves_149 : decode cX0_leaves 149 = .ok (.invokevirtual 408, 3) := dk_182 1 152 (dk_at dksX0_leaves_6 9 rfl rfl)
theorem dX0_leaves_152 : decode cX0_leaves 152 = .ok (.ifCond .ne 5, 3) := dk_154 0 5 (dk_at dksX0_leaves_6 12 rfl rfl)
theorem dX0_leaves_155 : decode cX0_leaves 155 = .ok (.iconst 0, 1) := dk_3 (dk_at dksX0_leaves_6 15 rfl rfl)
theorem dX0_leaves_156 : decode cX0_leaves 156 = .ok (.ireturn, 1) := dk_172 (dk_at dksX0_leaves_6 16 rfl rfl)
theorem dX0_leaves_157 : decode cX0_leaves 157 = .ok (.aload_n 0, 1) := dk_42 (dk_at dksX0_leaves_6 17 rfl rfl)
theorem dX0_leaves_158 : decode cX0_leaves 158 = .ok (.getfield 73, 3) := dk_180 0 73 (dk_at dksX0_leaves_6 18 rfl rfl)
theorem dX0_leaves_161 : decode cX0_leaves 161 = .ok (.iload_n 1, 1) := dk_27 (dk_at dksX0_leaves_6 21 rfl rfl)
theorem dX0_leaves_162 : decode cX0_leaves 162 = .ok (.iconst (-1), 1) := dk_2 (dk_at dksX0_leaves_6 22 rfl rfl)
theorem dX0_leaves_163 : decode cX0_leaves 163 = .ok (.iastore, 1) := dk_79 (dk_at dksX0_leaves_6 23 rfl rfl)
theorem dX0_leaves_164 : decode cX0_leaves 164 = .ok (.aload_n 0, 1) := dk_42 (dk_at dksX0_leaves_7 0 rfl rfl)
theorem dX0_leaves_165 : decode cX0_leaves 165 = .ok (.getfield 70, 3) := dk_180 0 70 (dk_at dksX0_leaves_7 1 rfl rfl)
theorem dX0_leaves_168 : decode cX0_leaves 168 = .ok (.iload_n 1, 1) := dk_27 (dk_at dksX0_leaves_7 4 rfl rfl)
theorem dX0_leaves_169 : decode cX0_leaves 169 = .ok (.iconst (-1), 1) := dk_2 (dk_at dksX0_leaves_7 5 rfl rfl)
theorem dX0_leaves_170 : decode cX0_leaves 170 = .ok (.iastore, 1) := dk_79 (dk_at dksX0_leaves_7 6 rfl rfl)
theorem dX0_leaves_171 : decode cX0_leaves 171 = .ok (.iconst 1, 1) := dk_4 (dk_at dksX0_leaves_7 7 rfl rfl)
theorem dX0_leaves_172 : decode cX0_leaves 172 = .ok (.ireturn, 1) := dk_172 (dk_at dksX0_leaves_7 8 rfl rfl)
abbrev cX0_fewestStones : ByteArray := prog_1_method_60_code
def yX0_fewestStones : MethodName := ⟨RX0, "fewestStones", "()I"⟩
def dkwX0_fewestStones_8 : List UInt8 := [16, 12, 28, 104, 16, 12, 96, 4, 100, 46, 184, 0, 101, 60, 132, 2, 1, 167, 255, 228, 27, 172]
abbrev dktX0_fewestStones_8 : List UInt8 := dkwX0_fewestStones_8 ++ []
def dkwX0_fewestStones_7 : List UInt8 := [167, 255, 140, 167, 255, 129, 19, 1, 56, 60, 3, 61, 28, 16, 12, 162, 0, 28, 27, 42, 180, 0, 38]
abbrev dktX0_fewestStones_7 : List UInt8 := dkwX0_fewestStones_7 ++ dktX0_fewestStones_8
def dkwX0_fewestStones_6 : List UInt8 := [104, 21, 4, 96, 46, 42, 28, 182, 1, 161, 96, 79, 4, 60, 132, 3, 1, 167, 255, 155, 132, 2, 1]
abbrev dktX0_fewestStones_6 : List UInt8 := dkwX0_fewestStones_6 ++ dktX0_fewestStones_7
def dkwX0_fewestStones_5 : List UInt8 := [180, 0, 38, 28, 46, 161, 0, 6, 167, 0, 30, 42, 180, 0, 38, 28, 42, 180, 0, 38, 16, 12, 21, 5]
abbrev dktX0_fewestStones_5 : List UInt8 := dkwX0_fewestStones_5 ++ dktX0_fewestStones_6
def dkwX0_fewestStones_4 : List UInt8 := [153, 0, 61, 42, 180, 0, 38, 16, 12, 21, 5, 104, 21, 4, 96, 46, 42, 28, 182, 1, 161, 96, 42]
abbrev dktX0_fewestStones_4 : List UInt8 := dkwX0_fewestStones_4 ++ dktX0_fewestStones_5
def dkwX0_fewestStones_3 : List UInt8 := [96, 4, 100, 54, 4, 28, 16, 12, 108, 29, 6, 108, 96, 4, 100, 54, 5, 21, 4, 21, 5, 184, 0, 121]
abbrev dktX0_fewestStones_3 : List UInt8 := dkwX0_fewestStones_3 ++ dktX0_fewestStones_4
def dkwX0_fewestStones_2 : List UInt8 := [3, 61, 28, 17, 0, 144, 162, 0, 115, 3, 62, 29, 16, 9, 162, 0, 101, 28, 16, 12, 112, 29, 6, 112]
abbrev dktX0_fewestStones_2 : List UInt8 := dkwX0_fewestStones_2 ++ dktX0_fewestStones_3
def dkwX0_fewestStones_1 : List UInt8 := [182, 1, 161, 167, 0, 6, 19, 1, 56, 79, 132, 1, 1, 167, 255, 222, 4, 60, 27, 153, 0, 129, 3, 60]
abbrev dktX0_fewestStones_1 : List UInt8 := dkwX0_fewestStones_1 ++ dktX0_fewestStones_2
def dkwX0_fewestStones_0 : List UInt8 := [3, 60, 27, 17, 0, 144, 162, 0, 33, 42, 180, 0, 38, 27, 27, 16, 12, 112, 154, 0, 11, 42, 27]
abbrev dktX0_fewestStones_0 : List UInt8 := dkwX0_fewestStones_0 ++ dktX0_fewestStones_1
theorem dksX0_fewestStones_0 : cX0_fewestStones.data.toList.drop 0 = dktX0_fewestStones_0 := by decide +kernel
theorem dksX0_fewestStones_1 : cX0_fewestStones.data.toList.drop 23 = dktX0_fewestStones_1 := dk_seg dksX0_fewestStones_0 23 rfl rfl
theorem dksX0_fewestStones_2 : cX0_fewestStones.data.toList.drop 47 = dktX0_fewestStones_2 := dk_seg dksX0_fewestStones_1 24 rfl rfl
theorem dksX0_fewestStones_3 : cX0_fewestStones.data.toList.drop 71 = dktX0_fewestStones_3 := dk_seg dksX0_fewestStones_2 24 rfl rfl
theorem dksX0_fewestStones_4 : cX0_fewestStones.data.toList.drop 95 = dktX0_fewestStones_4 := dk_seg dksX0_fewestStones_3 24 rfl rfl
theorem dksX0_fewestStones_5 : cX0_fewestStones.data.toList.drop 118 = dktX0_fewestStones_5 := dk_seg dksX0_fewestStones_4 23 rfl rfl
theorem dksX0_fewestStones_6 : cX0_fewestStones.data.toList.drop 142 = dktX0_fewestStones_6 := dk_seg dksX0_fewestStones_5 24 rfl rfl
theorem dksX0_fewestStones_7 : cX0_fewestStones.data.toList.drop 165 = dktX0_fewestStones_7 := dk_seg dksX0_fewestStones_6 23 rfl rfl
theorem dksX0_fewestStones_8 : cX0_fewestStones.data.toList.drop 188 = dktX0_fewestStones_8 := dk_seg dksX0_fewestStones_7 23 rfl rfl
theorem dX0_fewestStones_0 : decode cX0_fewestStones 0 = .ok (.iconst 0, 1) := dk_3 (dk_at dksX0_fewestStones_0 0 rfl rfl)
theorem dX0_fewestStones_1 : decode cX0_fewestStones 1 = .ok (.istore_n 1, 1) := dk_60 (dk_at dksX0_fewestStones_0 1 rfl rfl)
theorem dX0_fewestStones_2 : decode cX0_fewestStones 2 = .ok (.iload_n 1, 1) := dk_27 (dk_at dksX0_fewestStones_0 2 rfl rfl)
theorem dX0_fewestStones_3 : decode cX0_fewestStones 3 = .ok (.sipush 144, 3) := dk_17 0 144 (dk_at dksX0_fewestStones_0 3 rfl rfl)
theorem dX0_fewestStones_6 : decode cX0_fewestStones 6 = .ok (.if_icmp .ge 33, 3) := dk_162 0 33 (dk_at dksX0_fewestStones_0 6 rfl rfl)
theorem dX0_fewestStones_9 : decode cX0_fewestStones 9 = .ok (.aload_n 0, 1) := dk_42 (dk_at dksX0_fewestStones_0 9 rfl rfl)
theorem dX0_fewestStones_10 : decode cX0_fewestStones 10 = .ok (.getfield 38, 3) := dk_180 0 38 (dk_at dksX0_fewestStones_0 10 rfl rfl)
theorem dX0_fewestStones_13 : decode cX0_fewestStones 13 = .ok (.iload_n 1, 1) := dk_27 (dk_at dksX0_fewestStones_0 13 rfl rfl)
theorem dX0_fewestStones_14 : decode cX0_fewestStones 14 = .ok (.iload_n 1, 1) := dk_27 (dk_at dksX0_fewestStones_0 14 rfl rfl)
theorem dX0_fewestStones_15 : decode cX0_fewestStones 15 = .ok (.bipush 12, 2) := dk_16 12 (dk_at dksX0_fewestStones_0 15 rfl rfl)
theorem dX0_fewestStones_17 : decode cX0_fewestStones 17 = .ok (.irem, 1) := dk_112 (dk_at dksX0_fewestStones_0 17 rfl rfl)
theorem dX0_fewestStones_18 : decode cX0_fewestStones 18 = .ok (.ifCond .ne 11, 3) := dk_154 0 11 (dk_at dksX0_fewestStones_0 18 rfl rfl)
theorem dX0_fewestStones_21 : decode cX0_fewestStones 21 = .ok (.aload_n 0, 1) := dk_42 (dk_at dksX0_fewestStones_0 21 rfl rfl)
theorem dX0_fewestStones_22 : decode cX0_fewestStones 22 = .ok (.iload_n 1, 1) := dk_27 (dk_at dksX0_fewestStones_0 22 rfl rfl)
theorem dX0_fewestStones_23 : decode cX0_fewestStones 23 = .ok (.invokevirtual 417, 3) := dk_182 1 161 (dk_at dksX0_fewestStones_1 0 rfl rfl)
theorem dX0_fewestStones_26 : decode cX0_fewestStones 26 = .ok (.goto 6, 3) := dk_167 0 6 (dk_at dksX0_fewestStones_1 3 rfl rfl)
theorem dX0_fewestStones_29 : decode cX0_fewestStones 29 = .ok (.ldc_w 312, 3) := dk_19 1 56 (dk_at dksX0_fewestStones_1 6 rfl rfl)
theorem dX0_fewestStones_32 : decode cX0_fewestStones 32 = .ok (.iastore, 1) := dk_79 (dk_at dksX0_fewestStones_1 9 rfl rfl)
theorem dX0_fewestStones_33 : decode cX0_fewestStones 33 = .ok (.iinc 1 1, 3) := dk_132 1 1 (dk_at dksX0_fewestStones_1 10 rfl rfl)
theorem dX0_fewestStones_36 : decode cX0_fewestStones 36 = .ok (.goto (-34), 3) := dk_167 255 222 (dk_at dksX0_fewestStones_1 13 rfl rfl)
theorem dX0_fewestStones_39 : decode cX0_fewestStones 39 = .ok (.iconst 1, 1) := dk_4 (dk_at dksX0_fewestStones_1 16 rfl rfl)
theorem dX0_fewestStones_40 : decode cX0_fewestStones 40 = .ok (.istore_n 1, 1) := dk_60 (dk_at dksX0_fewestStones_1 17 rfl rfl)
theorem dX0_fewestStones_41 : decode cX0_fewestStones 41 = .ok (.iload_n 1, 1) := dk_27 (dk_at dksX0_fewestStones_1 18 rfl rfl)
theorem dX0_fewestStones_42 : decode cX0_fewestStones 42 = .ok (.ifCond .eq 129, 3) := dk_153 0 129 (dk_at dksX0_fewestStones_1 19 rfl rfl)
theorem dX0_fewestStones_45 : decode cX0_fewestStones 45 = .ok (.iconst 0, 1) := dk_3 (dk_at dksX0_fewestStones_1 22 rfl rfl)
theorem dX0_fewestStones_46 : decode cX0_fewestStones 46 = .ok (.istore_n 1, 1) := dk_60 (dk_at dksX0_fewestStones_1 23 rfl rfl)
theorem dX0_fewestStones_47 : decode cX0_fewestStones 47 = .ok (.iconst 0, 1) := dk_3 (dk_at dksX0_fewestStones_2 0 rfl rfl)
theorem dX0_fewestStones_48 : decode cX0_fewestStones 48 = .ok (.istore_n 2, 1) := dk_61 (dk_at dksX0_fewestStones_2 1 rfl rfl)
theorem dX0_fewestStones_49 : decode cX0_fewestStones 49 = .ok (.iload_n 2, 1) := dk_28 (dk_at dksX0_fewestStones_2 2 rfl rfl)
theorem dX0_fewestStones_50 : decode cX0_fewestStones 50 = .ok (.sipush 144, 3) := dk_17 0 144 (dk_at dksX0_fewestStones_2 3 rfl rfl)
theorem dX0_fewestStones_53 : decode cX0_fewestStones 53 = .ok (.if_icmp .ge 115, 3) := dk_162 0 115 (dk_at dksX0_fewestStones_2 6 rfl rfl)
theorem dX0_fewestStones_56 : decode cX0_fewestStones 56 = .ok (.iconst 0, 1) := dk_3 (dk_at dksX0_fewestStones_2 9 rfl rfl)
theorem dX0_fewestStones_57 : decode cX0_fewestStones 57 = .ok (.istore_n 3, 1) := dk_62 (dk_at dksX0_fewestStones_2 10 rfl rfl)
theorem dX0_fewestStones_58 : decode cX0_fewestStones 58 = .ok (.iload_n 3, 1) := dk_29 (dk_at dksX0_fewestStones_2 11 rfl rfl)
theorem dX0_fewestStones_59 : decode cX0_fewestStones 59 = .ok (.bipush 9, 2) := dk_16 9 (dk_at dksX0_fewestStones_2 12 rfl rfl)
theorem dX0_fewestStones_61 : decode cX0_fewestStones 61 = .ok (.if_icmp .ge 101, 3) := dk_162 0 101 (dk_at dksX0_fewestStones_2 14 rfl rfl)
theorem dX0_fewestStones_64 : decode cX0_fewestStones 64 = .ok (.iload_n 2, 1) := dk_28 (dk_at dksX0_fewestStones_2 17 rfl rfl)
theorem dX0_fewestStones_65 : decode cX0_fewestStones 65 = .ok (.bipush 12, 2) := dk_16 12 (dk_at dksX0_fewestStones_2 18 rfl rfl)
theorem dX0_fewestStones_67 : decode cX0_fewestStones 67 = .ok (.irem, 1) := dk_112 (dk_at dksX0_fewestStones_2 20 rfl rfl)
theorem dX0_fewestStones_68 : decode cX0_fewestStones 68 = .ok (.iload_n 3, 1) := dk_29 (dk_at dksX0_fewestStones_2 21 rfl rfl)
theorem dX0_fewestStones_69 : decode cX0_fewestStones 69 = .ok (.iconst 3, 1) := dk_6 (dk_at dksX0_fewestStones_2 22 rfl rfl)
theorem dX0_fewestStones_70 : decode cX0_fewestStones 70 = .ok (.irem, 1) := dk_112 (dk_at dksX0_fewestStones_2 23 rfl rfl)
theorem dX0_fewestStones_71 : decode cX0_fewestStones 71 = .ok (.iadd, 1) := dk_96 (dk_at dksX0_fewestStones_3 0 rfl rfl)
theorem dX0_fewestStones_72 : decode cX0_fewestStones 72 = .ok (.iconst 1, 1) := dk_4 (dk_at dksX0_fewestStones_3 1 rfl rfl)
theorem dX0_fewestStones_73 : decode cX0_fewestStones 73 = .ok (.isub, 1) := dk_100 (dk_at dksX0_fewestStones_3 2 rfl rfl)
theorem dX0_fewestStones_74 : decode cX0_fewestStones 74 = .ok (.istore 4, 2) := dk_54 4 (dk_at dksX0_fewestStones_3 3 rfl rfl)
theorem dX0_fewestStones_76 : decode cX0_fewestStones 76 = .ok (.iload_n 2, 1) := dk_28 (dk_at dksX0_fewestStones_3 5 rfl rfl)
theorem dX0_fewestStones_77 : decode cX0_fewestStones 77 = .ok (.bipush 12, 2) := dk_16 12 (dk_at dksX0_fewestStones_3 6 rfl rfl)
theorem dX0_fewestStones_79 : decode cX0_fewestStones 79 = .ok (.idiv, 1) := dk_108 (dk_at dksX0_fewestStones_3 8 rfl rfl)
theorem dX0_fewestStones_80 : decode cX0_fewestStones 80 = .ok (.iload_n 3, 1) := dk_29 (dk_at dksX0_fewestStones_3 9 rfl rfl)
theorem dX0_fewestStones_81 : decode cX0_fewestStones 81 = .ok (.iconst 3, 1) := dk_6 (dk_at dksX0_fewestStones_3 10 rfl rfl)
theorem dX0_fewestStones_82 : decode cX0_fewestStones 82 = .ok (.idiv, 1) := dk_108 (dk_at dksX0_fewestStones_3 11 rfl rfl)
theorem dX0_fewestStones_83 : decode cX0_fewestStones 83 = .ok (.iadd, 1) := dk_96 (dk_at dksX0_fewestStones_3 12 rfl rfl)
theorem dX0_fewestStones_84 : decode cX0_fewestStones 84 = .ok (.iconst 1, 1) := dk_4 (dk_at dksX0_fewestStones_3 13 rfl rfl)
theorem dX0_fewestStones_85 : decode cX0_fewestStones 85 = .ok (.isub, 1) := dk_100 (dk_at dksX0_fewestStones_3 14 rfl rfl)
theorem dX0_fewestStones_86 : decode cX0_fewestStones 86 = .ok (.istore 5, 2) := dk_54 5 (dk_at dksX0_fewestStones_3 15 rfl rfl)
theorem dX0_fewestStones_88 : decode cX0_fewestStones 88 = .ok (.iload 4, 2) := dk_21 4 (dk_at dksX0_fewestStones_3 17 rfl rfl)
theorem dX0_fewestStones_90 : decode cX0_fewestStones 90 = .ok (.iload 5, 2) := dk_21 5 (dk_at dksX0_fewestStones_3 19 rfl rfl)
theorem dX0_fewestStones_92 : decode cX0_fewestStones 92 = .ok (.invokestatic 121, 3) := dk_184 0 121 (dk_at dksX0_fewestStones_3 21 rfl rfl)
theorem dX0_fewestStones_95 : decode cX0_fewestStones 95 = .ok (.ifCond .eq 61, 3) := dk_153 0 61 (dk_at dksX0_fewestStones_4 0 rfl rfl)
theorem dX0_fewestStones_98 : decode cX0_fewestStones 98 = .ok (.aload_n 0, 1) := dk_42 (dk_at dksX0_fewestStones_4 3 rfl rfl)
theorem dX0_fewestStones_99 : decode cX0_fewestStones 99 = .ok (.getfield 38, 3) := dk_180 0 38 (dk_at dksX0_fewestStones_4 4 rfl rfl)
theorem dX0_fewestStones_102 : decode cX0_fewestStones 102 = .ok (.bipush 12, 2) := dk_16 12 (dk_at dksX0_fewestStones_4 7 rfl rfl)
theorem dX0_fewestStones_104 : decode cX0_fewestStones 104 = .ok (.iload 5, 2) := dk_21 5 (dk_at dksX0_fewestStones_4 9 rfl rfl)
theorem dX0_fewestStones_106 : decode cX0_fewestStones 106 = .ok (.imul, 1) := dk_104 (dk_at dksX0_fewestStones_4 11 rfl rfl)
theorem dX0_fewestStones_107 : decode cX0_fewestStones 107 = .ok (.iload 4, 2) := dk_21 4 (dk_at dksX0_fewestStones_4 12 rfl rfl)
theorem dX0_fewestStones_109 : decode cX0_fewestStones 109 = .ok (.iadd, 1) := dk_96 (dk_at dksX0_fewestStones_4 14 rfl rfl)
theorem dX0_fewestStones_110 : decode cX0_fewestStones 110 = .ok (.iaload, 1) := dk_46 (dk_at dksX0_fewestStones_4 15 rfl rfl)
theorem dX0_fewestStones_111 : decode cX0_fewestStones 111 = .ok (.aload_n 0, 1) := dk_42 (dk_at dksX0_fewestStones_4 16 rfl rfl)
theorem dX0_fewestStones_112 : decode cX0_fewestStones 112 = .ok (.iload_n 2, 1) := dk_28 (dk_at dksX0_fewestStones_4 17 rfl rfl)
theorem dX0_fewestStones_113 : decode cX0_fewestStones 113 = .ok (.invokevirtual 417, 3) := dk_182 1 161 (dk_at dksX0_fewestStones_4 18 rfl rfl)
theorem dX0_fewestStones_116 : decode cX0_fewestStones 116 = .ok (.iadd, 1) := dk_96 (dk_at dksX0_fewestStones_4 21 rfl rfl)
theorem dX0_fewestStones_117 : decode cX0_fewestStones 117 = .ok (.aload_n 0, 1) := dk_42 (dk_at dksX0_fewestStones_4 22 rfl rfl)
theorem dX0_fewestStones_118 : decode cX0_fewestStones 118 = .ok (.getfield 38, 3) := dk_180 0 38 (dk_at dksX0_fewestStones_5 0 rfl rfl)
theorem dX0_fewestStones_121 : decode cX0_fewestStones 121 = .ok (.iload_n 2, 1) := dk_28 (dk_at dksX0_fewestStones_5 3 rfl rfl)
theorem dX0_fewestStones_122 : decode cX0_fewestStones 122 = .ok (.iaload, 1) := dk_46 (dk_at dksX0_fewestStones_5 4 rfl rfl)
theorem dX0_fewestStones_123 : decode cX0_fewestStones 123 = .ok (.if_icmp .lt 6, 3) := dk_161 0 6 (dk_at dksX0_fewestStones_5 5 rfl rfl)
theorem dX0_fewestStones_126 : decode cX0_fewestStones 126 = .ok (.goto 30, 3) := dk_167 0 30 (dk_at dksX0_fewestStones_5 8 rfl rfl)
theorem dX0_fewestStones_129 : decode cX0_fewestStones 129 = .ok (.aload_n 0, 1) := dk_42 (dk_at dksX0_fewestStones_5 11 rfl rfl)
theorem dX0_fewestStones_130 : decode cX0_fewestStones 130 = .ok (.getfield 38, 3) := dk_180 0 38 (dk_at dksX0_fewestStones_5 12 rfl rfl)
theorem dX0_fewestStones_133 : decode cX0_fewestStones 133 = .ok (.iload_n 2, 1) := dk_28 (dk_at dksX0_fewestStones_5 15 rfl rfl)
theorem dX0_fewestStones_134 : decode cX0_fewestStones 134 = .ok (.aload_n 0, 1) := dk_42 (dk_at dksX0_fewestStones_5 16 rfl rfl)
theorem dX0_fewestStones_135 : decode cX0_fewestStones 135 = .ok (.getfield 38, 3) := dk_180 0 38 (dk_at dksX0_fewestStones_5 17 rfl rfl)
theorem dX0_fewestStones_138 : decode cX0_fewestStones 138 = .ok (.bipush 12, 2) := dk_16 12 (dk_at dksX0_fewestStones_5 20 rfl rfl)
theorem dX0_fewestStones_140 : decode cX0_fewestStones 140 = .ok (.iload 5, 2) := dk_21 5 (dk_at dksX0_fewestStones_5 22 rfl rfl)
theorem dX0_fewestStones_142 : decode cX0_fewestStones 142 = .ok (.imul, 1) := dk_104 (dk_at dksX0_fewestStones_6 0 rfl rfl)
theorem dX0_fewestStones_143 : decode cX0_fewestStones 143 = .ok (.iload 4, 2) := dk_21 4 (dk_at dksX0_fewestStones_6 1 rfl rfl)
theorem dX0_fewestStones_145 : decode cX0_fewestStones 145 = .ok (.iadd, 1) := dk_96 (dk_at dksX0_fewestStones_6 3 rfl rfl)
theorem dX0_fewestStones_146 : decode cX0_fewestStones 146 = .ok (.iaload, 1) := dk_46 (dk_at dksX0_fewestStones_6 4 rfl rfl)
theorem dX0_fewestStones_147 : decode cX0_fewestStones 147 = .ok (.aload_n 0, 1) := dk_42 (dk_at dksX0_fewestStones_6 5 rfl rfl)
theorem dX0_fewestStones_148 : decode cX0_fewestStones 148 = .ok (.iload_n 2, 1) := dk_28 (dk_at dksX0_fewestStones_6 6 rfl rfl)
theorem dX0_fewestStones_149 : decode cX0_fewestStones 149 = .ok (.invokevirtual 417, 3) := dk_182 1 161 (dk_at dksX0_fewestStones_6 7 rfl rfl)
theorem dX0_fewestStones_152 : decode cX0_fewestStones 152 = .ok (.iadd, 1) := dk_96 (dk_at dksX0_fewestStones_6 10 rfl rfl)
theorem dX0_fewestStones_153 : decode cX0_fewestStones 153 = .ok (.iastore, 1) := dk_79 (dk_at dksX0_fewestStones_6 11 rfl rfl)
theorem dX0_fewestStones_154 : decode cX0_fewestStones 154 = .ok (.iconst 1, 1) := dk_4 (dk_at dksX0_fewestStones_6 12 rfl rfl)
theorem dX0_fewestStones_155 : decode cX0_fewestStones 155 = .ok (.istore_n 1, 1) := dk_60 (dk_at dksX0_fewestStones_6 13 rfl rfl)
theorem dX0_fewestStones_156 : decode cX0_fewestStones 156 = .ok (.iinc 3 1, 3) := dk_132 3 1 (dk_at dksX0_fewestStones_6 14 rfl rfl)
theorem dX0_fewestStones_159 : decode cX0_fewestStones 159 = .ok (.goto (-101), 3) := dk_167 255 155 (dk_at dksX0_fewestStones_6 17 rfl rfl)
theorem dX0_fewestStones_162 : decode cX0_fewestStones 162 = .ok (.iinc 2 1, 3) := dk_132 2 1 (dk_at dksX0_fewestStones_6 20 rfl rfl)
theorem dX0_fewestStones_165 : decode cX0_fewestStones 165 = .ok (.goto (-116), 3) := dk_167 255 140 (dk_at dksX0_fewestStones_7 0 rfl rfl)
theorem dX0_fewestStones_168 : decode cX0_fewestStones 168 = .ok (.goto (-127), 3) := dk_167 255 129 (dk_at dksX0_fewestStones_7 3 rfl rfl)
theorem dX0_fewestStones_171 : decode cX0_fewestStones 171 = .ok (.ldc_w 312, 3) := dk_19 1 56 (dk_at dksX0_fewestStones_7 6 rfl rfl)
theorem dX0_fewestStones_174 : decode cX0_fewestStones 174 = .ok (.istore_n 1, 1) := dk_60 (dk_at dksX0_fewestStones_7 9 rfl rfl)
theorem dX0_fewestStones_175 : decode cX0_fewestStones 175 = .ok (.iconst 0, 1) := dk_3 (dk_at dksX0_fewestStones_7 10 rfl rfl)
theorem dX0_fewestStones_176 : decode cX0_fewestStones 176 = .ok (.istore_n 2, 1) := dk_61 (dk_at dksX0_fewestStones_7 11 rfl rfl)
theorem dX0_fewestStones_177 : decode cX0_fewestStones 177 = .ok (.iload_n 2, 1) := dk_28 (dk_at dksX0_fewestStones_7 12 rfl rfl)
theorem dX0_fewestStones_178 : decode cX0_fewestStones 178 = .ok (.bipush 12, 2) := dk_16 12 (dk_at dksX0_fewestStones_7 13 rfl rfl)
theorem dX0_fewestStones_180 : decode cX0_fewestStones 180 = .ok (.if_icmp .ge 28, 3) := dk_162 0 28 (dk_at dksX0_fewestStones_7 15 rfl rfl)
theorem dX0_fewestStones_183 : decode cX0_fewestStones 183 = .ok (.iload_n 1, 1) := dk_27 (dk_at dksX0_fewestStones_7 18 rfl rfl)
theorem dX0_fewestStones_184 : decode cX0_fewestStones 184 = .ok (.aload_n 0, 1) := dk_42 (dk_at dksX0_fewestStones_7 19 rfl rfl)
theorem dX0_fewestStones_185 : decode cX0_fewestStones 185 = .ok (.getfield 38, 3) := dk_180 0 38 (dk_at dksX0_fewestStones_7 20 rfl rfl)
theorem dX0_fewestStones_188 : decode cX0_fewestStones 188 = .ok (.bipush 12, 2) := dk_16 12 (dk_at dksX0_fewestStones_8 0 rfl rfl)
theorem dX0_fewestStones_190 : decode cX0_fewestStones 190 = .ok (.iload_n 2, 1) := dk_28 (dk_at dksX0_fewestStones_8 2 rfl rfl)
theorem dX0_fewestStones_191 : decode cX0_fewestStones 191 = .ok (.imul, 1) := dk_104 (dk_at dksX0_fewestStones_8 3 rfl rfl)
theorem dX0_fewestStones_192 : decode cX0_fewestStones 192 = .ok (.bipush 12, 2) := dk_16 12 (dk_at dksX0_fewestStones_8 4 rfl rfl)
theorem dX0_fewestStones_194 : decode cX0_fewestStones 194 = .ok (.iadd, 1) := dk_96 (dk_at dksX0_fewestStones_8 6 rfl rfl)
theorem dX0_fewestStones_195 : decode cX0_fewestStones 195 = .ok (.iconst 1, 1) := dk_4 (dk_at dksX0_fewestStones_8 7 rfl rfl)
theorem dX0_fewestStones_196 : decode cX0_fewestStones 196 = .ok (.isub, 1) := dk_100 (dk_at dksX0_fewestStones_8 8 rfl rfl)
theorem dX0_fewestStones_197 : decode cX0_fewestStones 197 = .ok (.iaload, 1) := dk_46 (dk_at dksX0_fewestStones_8 9 rfl rfl)
theorem dX0_fewestStones_198 : decode cX0_fewestStones 198 = .ok (.invokestatic 101, 3) := dk_184 0 101 (dk_at dksX0_fewestStones_8 10 rfl rfl)
theorem dX0_fewestStones_201 : decode cX0_fewestStones 201 = .ok (.istore_n 1, 1) := dk_60 (dk_at dksX0_fewestStones_8 13 rfl rfl)
theorem dX0_fewestStones_202 : decode cX0_fewestStones 202 = .ok (.iinc 2 1, 3) := dk_132 2 1 (dk_at dksX0_fewestStones_8 14 rfl rfl)
theorem dX0_fewestStones_205 : decode cX0_fewestStones 205 = .ok (.goto (-28), 3) := dk_167 255 228 (dk_at dksX0_fewestStones_8 17 rfl rfl)
theorem dX0_fewestStones_208 : decode cX0_fewestStones 208 = .ok (.iload_n 1, 1) := dk_27 (dk_at dksX0_fewestStones_8 20 rfl rfl)
theorem dX0_fewestStones_209 : decode cX0_fewestStones 209 = .ok (.ireturn, 1) := dk_172 (dk_at dksX0_fewestStones_8 21 rfl rfl)
abbrev cX0_costOf : ByteArray := prog_1_method_59_code
def yX0_costOf : MethodName := ⟨RX0, "costOf", "(I)I"⟩
def dkwX0_costOf_0 : List UInt8 := [42, 180, 0, 20, 180, 0, 219, 27, 46, 4, 160, 0, 7, 3, 167, 0, 4, 4, 172]
abbrev dktX0_costOf_0 : List UInt8 := dkwX0_costOf_0 ++ []
theorem dksX0_costOf_0 : cX0_costOf.data.toList.drop 0 = dktX0_costOf_0 := by decide +kernel
theorem dX0_costOf_0 : decode cX0_costOf 0 = .ok (.aload_n 0, 1) := dk_42 (dk_at dksX0_costOf_0 0 rfl rfl)
theorem dX0_costOf_1 : decode cX0_costOf 1 = .ok (.getfield 20, 3) := dk_180 0 20 (dk_at dksX0_costOf_0 1 rfl rfl)
theorem dX0_costOf_4 : decode cX0_costOf 4 = .ok (.getfield 219, 3) := dk_180 0 219 (dk_at dksX0_costOf_0 4 rfl rfl)
theorem dX0_costOf_7 : decode cX0_costOf 7 = .ok (.iload_n 1, 1) := dk_27 (dk_at dksX0_costOf_0 7 rfl rfl)
theorem dX0_costOf_8 : decode cX0_costOf 8 = .ok (.iaload, 1) := dk_46 (dk_at dksX0_costOf_0 8 rfl rfl)
theorem dX0_costOf_9 : decode cX0_costOf 9 = .ok (.iconst 1, 1) := dk_4 (dk_at dksX0_costOf_0 9 rfl rfl)
theorem dX0_costOf_10 : decode cX0_costOf 10 = .ok (.if_icmp .ne 7, 3) := dk_160 0 7 (dk_at dksX0_costOf_0 10 rfl rfl)
theorem dX0_costOf_13 : decode cX0_costOf 13 = .ok (.iconst 0, 1) := dk_3 (dk_at dksX0_costOf_0 13 rfl rfl)
theorem dX0_costOf_14 : decode cX0_costOf 14 = .ok (.goto 4, 3) := dk_167 0 4 (dk_at dksX0_costOf_0 14 rfl rfl)
theorem dX0_costOf_17 : decode cX0_costOf 17 = .ok (.iconst 1, 1) := dk_4 (dk_at dksX0_costOf_0 17 rfl rfl)
theorem dX0_costOf_18 : decode cX0_costOf 18 = .ok (.ireturn, 1) := dk_172 (dk_at dksX0_costOf_0 18 rfl rfl)
abbrev cX0_gap : ByteArray := prog_1_method_62_code
def yX0_gap : MethodName := ⟨RX0, "gap", "(II)I"⟩
def dkwX0_gap_2 : List UInt8 := [28, 182, 1, 105, 167, 0, 4, 2, 172]
abbrev dktX0_gap_2 : List UInt8 := dkwX0_gap_2 ++ []
def dkwX0_gap_1 : List UInt8 := [184, 0, 110, 153, 0, 28, 28, 3, 16, 30, 184, 0, 110, 153, 0, 18, 42, 180, 0, 20, 180, 1, 170, 27]
abbrev dktX0_gap_1 : List UInt8 := dkwX0_gap_1 ++ dktX0_gap_2
def dkwX0_gap_0 : List UInt8 := [27, 2, 160, 0, 16, 42, 180, 0, 20, 180, 1, 170, 182, 1, 100, 167, 0, 39, 27, 3, 16, 7]
abbrev dktX0_gap_0 : List UInt8 := dkwX0_gap_0 ++ dktX0_gap_1
theorem dksX0_gap_0 : cX0_gap.data.toList.drop 0 = dktX0_gap_0 := by decide +kernel
theorem dksX0_gap_1 : cX0_gap.data.toList.drop 22 = dktX0_gap_1 := dk_seg dksX0_gap_0 22 rfl rfl
theorem dksX0_gap_2 : cX0_gap.data.toList.drop 46 = dktX0_gap_2 := dk_seg dksX0_gap_1 24 rfl rfl
theorem dX0_gap_0 : decode cX0_gap 0 = .ok (.iload_n 1, 1) := dk_27 (dk_at dksX0_gap_0 0 rfl rfl)
theorem dX0_gap_1 : decode cX0_gap 1 = .ok (.iconst (-1), 1) := dk_2 (dk_at dksX0_gap_0 1 rfl rfl)
theorem dX0_gap_2 : decode cX0_gap 2 = .ok (.if_icmp .ne 16, 3) := dk_160 0 16 (dk_at dksX0_gap_0 2 rfl rfl)
theorem dX0_gap_5 : decode cX0_gap 5 = .ok (.aload_n 0, 1) := dk_42 (dk_at dksX0_gap_0 5 rfl rfl)
theorem dX0_gap_6 : decode cX0_gap 6 = .ok (.getfield 20, 3) := dk_180 0 20 (dk_at dksX0_gap_0 6 rfl rfl)
theorem dX0_gap_9 : decode cX0_gap 9 = .ok (.getfield 426, 3) := dk_180 1 170 (dk_at dksX0_gap_0 9 rfl rfl)
theorem dX0_gap_12 : decode cX0_gap 12 = .ok (.invokevirtual 356, 3) := dk_182 1 100 (dk_at dksX0_gap_0 12 rfl rfl)
theorem dX0_gap_15 : decode cX0_gap 15 = .ok (.goto 39, 3) := dk_167 0 39 (dk_at dksX0_gap_0 15 rfl rfl)
theorem dX0_gap_18 : decode cX0_gap 18 = .ok (.iload_n 1, 1) := dk_27 (dk_at dksX0_gap_0 18 rfl rfl)
theorem dX0_gap_19 : decode cX0_gap 19 = .ok (.iconst 0, 1) := dk_3 (dk_at dksX0_gap_0 19 rfl rfl)
theorem dX0_gap_20 : decode cX0_gap 20 = .ok (.bipush 7, 2) := dk_16 7 (dk_at dksX0_gap_0 20 rfl rfl)
theorem dX0_gap_22 : decode cX0_gap 22 = .ok (.invokestatic 110, 3) := dk_184 0 110 (dk_at dksX0_gap_1 0 rfl rfl)
theorem dX0_gap_25 : decode cX0_gap 25 = .ok (.ifCond .eq 28, 3) := dk_153 0 28 (dk_at dksX0_gap_1 3 rfl rfl)
theorem dX0_gap_28 : decode cX0_gap 28 = .ok (.iload_n 2, 1) := dk_28 (dk_at dksX0_gap_1 6 rfl rfl)
theorem dX0_gap_29 : decode cX0_gap 29 = .ok (.iconst 0, 1) := dk_3 (dk_at dksX0_gap_1 7 rfl rfl)
theorem dX0_gap_30 : decode cX0_gap 30 = .ok (.bipush 30, 2) := dk_16 30 (dk_at dksX0_gap_1 8 rfl rfl)
theorem dX0_gap_32 : decode cX0_gap 32 = .ok (.invokestatic 110, 3) := dk_184 0 110 (dk_at dksX0_gap_1 10 rfl rfl)
theorem dX0_gap_35 : decode cX0_gap 35 = .ok (.ifCond .eq 18, 3) := dk_153 0 18 (dk_at dksX0_gap_1 13 rfl rfl)
theorem dX0_gap_38 : decode cX0_gap 38 = .ok (.aload_n 0, 1) := dk_42 (dk_at dksX0_gap_1 16 rfl rfl)
theorem dX0_gap_39 : decode cX0_gap 39 = .ok (.getfield 20, 3) := dk_180 0 20 (dk_at dksX0_gap_1 17 rfl rfl)
theorem dX0_gap_42 : decode cX0_gap 42 = .ok (.getfield 426, 3) := dk_180 1 170 (dk_at dksX0_gap_1 20 rfl rfl)
theorem dX0_gap_45 : decode cX0_gap 45 = .ok (.iload_n 1, 1) := dk_27 (dk_at dksX0_gap_1 23 rfl rfl)
theorem dX0_gap_46 : decode cX0_gap 46 = .ok (.iload_n 2, 1) := dk_28 (dk_at dksX0_gap_2 0 rfl rfl)
theorem dX0_gap_47 : decode cX0_gap 47 = .ok (.invokevirtual 361, 3) := dk_182 1 105 (dk_at dksX0_gap_2 1 rfl rfl)
theorem dX0_gap_50 : decode cX0_gap 50 = .ok (.goto 4, 3) := dk_167 0 4 (dk_at dksX0_gap_2 4 rfl rfl)
theorem dX0_gap_53 : decode cX0_gap 53 = .ok (.iconst (-1), 1) := dk_2 (dk_at dksX0_gap_2 7 rfl rfl)
theorem dX0_gap_54 : decode cX0_gap 54 = .ok (.ireturn, 1) := dk_172 (dk_at dksX0_gap_2 8 rfl rfl)
abbrev cX0_hedge : ByteArray := prog_1_method_64_code
def yX0_hedge : MethodName := ⟨RX0, "hedge", "()I"⟩
def dkwX0_hedge_7 : List UInt8 := [172]
abbrev dktX0_hedge_7 : List UInt8 := dkwX0_hedge_7 ++ []
def dkwX0_hedge_6 : List UInt8 := [180, 0, 85, 28, 46, 79, 132, 2, 1, 167, 255, 232, 132, 1, 1, 167, 255, 126, 42, 180, 0, 82, 3, 46]
abbrev dktX0_hedge_6 : List UInt8 := dkwX0_hedge_6 ++ dktX0_hedge_7
def dkwX0_hedge_5 : List UInt8 := [132, 2, 1, 167, 255, 181, 3, 61, 28, 42, 180, 0, 82, 190, 162, 0, 21, 42, 180, 0, 82, 28, 42]
abbrev dktX0_hedge_5 : List UInt8 := dkwX0_hedge_5 ++ dktX0_hedge_6
def dkwX0_hedge_4 : List UInt8 := [180, 0, 82, 29, 46, 28, 29, 100, 184, 1, 84, 96, 184, 0, 101, 79, 132, 3, 1, 167, 255, 207]
abbrev dktX0_hedge_4 : List UInt8 := dkwX0_hedge_4 ++ dktX0_hedge_5
def dkwX0_hedge_3 : List UInt8 := [162, 0, 46, 42, 27, 29, 182, 1, 176, 153, 0, 31, 42, 180, 0, 85, 28, 42, 180, 0, 85, 28, 46, 42]
abbrev dktX0_hedge_3 : List UInt8 := dkwX0_hedge_3 ++ dktX0_hedge_4
def dkwX0_hedge_2 : List UInt8 := [180, 0, 82, 190, 162, 0, 72, 42, 180, 0, 85, 28, 19, 1, 56, 79, 3, 62, 29, 42, 180, 0, 82, 190]
abbrev dktX0_hedge_2 : List UInt8 := dkwX0_hedge_2 ++ dktX0_hedge_3
def dkwX0_hedge_1 : List UInt8 := [3, 60, 27, 16, 8, 162, 0, 130, 42, 27, 2, 182, 1, 176, 154, 0, 6, 167, 0, 112, 3, 61, 28, 42]
abbrev dktX0_hedge_1 : List UInt8 := dkwX0_hedge_1 ++ dktX0_hedge_2
def dkwX0_hedge_0 : List UInt8 := [3, 60, 27, 42, 180, 0, 82, 190, 162, 0, 16, 42, 180, 0, 82, 27, 27, 79, 132, 1, 1, 167, 255, 237]
abbrev dktX0_hedge_0 : List UInt8 := dkwX0_hedge_0 ++ dktX0_hedge_1
theorem dksX0_hedge_0 : cX0_hedge.data.toList.drop 0 = dktX0_hedge_0 := by decide +kernel
theorem dksX0_hedge_1 : cX0_hedge.data.toList.drop 24 = dktX0_hedge_1 := dk_seg dksX0_hedge_0 24 rfl rfl
theorem dksX0_hedge_2 : cX0_hedge.data.toList.drop 48 = dktX0_hedge_2 := dk_seg dksX0_hedge_1 24 rfl rfl
theorem dksX0_hedge_3 : cX0_hedge.data.toList.drop 72 = dktX0_hedge_3 := dk_seg dksX0_hedge_2 24 rfl rfl
theorem dksX0_hedge_4 : cX0_hedge.data.toList.drop 96 = dktX0_hedge_4 := dk_seg dksX0_hedge_3 24 rfl rfl
theorem dksX0_hedge_5 : cX0_hedge.data.toList.drop 118 = dktX0_hedge_5 := dk_seg dksX0_hedge_4 22 rfl rfl
theorem dksX0_hedge_6 : cX0_hedge.data.toList.drop 141 = dktX0_hedge_6 := dk_seg dksX0_hedge_5 23 rfl rfl
theorem dksX0_hedge_7 : cX0_hedge.data.toList.drop 165 = dktX0_hedge_7 := dk_seg dksX0_hedge_6 24 rfl rfl
theorem dX0_hedge_0 : decode cX0_hedge 0 = .ok (.iconst 0, 1) := dk_3 (dk_at dksX0_hedge_0 0 rfl rfl)
theorem dX0_hedge_1 : decode cX0_hedge 1 = .ok (.istore_n 1, 1) := dk_60 (dk_at dksX0_hedge_0 1 rfl rfl)
theorem dX0_hedge_2 : decode cX0_hedge 2 = .ok (.iload_n 1, 1) := dk_27 (dk_at dksX0_hedge_0 2 rfl rfl)
theorem dX0_hedge_3 : decode cX0_hedge 3 = .ok (.aload_n 0, 1) := dk_42 (dk_at dksX0_hedge_0 3 rfl rfl)
theorem dX0_hedge_4 : decode cX0_hedge 4 = .ok (.getfield 82, 3) := dk_180 0 82 (dk_at dksX0_hedge_0 4 rfl rfl)
theorem dX0_hedge_7 : decode cX0_hedge 7 = .ok (.arraylength, 1) := dk_190 (dk_at dksX0_hedge_0 7 rfl rfl)
theorem dX0_hedge_8 : decode cX0_hedge 8 = .ok (.if_icmp .ge 16, 3) := dk_162 0 16 (dk_at dksX0_hedge_0 8 rfl rfl)
theorem dX0_hedge_11 : decode cX0_hedge 11 = .ok (.aload_n 0, 1) := dk_42 (dk_at dksX0_hedge_0 11 rfl rfl)
theorem dX0_hedge_12 : decode cX0_hedge 12 = .ok (.getfield 82, 3) := dk_180 0 82 (dk_at dksX0_hedge_0 12 rfl rfl)
theorem dX0_hedge_15 : decode cX0_hedge 15 = .ok (.iload_n 1, 1) := dk_27 (dk_at dksX0_hedge_0 15 rfl rfl)
theorem dX0_hedge_16 : decode cX0_hedge 16 = .ok (.iload_n 1, 1) := dk_27 (dk_at dksX0_hedge_0 16 rfl rfl)
theorem dX0_hedge_17 : decode cX0_hedge 17 = .ok (.iastore, 1) := dk_79 (dk_at dksX0_hedge_0 17 rfl rfl)
theorem dX0_hedge_18 : decode cX0_hedge 18 = .ok (.iinc 1 1, 3) := dk_132 1 1 (dk_at dksX0_hedge_0 18 rfl rfl)
theorem dX0_hedge_21 : decode cX0_hedge 21 = .ok (.goto (-19), 3) := dk_167 255 237 (dk_at dksX0_hedge_0 21 rfl rfl)
theorem dX0_hedge_24 : decode cX0_hedge 24 = .ok (.iconst 0, 1) := dk_3 (dk_at dksX0_hedge_1 0 rfl rfl)
theorem dX0_hedge_25 : decode cX0_hedge 25 = .ok (.istore_n 1, 1) := dk_60 (dk_at dksX0_hedge_1 1 rfl rfl)
theorem dX0_hedge_26 : decode cX0_hedge 26 = .ok (.iload_n 1, 1) := dk_27 (dk_at dksX0_hedge_1 2 rfl rfl)
theorem dX0_hedge_27 : decode cX0_hedge 27 = .ok (.bipush 8, 2) := dk_16 8 (dk_at dksX0_hedge_1 3 rfl rfl)
theorem dX0_hedge_29 : decode cX0_hedge 29 = .ok (.if_icmp .ge 130, 3) := dk_162 0 130 (dk_at dksX0_hedge_1 5 rfl rfl)
theorem dX0_hedge_32 : decode cX0_hedge 32 = .ok (.aload_n 0, 1) := dk_42 (dk_at dksX0_hedge_1 8 rfl rfl)
theorem dX0_hedge_33 : decode cX0_hedge 33 = .ok (.iload_n 1, 1) := dk_27 (dk_at dksX0_hedge_1 9 rfl rfl)
theorem dX0_hedge_34 : decode cX0_hedge 34 = .ok (.iconst (-1), 1) := dk_2 (dk_at dksX0_hedge_1 10 rfl rfl)
theorem dX0_hedge_35 : decode cX0_hedge 35 = .ok (.invokevirtual 432, 3) := dk_182 1 176 (dk_at dksX0_hedge_1 11 rfl rfl)
theorem dX0_hedge_38 : decode cX0_hedge 38 = .ok (.ifCond .ne 6, 3) := dk_154 0 6 (dk_at dksX0_hedge_1 14 rfl rfl)
theorem dX0_hedge_41 : decode cX0_hedge 41 = .ok (.goto 112, 3) := dk_167 0 112 (dk_at dksX0_hedge_1 17 rfl rfl)
theorem dX0_hedge_44 : decode cX0_hedge 44 = .ok (.iconst 0, 1) := dk_3 (dk_at dksX0_hedge_1 20 rfl rfl)
theorem dX0_hedge_45 : decode cX0_hedge 45 = .ok (.istore_n 2, 1) := dk_61 (dk_at dksX0_hedge_1 21 rfl rfl)
theorem dX0_hedge_46 : decode cX0_hedge 46 = .ok (.iload_n 2, 1) := dk_28 (dk_at dksX0_hedge_1 22 rfl rfl)
theorem dX0_hedge_47 : decode cX0_hedge 47 = .ok (.aload_n 0, 1) := dk_42 (dk_at dksX0_hedge_1 23 rfl rfl)
theorem dX0_hedge_48 : decode cX0_hedge 48 = .ok (.getfield 82, 3) := dk_180 0 82 (dk_at dksX0_hedge_2 0 rfl rfl)
theorem dX0_hedge_51 : decode cX0_hedge 51 = .ok (.arraylength, 1) := dk_190 (dk_at dksX0_hedge_2 3 rfl rfl)
theorem dX0_hedge_52 : decode cX0_hedge 52 = .ok (.if_icmp .ge 72, 3) := dk_162 0 72 (dk_at dksX0_hedge_2 4 rfl rfl)
theorem dX0_hedge_55 : decode cX0_hedge 55 = .ok (.aload_n 0, 1) := dk_42 (dk_at dksX0_hedge_2 7 rfl rfl)
theorem dX0_hedge_56 : decode cX0_hedge 56 = .ok (.getfield 85, 3) := dk_180 0 85 (dk_at dksX0_hedge_2 8 rfl rfl)
theorem dX0_hedge_59 : decode cX0_hedge 59 = .ok (.iload_n 2, 1) := dk_28 (dk_at dksX0_hedge_2 11 rfl rfl)
theorem dX0_hedge_60 : decode cX0_hedge 60 = .ok (.ldc_w 312, 3) := dk_19 1 56 (dk_at dksX0_hedge_2 12 rfl rfl)
theorem dX0_hedge_63 : decode cX0_hedge 63 = .ok (.iastore, 1) := dk_79 (dk_at dksX0_hedge_2 15 rfl rfl)
theorem dX0_hedge_64 : decode cX0_hedge 64 = .ok (.iconst 0, 1) := dk_3 (dk_at dksX0_hedge_2 16 rfl rfl)
theorem dX0_hedge_65 : decode cX0_hedge 65 = .ok (.istore_n 3, 1) := dk_62 (dk_at dksX0_hedge_2 17 rfl rfl)
theorem dX0_hedge_66 : decode cX0_hedge 66 = .ok (.iload_n 3, 1) := dk_29 (dk_at dksX0_hedge_2 18 rfl rfl)
theorem dX0_hedge_67 : decode cX0_hedge 67 = .ok (.aload_n 0, 1) := dk_42 (dk_at dksX0_hedge_2 19 rfl rfl)
theorem dX0_hedge_68 : decode cX0_hedge 68 = .ok (.getfield 82, 3) := dk_180 0 82 (dk_at dksX0_hedge_2 20 rfl rfl)
theorem dX0_hedge_71 : decode cX0_hedge 71 = .ok (.arraylength, 1) := dk_190 (dk_at dksX0_hedge_2 23 rfl rfl)
theorem dX0_hedge_72 : decode cX0_hedge 72 = .ok (.if_icmp .ge 46, 3) := dk_162 0 46 (dk_at dksX0_hedge_3 0 rfl rfl)
theorem dX0_hedge_75 : decode cX0_hedge 75 = .ok (.aload_n 0, 1) := dk_42 (dk_at dksX0_hedge_3 3 rfl rfl)
theorem dX0_hedge_76 : decode cX0_hedge 76 = .ok (.iload_n 1, 1) := dk_27 (dk_at dksX0_hedge_3 4 rfl rfl)
theorem dX0_hedge_77 : decode cX0_hedge 77 = .ok (.iload_n 3, 1) := dk_29 (dk_at dksX0_hedge_3 5 rfl rfl)
theorem dX0_hedge_78 : decode cX0_hedge 78 = .ok (.invokevirtual 432, 3) := dk_182 1 176 (dk_at dksX0_hedge_3 6 rfl rfl)
theorem dX0_hedge_81 : decode cX0_hedge 81 = .ok (.ifCond .eq 31, 3) := dk_153 0 31 (dk_at dksX0_hedge_3 9 rfl rfl)
theorem dX0_hedge_84 : decode cX0_hedge 84 = .ok (.aload_n 0, 1) := dk_42 (dk_at dksX0_hedge_3 12 rfl rfl)
theorem dX0_hedge_85 : decode cX0_hedge 85 = .ok (.getfield 85, 3) := dk_180 0 85 (dk_at dksX0_hedge_3 13 rfl rfl)
theorem dX0_hedge_88 : decode cX0_hedge 88 = .ok (.iload_n 2, 1) := dk_28 (dk_at dksX0_hedge_3 16 rfl rfl)
theorem dX0_hedge_89 : decode cX0_hedge 89 = .ok (.aload_n 0, 1) := dk_42 (dk_at dksX0_hedge_3 17 rfl rfl)
theorem dX0_hedge_90 : decode cX0_hedge 90 = .ok (.getfield 85, 3) := dk_180 0 85 (dk_at dksX0_hedge_3 18 rfl rfl)
theorem dX0_hedge_93 : decode cX0_hedge 93 = .ok (.iload_n 2, 1) := dk_28 (dk_at dksX0_hedge_3 21 rfl rfl)
theorem dX0_hedge_94 : decode cX0_hedge 94 = .ok (.iaload, 1) := dk_46 (dk_at dksX0_hedge_3 22 rfl rfl)
theorem dX0_hedge_95 : decode cX0_hedge 95 = .ok (.aload_n 0, 1) := dk_42 (dk_at dksX0_hedge_3 23 rfl rfl)
theorem dX0_hedge_96 : decode cX0_hedge 96 = .ok (.getfield 82, 3) := dk_180 0 82 (dk_at dksX0_hedge_4 0 rfl rfl)
theorem dX0_hedge_99 : decode cX0_hedge 99 = .ok (.iload_n 3, 1) := dk_29 (dk_at dksX0_hedge_4 3 rfl rfl)
theorem dX0_hedge_100 : decode cX0_hedge 100 = .ok (.iaload, 1) := dk_46 (dk_at dksX0_hedge_4 4 rfl rfl)
theorem dX0_hedge_101 : decode cX0_hedge 101 = .ok (.iload_n 2, 1) := dk_28 (dk_at dksX0_hedge_4 5 rfl rfl)
theorem dX0_hedge_102 : decode cX0_hedge 102 = .ok (.iload_n 3, 1) := dk_29 (dk_at dksX0_hedge_4 6 rfl rfl)
theorem dX0_hedge_103 : decode cX0_hedge 103 = .ok (.isub, 1) := dk_100 (dk_at dksX0_hedge_4 7 rfl rfl)
theorem dX0_hedge_104 : decode cX0_hedge 104 = .ok (.invokestatic 340, 3) := dk_184 1 84 (dk_at dksX0_hedge_4 8 rfl rfl)
theorem dX0_hedge_107 : decode cX0_hedge 107 = .ok (.iadd, 1) := dk_96 (dk_at dksX0_hedge_4 11 rfl rfl)
theorem dX0_hedge_108 : decode cX0_hedge 108 = .ok (.invokestatic 101, 3) := dk_184 0 101 (dk_at dksX0_hedge_4 12 rfl rfl)
theorem dX0_hedge_111 : decode cX0_hedge 111 = .ok (.iastore, 1) := dk_79 (dk_at dksX0_hedge_4 15 rfl rfl)
theorem dX0_hedge_112 : decode cX0_hedge 112 = .ok (.iinc 3 1, 3) := dk_132 3 1 (dk_at dksX0_hedge_4 16 rfl rfl)
theorem dX0_hedge_115 : decode cX0_hedge 115 = .ok (.goto (-49), 3) := dk_167 255 207 (dk_at dksX0_hedge_4 19 rfl rfl)
theorem dX0_hedge_118 : decode cX0_hedge 118 = .ok (.iinc 2 1, 3) := dk_132 2 1 (dk_at dksX0_hedge_5 0 rfl rfl)
theorem dX0_hedge_121 : decode cX0_hedge 121 = .ok (.goto (-75), 3) := dk_167 255 181 (dk_at dksX0_hedge_5 3 rfl rfl)
theorem dX0_hedge_124 : decode cX0_hedge 124 = .ok (.iconst 0, 1) := dk_3 (dk_at dksX0_hedge_5 6 rfl rfl)
theorem dX0_hedge_125 : decode cX0_hedge 125 = .ok (.istore_n 2, 1) := dk_61 (dk_at dksX0_hedge_5 7 rfl rfl)
theorem dX0_hedge_126 : decode cX0_hedge 126 = .ok (.iload_n 2, 1) := dk_28 (dk_at dksX0_hedge_5 8 rfl rfl)
theorem dX0_hedge_127 : decode cX0_hedge 127 = .ok (.aload_n 0, 1) := dk_42 (dk_at dksX0_hedge_5 9 rfl rfl)
theorem dX0_hedge_128 : decode cX0_hedge 128 = .ok (.getfield 82, 3) := dk_180 0 82 (dk_at dksX0_hedge_5 10 rfl rfl)
theorem dX0_hedge_131 : decode cX0_hedge 131 = .ok (.arraylength, 1) := dk_190 (dk_at dksX0_hedge_5 13 rfl rfl)
theorem dX0_hedge_132 : decode cX0_hedge 132 = .ok (.if_icmp .ge 21, 3) := dk_162 0 21 (dk_at dksX0_hedge_5 14 rfl rfl)
theorem dX0_hedge_135 : decode cX0_hedge 135 = .ok (.aload_n 0, 1) := dk_42 (dk_at dksX0_hedge_5 17 rfl rfl)
theorem dX0_hedge_136 : decode cX0_hedge 136 = .ok (.getfield 82, 3) := dk_180 0 82 (dk_at dksX0_hedge_5 18 rfl rfl)
theorem dX0_hedge_139 : decode cX0_hedge 139 = .ok (.iload_n 2, 1) := dk_28 (dk_at dksX0_hedge_5 21 rfl rfl)
theorem dX0_hedge_140 : decode cX0_hedge 140 = .ok (.aload_n 0, 1) := dk_42 (dk_at dksX0_hedge_5 22 rfl rfl)
theorem dX0_hedge_141 : decode cX0_hedge 141 = .ok (.getfield 85, 3) := dk_180 0 85 (dk_at dksX0_hedge_6 0 rfl rfl)
theorem dX0_hedge_144 : decode cX0_hedge 144 = .ok (.iload_n 2, 1) := dk_28 (dk_at dksX0_hedge_6 3 rfl rfl)
theorem dX0_hedge_145 : decode cX0_hedge 145 = .ok (.iaload, 1) := dk_46 (dk_at dksX0_hedge_6 4 rfl rfl)
theorem dX0_hedge_146 : decode cX0_hedge 146 = .ok (.iastore, 1) := dk_79 (dk_at dksX0_hedge_6 5 rfl rfl)
theorem dX0_hedge_147 : decode cX0_hedge 147 = .ok (.iinc 2 1, 3) := dk_132 2 1 (dk_at dksX0_hedge_6 6 rfl rfl)
theorem dX0_hedge_150 : decode cX0_hedge 150 = .ok (.goto (-24), 3) := dk_167 255 232 (dk_at dksX0_hedge_6 9 rfl rfl)
theorem dX0_hedge_153 : decode cX0_hedge 153 = .ok (.iinc 1 1, 3) := dk_132 1 1 (dk_at dksX0_hedge_6 12 rfl rfl)
theorem dX0_hedge_156 : decode cX0_hedge 156 = .ok (.goto (-130), 3) := dk_167 255 126 (dk_at dksX0_hedge_6 15 rfl rfl)
theorem dX0_hedge_159 : decode cX0_hedge 159 = .ok (.aload_n 0, 1) := dk_42 (dk_at dksX0_hedge_6 18 rfl rfl)
theorem dX0_hedge_160 : decode cX0_hedge 160 = .ok (.getfield 82, 3) := dk_180 0 82 (dk_at dksX0_hedge_6 19 rfl rfl)
theorem dX0_hedge_163 : decode cX0_hedge 163 = .ok (.iconst 0, 1) := dk_3 (dk_at dksX0_hedge_6 22 rfl rfl)
theorem dX0_hedge_164 : decode cX0_hedge 164 = .ok (.iaload, 1) := dk_46 (dk_at dksX0_hedge_6 23 rfl rfl)
theorem dX0_hedge_165 : decode cX0_hedge 165 = .ok (.ireturn, 1) := dk_172 (dk_at dksX0_hedge_7 0 rfl rfl)
abbrev cX0_hasGap : ByteArray := prog_1_method_63_code
def yX0_hasGap : MethodName := ⟨RX0, "hasGap", "(II)Z"⟩
def dkwX0_hasGap_2 : List UInt8 := [160, 0, 5, 4, 172, 132, 3, 1, 167, 255, 202, 3, 172]
abbrev dktX0_hasGap_2 : List UInt8 := dkwX0_hasGap_2 ++ []
def dkwX0_hasGap_1 : List UInt8 := [182, 1, 111, 27, 160, 0, 25, 28, 2, 159, 0, 18, 42, 180, 0, 20, 180, 1, 170, 29, 182, 1, 173, 28]
abbrev dktX0_hasGap_1 : List UInt8 := dkwX0_hasGap_1 ++ dktX0_hasGap_2
def dkwX0_hasGap_0 : List UInt8 := [3, 62, 29, 42, 180, 0, 20, 180, 1, 170, 180, 1, 108, 162, 0, 46, 42, 180, 0, 20, 180, 1, 170, 29]
abbrev dktX0_hasGap_0 : List UInt8 := dkwX0_hasGap_0 ++ dktX0_hasGap_1
theorem dksX0_hasGap_0 : cX0_hasGap.data.toList.drop 0 = dktX0_hasGap_0 := by decide +kernel
theorem dksX0_hasGap_1 : cX0_hasGap.data.toList.drop 24 = dktX0_hasGap_1 := dk_seg dksX0_hasGap_0 24 rfl rfl
theorem dksX0_hasGap_2 : cX0_hasGap.data.toList.drop 48 = dktX0_hasGap_2 := dk_seg dksX0_hasGap_1 24 rfl rfl
theorem dX0_hasGap_0 : decode cX0_hasGap 0 = .ok (.iconst 0, 1) := dk_3 (dk_at dksX0_hasGap_0 0 rfl rfl)
theorem dX0_hasGap_1 : decode cX0_hasGap 1 = .ok (.istore_n 3, 1) := dk_62 (dk_at dksX0_hasGap_0 1 rfl rfl)
theorem dX0_hasGap_2 : decode cX0_hasGap 2 = .ok (.iload_n 3, 1) := dk_29 (dk_at dksX0_hasGap_0 2 rfl rfl)
theorem dX0_hasGap_3 : decode cX0_hasGap 3 = .ok (.aload_n 0, 1) := dk_42 (dk_at dksX0_hasGap_0 3 rfl rfl)
theorem dX0_hasGap_4 : decode cX0_hasGap 4 = .ok (.getfield 20, 3) := dk_180 0 20 (dk_at dksX0_hasGap_0 4 rfl rfl)
theorem dX0_hasGap_7 : decode cX0_hasGap 7 = .ok (.getfield 426, 3) := dk_180 1 170 (dk_at dksX0_hasGap_0 7 rfl rfl)
theorem dX0_hasGap_10 : decode cX0_hasGap 10 = .ok (.getfield 364, 3) := dk_180 1 108 (dk_at dksX0_hasGap_0 10 rfl rfl)
theorem dX0_hasGap_13 : decode cX0_hasGap 13 = .ok (.if_icmp .ge 46, 3) := dk_162 0 46 (dk_at dksX0_hasGap_0 13 rfl rfl)
theorem dX0_hasGap_16 : decode cX0_hasGap 16 = .ok (.aload_n 0, 1) := dk_42 (dk_at dksX0_hasGap_0 16 rfl rfl)
theorem dX0_hasGap_17 : decode cX0_hasGap 17 = .ok (.getfield 20, 3) := dk_180 0 20 (dk_at dksX0_hasGap_0 17 rfl rfl)
theorem dX0_hasGap_20 : decode cX0_hasGap 20 = .ok (.getfield 426, 3) := dk_180 1 170 (dk_at dksX0_hasGap_0 20 rfl rfl)
theorem dX0_hasGap_23 : decode cX0_hasGap 23 = .ok (.iload_n 3, 1) := dk_29 (dk_at dksX0_hasGap_0 23 rfl rfl)
theorem dX0_hasGap_24 : decode cX0_hasGap 24 = .ok (.invokevirtual 367, 3) := dk_182 1 111 (dk_at dksX0_hasGap_1 0 rfl rfl)
theorem dX0_hasGap_27 : decode cX0_hasGap 27 = .ok (.iload_n 1, 1) := dk_27 (dk_at dksX0_hasGap_1 3 rfl rfl)
theorem dX0_hasGap_28 : decode cX0_hasGap 28 = .ok (.if_icmp .ne 25, 3) := dk_160 0 25 (dk_at dksX0_hasGap_1 4 rfl rfl)
theorem dX0_hasGap_31 : decode cX0_hasGap 31 = .ok (.iload_n 2, 1) := dk_28 (dk_at dksX0_hasGap_1 7 rfl rfl)
theorem dX0_hasGap_32 : decode cX0_hasGap 32 = .ok (.iconst (-1), 1) := dk_2 (dk_at dksX0_hasGap_1 8 rfl rfl)
theorem dX0_hasGap_33 : decode cX0_hasGap 33 = .ok (.if_icmp .eq 18, 3) := dk_159 0 18 (dk_at dksX0_hasGap_1 9 rfl rfl)
theorem dX0_hasGap_36 : decode cX0_hasGap 36 = .ok (.aload_n 0, 1) := dk_42 (dk_at dksX0_hasGap_1 12 rfl rfl)
theorem dX0_hasGap_37 : decode cX0_hasGap 37 = .ok (.getfield 20, 3) := dk_180 0 20 (dk_at dksX0_hasGap_1 13 rfl rfl)
theorem dX0_hasGap_40 : decode cX0_hasGap 40 = .ok (.getfield 426, 3) := dk_180 1 170 (dk_at dksX0_hasGap_1 16 rfl rfl)
theorem dX0_hasGap_43 : decode cX0_hasGap 43 = .ok (.iload_n 3, 1) := dk_29 (dk_at dksX0_hasGap_1 19 rfl rfl)
theorem dX0_hasGap_44 : decode cX0_hasGap 44 = .ok (.invokevirtual 429, 3) := dk_182 1 173 (dk_at dksX0_hasGap_1 20 rfl rfl)
theorem dX0_hasGap_47 : decode cX0_hasGap 47 = .ok (.iload_n 2, 1) := dk_28 (dk_at dksX0_hasGap_1 23 rfl rfl)
theorem dX0_hasGap_48 : decode cX0_hasGap 48 = .ok (.if_icmp .ne 5, 3) := dk_160 0 5 (dk_at dksX0_hasGap_2 0 rfl rfl)
theorem dX0_hasGap_51 : decode cX0_hasGap 51 = .ok (.iconst 1, 1) := dk_4 (dk_at dksX0_hasGap_2 3 rfl rfl)
theorem dX0_hasGap_52 : decode cX0_hasGap 52 = .ok (.ireturn, 1) := dk_172 (dk_at dksX0_hasGap_2 4 rfl rfl)
theorem dX0_hasGap_53 : decode cX0_hasGap 53 = .ok (.iinc 3 1, 3) := dk_132 3 1 (dk_at dksX0_hasGap_2 5 rfl rfl)
theorem dX0_hasGap_56 : decode cX0_hasGap 56 = .ok (.goto (-54), 3) := dk_167 255 202 (dk_at dksX0_hasGap_2 8 rfl rfl)
theorem dX0_hasGap_59 : decode cX0_hasGap 59 = .ok (.iconst 0, 1) := dk_3 (dk_at dksX0_hasGap_2 11 rfl rfl)
theorem dX0_hasGap_60 : decode cX0_hasGap 60 = .ok (.ireturn, 1) := dk_172 (dk_at dksX0_hasGap_2 12 rfl rfl)
abbrev cX0_meets : ByteArray := prog_1_method_66_code
def yX0_meets : MethodName := ⟨RX0, "meets", "(II)I"⟩
def dkwX0_meets_4 : List UInt8 := [180, 0, 91, 27, 182, 1, 211, 42, 42, 180, 0, 95, 28, 182, 1, 211, 132, 3, 1, 167, 255, 195, 2, 172]
abbrev dktX0_meets_4 : List UInt8 := dkwX0_meets_4 ++ []
def dkwX0_meets_3 : List UInt8 := [159, 0, 20, 42, 180, 0, 91, 180, 1, 0, 42, 180, 0, 95, 180, 1, 0, 160, 0, 5, 29, 172, 42, 42]
abbrev dktX0_meets_3 : List UInt8 := dkwX0_meets_3 ++ dktX0_meets_4
def dkwX0_meets_2 : List UInt8 := [182, 1, 207, 3, 62, 29, 16, 60, 163, 0, 61, 42, 180, 0, 91, 182, 0, 217, 153, 0, 27, 27, 28]
abbrev dktX0_meets_2 : List UInt8 := dkwX0_meets_2 ++ dktX0_meets_3
def dkwX0_meets_1 : List UInt8 := [180, 0, 20, 180, 0, 173, 27, 50, 182, 1, 207, 42, 180, 0, 95, 42, 180, 0, 20, 180, 0, 173, 28, 50]
abbrev dktX0_meets_1 : List UInt8 := dkwX0_meets_1 ++ dktX0_meets_2
def dkwX0_meets_0 : List UInt8 := [42, 27, 182, 0, 237, 153, 0, 11, 42, 28, 182, 0, 237, 154, 0, 5, 2, 172, 42, 180, 0, 91, 42]
abbrev dktX0_meets_0 : List UInt8 := dkwX0_meets_0 ++ dktX0_meets_1
theorem dksX0_meets_0 : cX0_meets.data.toList.drop 0 = dktX0_meets_0 := by decide +kernel
theorem dksX0_meets_1 : cX0_meets.data.toList.drop 23 = dktX0_meets_1 := dk_seg dksX0_meets_0 23 rfl rfl
theorem dksX0_meets_2 : cX0_meets.data.toList.drop 47 = dktX0_meets_2 := dk_seg dksX0_meets_1 24 rfl rfl
theorem dksX0_meets_3 : cX0_meets.data.toList.drop 70 = dktX0_meets_3 := dk_seg dksX0_meets_2 23 rfl rfl
theorem dksX0_meets_4 : cX0_meets.data.toList.drop 94 = dktX0_meets_4 := dk_seg dksX0_meets_3 24 rfl rfl
theorem dX0_meets_0 : decode cX0_meets 0 = .ok (.aload_n 0, 1) := dk_42 (dk_at dksX0_meets_0 0 rfl rfl)
theorem dX0_meets_1 : decode cX0_meets 1 = .ok (.iload_n 1, 1) := dk_27 (dk_at dksX0_meets_0 1 rfl rfl)
theorem dX0_meets_2 : decode cX0_meets 2 = .ok (.invokevirtual 237, 3) := dk_182 0 237 (dk_at dksX0_meets_0 2 rfl rfl)
theorem dX0_meets_5 : decode cX0_meets 5 = .ok (.ifCond .eq 11, 3) := dk_153 0 11 (dk_at dksX0_meets_0 5 rfl rfl)
theorem dX0_meets_8 : decode cX0_meets 8 = .ok (.aload_n 0, 1) := dk_42 (dk_at dksX0_meets_0 8 rfl rfl)
theorem dX0_meets_9 : decode cX0_meets 9 = .ok (.iload_n 2, 1) := dk_28 (dk_at dksX0_meets_0 9 rfl rfl)
theorem dX0_meets_10 : decode cX0_meets 10 = .ok (.invokevirtual 237, 3) := dk_182 0 237 (dk_at dksX0_meets_0 10 rfl rfl)
theorem dX0_meets_13 : decode cX0_meets 13 = .ok (.ifCond .ne 5, 3) := dk_154 0 5 (dk_at dksX0_meets_0 13 rfl rfl)
theorem dX0_meets_16 : decode cX0_meets 16 = .ok (.iconst (-1), 1) := dk_2 (dk_at dksX0_meets_0 16 rfl rfl)
theorem dX0_meets_17 : decode cX0_meets 17 = .ok (.ireturn, 1) := dk_172 (dk_at dksX0_meets_0 17 rfl rfl)
theorem dX0_meets_18 : decode cX0_meets 18 = .ok (.aload_n 0, 1) := dk_42 (dk_at dksX0_meets_0 18 rfl rfl)
theorem dX0_meets_19 : decode cX0_meets 19 = .ok (.getfield 91, 3) := dk_180 0 91 (dk_at dksX0_meets_0 19 rfl rfl)
theorem dX0_meets_22 : decode cX0_meets 22 = .ok (.aload_n 0, 1) := dk_42 (dk_at dksX0_meets_0 22 rfl rfl)
theorem dX0_meets_23 : decode cX0_meets 23 = .ok (.getfield 20, 3) := dk_180 0 20 (dk_at dksX0_meets_1 0 rfl rfl)
theorem dX0_meets_26 : decode cX0_meets 26 = .ok (.getfield 173, 3) := dk_180 0 173 (dk_at dksX0_meets_1 3 rfl rfl)
theorem dX0_meets_29 : decode cX0_meets 29 = .ok (.iload_n 1, 1) := dk_27 (dk_at dksX0_meets_1 6 rfl rfl)
theorem dX0_meets_30 : decode cX0_meets 30 = .ok (.aaload, 1) := dk_50 (dk_at dksX0_meets_1 7 rfl rfl)
theorem dX0_meets_31 : decode cX0_meets 31 = .ok (.invokevirtual 463, 3) := dk_182 1 207 (dk_at dksX0_meets_1 8 rfl rfl)
theorem dX0_meets_34 : decode cX0_meets 34 = .ok (.aload_n 0, 1) := dk_42 (dk_at dksX0_meets_1 11 rfl rfl)
theorem dX0_meets_35 : decode cX0_meets 35 = .ok (.getfield 95, 3) := dk_180 0 95 (dk_at dksX0_meets_1 12 rfl rfl)
theorem dX0_meets_38 : decode cX0_meets 38 = .ok (.aload_n 0, 1) := dk_42 (dk_at dksX0_meets_1 15 rfl rfl)
theorem dX0_meets_39 : decode cX0_meets 39 = .ok (.getfield 20, 3) := dk_180 0 20 (dk_at dksX0_meets_1 16 rfl rfl)
theorem dX0_meets_42 : decode cX0_meets 42 = .ok (.getfield 173, 3) := dk_180 0 173 (dk_at dksX0_meets_1 19 rfl rfl)
theorem dX0_meets_45 : decode cX0_meets 45 = .ok (.iload_n 2, 1) := dk_28 (dk_at dksX0_meets_1 22 rfl rfl)
theorem dX0_meets_46 : decode cX0_meets 46 = .ok (.aaload, 1) := dk_50 (dk_at dksX0_meets_1 23 rfl rfl)
theorem dX0_meets_47 : decode cX0_meets 47 = .ok (.invokevirtual 463, 3) := dk_182 1 207 (dk_at dksX0_meets_2 0 rfl rfl)
theorem dX0_meets_50 : decode cX0_meets 50 = .ok (.iconst 0, 1) := dk_3 (dk_at dksX0_meets_2 3 rfl rfl)
theorem dX0_meets_51 : decode cX0_meets 51 = .ok (.istore_n 3, 1) := dk_62 (dk_at dksX0_meets_2 4 rfl rfl)
theorem dX0_meets_52 : decode cX0_meets 52 = .ok (.iload_n 3, 1) := dk_29 (dk_at dksX0_meets_2 5 rfl rfl)
theorem dX0_meets_53 : decode cX0_meets 53 = .ok (.bipush 60, 2) := dk_16 60 (dk_at dksX0_meets_2 6 rfl rfl)
theorem dX0_meets_55 : decode cX0_meets 55 = .ok (.if_icmp .gt 61, 3) := dk_163 0 61 (dk_at dksX0_meets_2 8 rfl rfl)
theorem dX0_meets_58 : decode cX0_meets 58 = .ok (.aload_n 0, 1) := dk_42 (dk_at dksX0_meets_2 11 rfl rfl)
theorem dX0_meets_59 : decode cX0_meets 59 = .ok (.getfield 91, 3) := dk_180 0 91 (dk_at dksX0_meets_2 12 rfl rfl)
theorem dX0_meets_62 : decode cX0_meets 62 = .ok (.invokevirtual 217, 3) := dk_182 0 217 (dk_at dksX0_meets_2 15 rfl rfl)
theorem dX0_meets_65 : decode cX0_meets 65 = .ok (.ifCond .eq 27, 3) := dk_153 0 27 (dk_at dksX0_meets_2 18 rfl rfl)
theorem dX0_meets_68 : decode cX0_meets 68 = .ok (.iload_n 1, 1) := dk_27 (dk_at dksX0_meets_2 21 rfl rfl)
theorem dX0_meets_69 : decode cX0_meets 69 = .ok (.iload_n 2, 1) := dk_28 (dk_at dksX0_meets_2 22 rfl rfl)
theorem dX0_meets_70 : decode cX0_meets 70 = .ok (.if_icmp .eq 20, 3) := dk_159 0 20 (dk_at dksX0_meets_3 0 rfl rfl)
theorem dX0_meets_73 : decode cX0_meets 73 = .ok (.aload_n 0, 1) := dk_42 (dk_at dksX0_meets_3 3 rfl rfl)
theorem dX0_meets_74 : decode cX0_meets 74 = .ok (.getfield 91, 3) := dk_180 0 91 (dk_at dksX0_meets_3 4 rfl rfl)
theorem dX0_meets_77 : decode cX0_meets 77 = .ok (.getfield 256, 3) := dk_180 1 0 (dk_at dksX0_meets_3 7 rfl rfl)
theorem dX0_meets_80 : decode cX0_meets 80 = .ok (.aload_n 0, 1) := dk_42 (dk_at dksX0_meets_3 10 rfl rfl)
theorem dX0_meets_81 : decode cX0_meets 81 = .ok (.getfield 95, 3) := dk_180 0 95 (dk_at dksX0_meets_3 11 rfl rfl)
theorem dX0_meets_84 : decode cX0_meets 84 = .ok (.getfield 256, 3) := dk_180 1 0 (dk_at dksX0_meets_3 14 rfl rfl)
theorem dX0_meets_87 : decode cX0_meets 87 = .ok (.if_icmp .ne 5, 3) := dk_160 0 5 (dk_at dksX0_meets_3 17 rfl rfl)
theorem dX0_meets_90 : decode cX0_meets 90 = .ok (.iload_n 3, 1) := dk_29 (dk_at dksX0_meets_3 20 rfl rfl)
theorem dX0_meets_91 : decode cX0_meets 91 = .ok (.ireturn, 1) := dk_172 (dk_at dksX0_meets_3 21 rfl rfl)
theorem dX0_meets_92 : decode cX0_meets 92 = .ok (.aload_n 0, 1) := dk_42 (dk_at dksX0_meets_3 22 rfl rfl)
theorem dX0_meets_93 : decode cX0_meets 93 = .ok (.aload_n 0, 1) := dk_42 (dk_at dksX0_meets_3 23 rfl rfl)
theorem dX0_meets_94 : decode cX0_meets 94 = .ok (.getfield 91, 3) := dk_180 0 91 (dk_at dksX0_meets_4 0 rfl rfl)
theorem dX0_meets_97 : decode cX0_meets 97 = .ok (.iload_n 1, 1) := dk_27 (dk_at dksX0_meets_4 3 rfl rfl)
theorem dX0_meets_98 : decode cX0_meets 98 = .ok (.invokevirtual 467, 3) := dk_182 1 211 (dk_at dksX0_meets_4 4 rfl rfl)
theorem dX0_meets_101 : decode cX0_meets 101 = .ok (.aload_n 0, 1) := dk_42 (dk_at dksX0_meets_4 7 rfl rfl)
theorem dX0_meets_102 : decode cX0_meets 102 = .ok (.aload_n 0, 1) := dk_42 (dk_at dksX0_meets_4 8 rfl rfl)
theorem dX0_meets_103 : decode cX0_meets 103 = .ok (.getfield 95, 3) := dk_180 0 95 (dk_at dksX0_meets_4 9 rfl rfl)
theorem dX0_meets_106 : decode cX0_meets 106 = .ok (.iload_n 2, 1) := dk_28 (dk_at dksX0_meets_4 12 rfl rfl)
theorem dX0_meets_107 : decode cX0_meets 107 = .ok (.invokevirtual 467, 3) := dk_182 1 211 (dk_at dksX0_meets_4 13 rfl rfl)
theorem dX0_meets_110 : decode cX0_meets 110 = .ok (.iinc 3 1, 3) := dk_132 3 1 (dk_at dksX0_meets_4 16 rfl rfl)
theorem dX0_meets_113 : decode cX0_meets 113 = .ok (.goto (-61), 3) := dk_167 255 195 (dk_at dksX0_meets_4 19 rfl rfl)
theorem dX0_meets_116 : decode cX0_meets 116 = .ok (.iconst (-1), 1) := dk_2 (dk_at dksX0_meets_4 22 rfl rfl)
theorem dX0_meets_117 : decode cX0_meets 117 = .ok (.ireturn, 1) := dk_172 (dk_at dksX0_meets_4 23 rfl rfl)
abbrev cX0_walksAlone : ByteArray := prog_1_method_65_code
def yX0_walksAlone : MethodName := ⟨RX0, "walksAlone", "(LWindingSquare$Walker;I)V"⟩
def dkwX0_walksAlone_5 : List UInt8 := [153, 0, 9, 43, 21, 5, 181, 1, 0, 177]
abbrev dktX0_walksAlone_5 : List UInt8 := dkwX0_walksAlone_5 ++ []
def dkwX0_walksAlone_4 : List UInt8 := [180, 1, 0, 43, 180, 1, 2, 184, 1, 57, 54, 5, 21, 5, 2, 159, 0, 12, 42, 21, 5, 182, 1, 60]
abbrev dktX0_walksAlone_4 : List UInt8 := dkwX0_walksAlone_4 ++ dktX0_walksAlone_5
def dkwX0_walksAlone_3 : List UInt8 := [158, 0, 13, 43, 25, 4, 180, 1, 198, 3, 182, 1, 201, 25, 4, 180, 1, 204, 154, 0, 4, 177, 43]
abbrev dktX0_walksAlone_3 : List UInt8 := dkwX0_walksAlone_3 ++ dktX0_walksAlone_4
def dkwX0_walksAlone_2 : List UInt8 := [42, 180, 0, 20, 180, 1, 188, 58, 4, 43, 25, 4, 180, 1, 192, 182, 1, 195, 25, 4, 180, 1, 198]
abbrev dktX0_walksAlone_2 : List UInt8 := dkwX0_walksAlone_2 ++ dktX0_walksAlone_3
def dkwX0_walksAlone_1 : List UInt8 := [180, 1, 183, 45, 182, 0, 144, 162, 0, 17, 45, 43, 180, 1, 183, 182, 1, 179, 192, 1, 186, 167, 0, 10]
abbrev dktX0_walksAlone_1 : List UInt8 := dkwX0_walksAlone_1 ++ dktX0_walksAlone_2
def dkwX0_walksAlone_0 : List UInt8 := [43, 182, 0, 217, 154, 0, 4, 177, 42, 180, 0, 20, 180, 0, 167, 28, 182, 1, 179, 192, 0, 145, 78, 43]
abbrev dktX0_walksAlone_0 : List UInt8 := dkwX0_walksAlone_0 ++ dktX0_walksAlone_1
theorem dksX0_walksAlone_0 : cX0_walksAlone.data.toList.drop 0 = dktX0_walksAlone_0 := by decide +kernel
theorem dksX0_walksAlone_1 : cX0_walksAlone.data.toList.drop 24 = dktX0_walksAlone_1 := dk_seg dksX0_walksAlone_0 24 rfl rfl
theorem dksX0_walksAlone_2 : cX0_walksAlone.data.toList.drop 48 = dktX0_walksAlone_2 := dk_seg dksX0_walksAlone_1 24 rfl rfl
theorem dksX0_walksAlone_3 : cX0_walksAlone.data.toList.drop 71 = dktX0_walksAlone_3 := dk_seg dksX0_walksAlone_2 23 rfl rfl
theorem dksX0_walksAlone_4 : cX0_walksAlone.data.toList.drop 94 = dktX0_walksAlone_4 := dk_seg dksX0_walksAlone_3 23 rfl rfl
theorem dksX0_walksAlone_5 : cX0_walksAlone.data.toList.drop 118 = dktX0_walksAlone_5 := dk_seg dksX0_walksAlone_4 24 rfl rfl
theorem dX0_walksAlone_0 : decode cX0_walksAlone 0 = .ok (.aload_n 1, 1) := dk_43 (dk_at dksX0_walksAlone_0 0 rfl rfl)
theorem dX0_walksAlone_1 : decode cX0_walksAlone 1 = .ok (.invokevirtual 217, 3) := dk_182 0 217 (dk_at dksX0_walksAlone_0 1 rfl rfl)
theorem dX0_walksAlone_4 : decode cX0_walksAlone 4 = .ok (.ifCond .ne 4, 3) := dk_154 0 4 (dk_at dksX0_walksAlone_0 4 rfl rfl)
theorem dX0_walksAlone_7 : decode cX0_walksAlone 7 = .ok (.return_, 1) := dk_177 (dk_at dksX0_walksAlone_0 7 rfl rfl)
theorem dX0_walksAlone_8 : decode cX0_walksAlone 8 = .ok (.aload_n 0, 1) := dk_42 (dk_at dksX0_walksAlone_0 8 rfl rfl)
theorem dX0_walksAlone_9 : decode cX0_walksAlone 9 = .ok (.getfield 20, 3) := dk_180 0 20 (dk_at dksX0_walksAlone_0 9 rfl rfl)
theorem dX0_walksAlone_12 : decode cX0_walksAlone 12 = .ok (.getfield 167, 3) := dk_180 0 167 (dk_at dksX0_walksAlone_0 12 rfl rfl)
theorem dX0_walksAlone_15 : decode cX0_walksAlone 15 = .ok (.iload_n 2, 1) := dk_28 (dk_at dksX0_walksAlone_0 15 rfl rfl)
theorem dX0_walksAlone_16 : decode cX0_walksAlone 16 = .ok (.invokevirtual 435, 3) := dk_182 1 179 (dk_at dksX0_walksAlone_0 16 rfl rfl)
theorem dX0_walksAlone_19 : decode cX0_walksAlone 19 = .ok (.checkcast 145, 3) := dk_192 0 145 (dk_at dksX0_walksAlone_0 19 rfl rfl)
theorem dX0_walksAlone_22 : decode cX0_walksAlone 22 = .ok (.astore_n 3, 1) := dk_78 (dk_at dksX0_walksAlone_0 22 rfl rfl)
theorem dX0_walksAlone_23 : decode cX0_walksAlone 23 = .ok (.aload_n 1, 1) := dk_43 (dk_at dksX0_walksAlone_0 23 rfl rfl)
theorem dX0_walksAlone_24 : decode cX0_walksAlone 24 = .ok (.getfield 439, 3) := dk_180 1 183 (dk_at dksX0_walksAlone_1 0 rfl rfl)
theorem dX0_walksAlone_27 : decode cX0_walksAlone 27 = .ok (.aload_n 3, 1) := dk_45 (dk_at dksX0_walksAlone_1 3 rfl rfl)
theorem dX0_walksAlone_28 : decode cX0_walksAlone 28 = .ok (.invokevirtual 144, 3) := dk_182 0 144 (dk_at dksX0_walksAlone_1 4 rfl rfl)
theorem dX0_walksAlone_31 : decode cX0_walksAlone 31 = .ok (.if_icmp .ge 17, 3) := dk_162 0 17 (dk_at dksX0_walksAlone_1 7 rfl rfl)
theorem dX0_walksAlone_34 : decode cX0_walksAlone 34 = .ok (.aload_n 3, 1) := dk_45 (dk_at dksX0_walksAlone_1 10 rfl rfl)
theorem dX0_walksAlone_35 : decode cX0_walksAlone 35 = .ok (.aload_n 1, 1) := dk_43 (dk_at dksX0_walksAlone_1 11 rfl rfl)
theorem dX0_walksAlone_36 : decode cX0_walksAlone 36 = .ok (.getfield 439, 3) := dk_180 1 183 (dk_at dksX0_walksAlone_1 12 rfl rfl)
theorem dX0_walksAlone_39 : decode cX0_walksAlone 39 = .ok (.invokevirtual 435, 3) := dk_182 1 179 (dk_at dksX0_walksAlone_1 15 rfl rfl)
theorem dX0_walksAlone_42 : decode cX0_walksAlone 42 = .ok (.checkcast 442, 3) := dk_192 1 186 (dk_at dksX0_walksAlone_1 18 rfl rfl)
theorem dX0_walksAlone_45 : decode cX0_walksAlone 45 = .ok (.goto 10, 3) := dk_167 0 10 (dk_at dksX0_walksAlone_1 21 rfl rfl)
theorem dX0_walksAlone_48 : decode cX0_walksAlone 48 = .ok (.aload_n 0, 1) := dk_42 (dk_at dksX0_walksAlone_2 0 rfl rfl)
theorem dX0_walksAlone_49 : decode cX0_walksAlone 49 = .ok (.getfield 20, 3) := dk_180 0 20 (dk_at dksX0_walksAlone_2 1 rfl rfl)
theorem dX0_walksAlone_52 : decode cX0_walksAlone 52 = .ok (.getfield 444, 3) := dk_180 1 188 (dk_at dksX0_walksAlone_2 4 rfl rfl)
theorem dX0_walksAlone_55 : decode cX0_walksAlone 55 = .ok (.astore 4, 2) := dk_58 4 (dk_at dksX0_walksAlone_2 7 rfl rfl)
theorem dX0_walksAlone_57 : decode cX0_walksAlone 57 = .ok (.aload_n 1, 1) := dk_43 (dk_at dksX0_walksAlone_2 9 rfl rfl)
theorem dX0_walksAlone_58 : decode cX0_walksAlone 58 = .ok (.aload 4, 2) := dk_25 4 (dk_at dksX0_walksAlone_2 10 rfl rfl)
theorem dX0_walksAlone_60 : decode cX0_walksAlone 60 = .ok (.getfield 448, 3) := dk_180 1 192 (dk_at dksX0_walksAlone_2 12 rfl rfl)
theorem dX0_walksAlone_63 : decode cX0_walksAlone 63 = .ok (.invokevirtual 451, 3) := dk_182 1 195 (dk_at dksX0_walksAlone_2 15 rfl rfl)
theorem dX0_walksAlone_66 : decode cX0_walksAlone 66 = .ok (.aload 4, 2) := dk_25 4 (dk_at dksX0_walksAlone_2 18 rfl rfl)
theorem dX0_walksAlone_68 : decode cX0_walksAlone 68 = .ok (.getfield 454, 3) := dk_180 1 198 (dk_at dksX0_walksAlone_2 20 rfl rfl)
theorem dX0_walksAlone_71 : decode cX0_walksAlone 71 = .ok (.ifCond .le 13, 3) := dk_158 0 13 (dk_at dksX0_walksAlone_3 0 rfl rfl)
theorem dX0_walksAlone_74 : decode cX0_walksAlone 74 = .ok (.aload_n 1, 1) := dk_43 (dk_at dksX0_walksAlone_3 3 rfl rfl)
theorem dX0_walksAlone_75 : decode cX0_walksAlone 75 = .ok (.aload 4, 2) := dk_25 4 (dk_at dksX0_walksAlone_3 4 rfl rfl)
theorem dX0_walksAlone_77 : decode cX0_walksAlone 77 = .ok (.getfield 454, 3) := dk_180 1 198 (dk_at dksX0_walksAlone_3 6 rfl rfl)
theorem dX0_walksAlone_80 : decode cX0_walksAlone 80 = .ok (.iconst 0, 1) := dk_3 (dk_at dksX0_walksAlone_3 9 rfl rfl)
theorem dX0_walksAlone_81 : decode cX0_walksAlone 81 = .ok (.invokevirtual 457, 3) := dk_182 1 201 (dk_at dksX0_walksAlone_3 10 rfl rfl)
theorem dX0_walksAlone_84 : decode cX0_walksAlone 84 = .ok (.aload 4, 2) := dk_25 4 (dk_at dksX0_walksAlone_3 13 rfl rfl)
theorem dX0_walksAlone_86 : decode cX0_walksAlone 86 = .ok (.getfield 460, 3) := dk_180 1 204 (dk_at dksX0_walksAlone_3 15 rfl rfl)
theorem dX0_walksAlone_89 : decode cX0_walksAlone 89 = .ok (.ifCond .ne 4, 3) := dk_154 0 4 (dk_at dksX0_walksAlone_3 18 rfl rfl)
theorem dX0_walksAlone_92 : decode cX0_walksAlone 92 = .ok (.return_, 1) := dk_177 (dk_at dksX0_walksAlone_3 21 rfl rfl)
theorem dX0_walksAlone_93 : decode cX0_walksAlone 93 = .ok (.aload_n 1, 1) := dk_43 (dk_at dksX0_walksAlone_3 22 rfl rfl)
theorem dX0_walksAlone_94 : decode cX0_walksAlone 94 = .ok (.getfield 256, 3) := dk_180 1 0 (dk_at dksX0_walksAlone_4 0 rfl rfl)
theorem dX0_walksAlone_97 : decode cX0_walksAlone 97 = .ok (.aload_n 1, 1) := dk_43 (dk_at dksX0_walksAlone_4 3 rfl rfl)
theorem dX0_walksAlone_98 : decode cX0_walksAlone 98 = .ok (.getfield 258, 3) := dk_180 1 2 (dk_at dksX0_walksAlone_4 4 rfl rfl)
theorem dX0_walksAlone_101 : decode cX0_walksAlone 101 = .ok (.invokestatic 313, 3) := dk_184 1 57 (dk_at dksX0_walksAlone_4 7 rfl rfl)
theorem dX0_walksAlone_104 : decode cX0_walksAlone 104 = .ok (.istore 5, 2) := dk_54 5 (dk_at dksX0_walksAlone_4 10 rfl rfl)
theorem dX0_walksAlone_106 : decode cX0_walksAlone 106 = .ok (.iload 5, 2) := dk_21 5 (dk_at dksX0_walksAlone_4 12 rfl rfl)
theorem dX0_walksAlone_108 : decode cX0_walksAlone 108 = .ok (.iconst (-1), 1) := dk_2 (dk_at dksX0_walksAlone_4 14 rfl rfl)
theorem dX0_walksAlone_109 : decode cX0_walksAlone 109 = .ok (.if_icmp .eq 12, 3) := dk_159 0 12 (dk_at dksX0_walksAlone_4 15 rfl rfl)
theorem dX0_walksAlone_112 : decode cX0_walksAlone 112 = .ok (.aload_n 0, 1) := dk_42 (dk_at dksX0_walksAlone_4 18 rfl rfl)
theorem dX0_walksAlone_113 : decode cX0_walksAlone 113 = .ok (.iload 5, 2) := dk_21 5 (dk_at dksX0_walksAlone_4 19 rfl rfl)
theorem dX0_walksAlone_115 : decode cX0_walksAlone 115 = .ok (.invokevirtual 316, 3) := dk_182 1 60 (dk_at dksX0_walksAlone_4 21 rfl rfl)
theorem dX0_walksAlone_118 : decode cX0_walksAlone 118 = .ok (.ifCond .eq 9, 3) := dk_153 0 9 (dk_at dksX0_walksAlone_5 0 rfl rfl)
theorem dX0_walksAlone_121 : decode cX0_walksAlone 121 = .ok (.aload_n 1, 1) := dk_43 (dk_at dksX0_walksAlone_5 3 rfl rfl)
theorem dX0_walksAlone_122 : decode cX0_walksAlone 122 = .ok (.iload 5, 2) := dk_21 5 (dk_at dksX0_walksAlone_5 4 rfl rfl)
theorem dX0_walksAlone_124 : decode cX0_walksAlone 124 = .ok (.putfield 256, 3) := dk_181 1 0 (dk_at dksX0_walksAlone_5 6 rfl rfl)
theorem dX0_walksAlone_127 : decode cX0_walksAlone 127 = .ok (.return_, 1) := dk_177 (dk_at dksX0_walksAlone_5 9 rfl rfl)
abbrev cX0_pigeons : ByteArray := prog_1_method_69_code
def yX0_pigeons : MethodName := ⟨RX0, "pigeons", "(I)I"⟩
def dkwX0_pigeons_5 : List UInt8 := [167, 255, 185, 27, 154, 0, 7, 29, 167, 0, 15, 27, 4, 160, 0, 8, 21, 4, 167, 0, 5, 21, 5, 172]
abbrev dktX0_pigeons_5 : List UInt8 := dkwX0_pigeons_5 ++ []
def dkwX0_pigeons_4 : List UInt8 := [153, 0, 17, 42, 21, 6, 182, 1, 219, 4, 160, 0, 7, 4, 167, 0, 4, 3, 96, 54, 5, 132, 6, 1]
abbrev dktX0_pigeons_4 : List UInt8 := dkwX0_pigeons_4 ++ dktX0_pigeons_5
def dkwX0_pigeons_3 : List UInt8 := [167, 0, 4, 3, 96, 62, 21, 4, 21, 7, 184, 0, 107, 54, 4, 21, 5, 42, 21, 6, 182, 1, 60]
abbrev dktX0_pigeons_3 : List UInt8 := dkwX0_pigeons_3 ++ dktX0_pigeons_4
def dkwX0_pigeons_2 : List UInt8 := [21, 6, 17, 0, 144, 162, 0, 69, 42, 21, 6, 44, 182, 1, 215, 54, 7, 29, 21, 7, 158, 0, 7, 4]
abbrev dktX0_pigeons_2 : List UInt8 := dkwX0_pigeons_2 ++ dktX0_pigeons_3
def dkwX0_pigeons_1 : List UInt8 := [162, 0, 13, 44, 29, 4, 84, 132, 3, 1, 167, 255, 242, 3, 62, 3, 54, 4, 3, 54, 5, 3, 54, 6]
abbrev dktX0_pigeons_1 : List UInt8 := dkwX0_pigeons_1 ++ dktX0_pigeons_2
def dkwX0_pigeons_0 : List UInt8 := [27, 3, 5, 184, 0, 110, 154, 0, 5, 2, 172, 17, 0, 144, 188, 4, 77, 3, 62, 29, 17, 0, 144]
abbrev dktX0_pigeons_0 : List UInt8 := dkwX0_pigeons_0 ++ dktX0_pigeons_1
theorem dksX0_pigeons_0 : cX0_pigeons.data.toList.drop 0 = dktX0_pigeons_0 := by decide +kernel
theorem dksX0_pigeons_1 : cX0_pigeons.data.toList.drop 23 = dktX0_pigeons_1 := dk_seg dksX0_pigeons_0 23 rfl rfl
theorem dksX0_pigeons_2 : cX0_pigeons.data.toList.drop 47 = dktX0_pigeons_2 := dk_seg dksX0_pigeons_1 24 rfl rfl
theorem dksX0_pigeons_3 : cX0_pigeons.data.toList.drop 71 = dktX0_pigeons_3 := dk_seg dksX0_pigeons_2 24 rfl rfl
theorem dksX0_pigeons_4 : cX0_pigeons.data.toList.drop 94 = dktX0_pigeons_4 := dk_seg dksX0_pigeons_3 23 rfl rfl
theorem dksX0_pigeons_5 : cX0_pigeons.data.toList.drop 118 = dktX0_pigeons_5 := dk_seg dksX0_pigeons_4 24 rfl rfl
theorem dX0_pigeons_0 : decode cX0_pigeons 0 = .ok (.iload_n 1, 1) := dk_27 (dk_at dksX0_pigeons_0 0 rfl rfl)
theorem dX0_pigeons_1 : decode cX0_pigeons 1 = .ok (.iconst 0, 1) := dk_3 (dk_at dksX0_pigeons_0 1 rfl rfl)
theorem dX0_pigeons_2 : decode cX0_pigeons 2 = .ok (.iconst 2, 1) := dk_5 (dk_at dksX0_pigeons_0 2 rfl rfl)
theorem dX0_pigeons_3 : decode cX0_pigeons 3 = .ok (.invokestatic 110, 3) := dk_184 0 110 (dk_at dksX0_pigeons_0 3 rfl rfl)
theorem dX0_pigeons_6 : decode cX0_pigeons 6 = .ok (.ifCond .ne 5, 3) := dk_154 0 5 (dk_at dksX0_pigeons_0 6 rfl rfl)
theorem dX0_pigeons_9 : decode cX0_pigeons 9 = .ok (.iconst (-1), 1) := dk_2 (dk_at dksX0_pigeons_0 9 rfl rfl)
theorem dX0_pigeons_10 : decode cX0_pigeons 10 = .ok (.ireturn, 1) := dk_172 (dk_at dksX0_pigeons_0 10 rfl rfl)
theorem dX0_pigeons_11 : decode cX0_pigeons 11 = .ok (.sipush 144, 3) := dk_17 0 144 (dk_at dksX0_pigeons_0 11 rfl rfl)
theorem dX0_pigeons_14 : decode cX0_pigeons 14 = .ok (.newarray .boolean, 2) := dk_188_4 (dk_at dksX0_pigeons_0 14 rfl rfl)
theorem dX0_pigeons_16 : decode cX0_pigeons 16 = .ok (.astore_n 2, 1) := dk_77 (dk_at dksX0_pigeons_0 16 rfl rfl)
theorem dX0_pigeons_17 : decode cX0_pigeons 17 = .ok (.iconst 0, 1) := dk_3 (dk_at dksX0_pigeons_0 17 rfl rfl)
theorem dX0_pigeons_18 : decode cX0_pigeons 18 = .ok (.istore_n 3, 1) := dk_62 (dk_at dksX0_pigeons_0 18 rfl rfl)
theorem dX0_pigeons_19 : decode cX0_pigeons 19 = .ok (.iload_n 3, 1) := dk_29 (dk_at dksX0_pigeons_0 19 rfl rfl)
theorem dX0_pigeons_20 : decode cX0_pigeons 20 = .ok (.sipush 144, 3) := dk_17 0 144 (dk_at dksX0_pigeons_0 20 rfl rfl)
theorem dX0_pigeons_23 : decode cX0_pigeons 23 = .ok (.if_icmp .ge 13, 3) := dk_162 0 13 (dk_at dksX0_pigeons_1 0 rfl rfl)
theorem dX0_pigeons_26 : decode cX0_pigeons 26 = .ok (.aload_n 2, 1) := dk_44 (dk_at dksX0_pigeons_1 3 rfl rfl)
theorem dX0_pigeons_27 : decode cX0_pigeons 27 = .ok (.iload_n 3, 1) := dk_29 (dk_at dksX0_pigeons_1 4 rfl rfl)
theorem dX0_pigeons_28 : decode cX0_pigeons 28 = .ok (.iconst 1, 1) := dk_4 (dk_at dksX0_pigeons_1 5 rfl rfl)
theorem dX0_pigeons_29 : decode cX0_pigeons 29 = .ok (.bastore, 1) := dk_84 (dk_at dksX0_pigeons_1 6 rfl rfl)
theorem dX0_pigeons_30 : decode cX0_pigeons 30 = .ok (.iinc 3 1, 3) := dk_132 3 1 (dk_at dksX0_pigeons_1 7 rfl rfl)
theorem dX0_pigeons_33 : decode cX0_pigeons 33 = .ok (.goto (-14), 3) := dk_167 255 242 (dk_at dksX0_pigeons_1 10 rfl rfl)
theorem dX0_pigeons_36 : decode cX0_pigeons 36 = .ok (.iconst 0, 1) := dk_3 (dk_at dksX0_pigeons_1 13 rfl rfl)
theorem dX0_pigeons_37 : decode cX0_pigeons 37 = .ok (.istore_n 3, 1) := dk_62 (dk_at dksX0_pigeons_1 14 rfl rfl)
theorem dX0_pigeons_38 : decode cX0_pigeons 38 = .ok (.iconst 0, 1) := dk_3 (dk_at dksX0_pigeons_1 15 rfl rfl)
theorem dX0_pigeons_39 : decode cX0_pigeons 39 = .ok (.istore 4, 2) := dk_54 4 (dk_at dksX0_pigeons_1 16 rfl rfl)
theorem dX0_pigeons_41 : decode cX0_pigeons 41 = .ok (.iconst 0, 1) := dk_3 (dk_at dksX0_pigeons_1 18 rfl rfl)
theorem dX0_pigeons_42 : decode cX0_pigeons 42 = .ok (.istore 5, 2) := dk_54 5 (dk_at dksX0_pigeons_1 19 rfl rfl)
theorem dX0_pigeons_44 : decode cX0_pigeons 44 = .ok (.iconst 0, 1) := dk_3 (dk_at dksX0_pigeons_1 21 rfl rfl)
theorem dX0_pigeons_45 : decode cX0_pigeons 45 = .ok (.istore 6, 2) := dk_54 6 (dk_at dksX0_pigeons_1 22 rfl rfl)
theorem dX0_pigeons_47 : decode cX0_pigeons 47 = .ok (.iload 6, 2) := dk_21 6 (dk_at dksX0_pigeons_2 0 rfl rfl)
theorem dX0_pigeons_49 : decode cX0_pigeons 49 = .ok (.sipush 144, 3) := dk_17 0 144 (dk_at dksX0_pigeons_2 2 rfl rfl)
theorem dX0_pigeons_52 : decode cX0_pigeons 52 = .ok (.if_icmp .ge 69, 3) := dk_162 0 69 (dk_at dksX0_pigeons_2 5 rfl rfl)
theorem dX0_pigeons_55 : decode cX0_pigeons 55 = .ok (.aload_n 0, 1) := dk_42 (dk_at dksX0_pigeons_2 8 rfl rfl)
theorem dX0_pigeons_56 : decode cX0_pigeons 56 = .ok (.iload 6, 2) := dk_21 6 (dk_at dksX0_pigeons_2 9 rfl rfl)
theorem dX0_pigeons_58 : decode cX0_pigeons 58 = .ok (.aload_n 2, 1) := dk_44 (dk_at dksX0_pigeons_2 11 rfl rfl)
theorem dX0_pigeons_59 : decode cX0_pigeons 59 = .ok (.invokevirtual 471, 3) := dk_182 1 215 (dk_at dksX0_pigeons_2 12 rfl rfl)
theorem dX0_pigeons_62 : decode cX0_pigeons 62 = .ok (.istore 7, 2) := dk_54 7 (dk_at dksX0_pigeons_2 15 rfl rfl)
theorem dX0_pigeons_64 : decode cX0_pigeons 64 = .ok (.iload_n 3, 1) := dk_29 (dk_at dksX0_pigeons_2 17 rfl rfl)
theorem dX0_pigeons_65 : decode cX0_pigeons 65 = .ok (.iload 7, 2) := dk_21 7 (dk_at dksX0_pigeons_2 18 rfl rfl)
theorem dX0_pigeons_67 : decode cX0_pigeons 67 = .ok (.ifCond .le 7, 3) := dk_158 0 7 (dk_at dksX0_pigeons_2 20 rfl rfl)
theorem dX0_pigeons_70 : decode cX0_pigeons 70 = .ok (.iconst 1, 1) := dk_4 (dk_at dksX0_pigeons_2 23 rfl rfl)
theorem dX0_pigeons_71 : decode cX0_pigeons 71 = .ok (.goto 4, 3) := dk_167 0 4 (dk_at dksX0_pigeons_3 0 rfl rfl)
theorem dX0_pigeons_74 : decode cX0_pigeons 74 = .ok (.iconst 0, 1) := dk_3 (dk_at dksX0_pigeons_3 3 rfl rfl)
theorem dX0_pigeons_75 : decode cX0_pigeons 75 = .ok (.iadd, 1) := dk_96 (dk_at dksX0_pigeons_3 4 rfl rfl)
theorem dX0_pigeons_76 : decode cX0_pigeons 76 = .ok (.istore_n 3, 1) := dk_62 (dk_at dksX0_pigeons_3 5 rfl rfl)
theorem dX0_pigeons_77 : decode cX0_pigeons 77 = .ok (.iload 4, 2) := dk_21 4 (dk_at dksX0_pigeons_3 6 rfl rfl)
theorem dX0_pigeons_79 : decode cX0_pigeons 79 = .ok (.iload 7, 2) := dk_21 7 (dk_at dksX0_pigeons_3 8 rfl rfl)
theorem dX0_pigeons_81 : decode cX0_pigeons 81 = .ok (.invokestatic 107, 3) := dk_184 0 107 (dk_at dksX0_pigeons_3 10 rfl rfl)
theorem dX0_pigeons_84 : decode cX0_pigeons 84 = .ok (.istore 4, 2) := dk_54 4 (dk_at dksX0_pigeons_3 13 rfl rfl)
theorem dX0_pigeons_86 : decode cX0_pigeons 86 = .ok (.iload 5, 2) := dk_21 5 (dk_at dksX0_pigeons_3 15 rfl rfl)
theorem dX0_pigeons_88 : decode cX0_pigeons 88 = .ok (.aload_n 0, 1) := dk_42 (dk_at dksX0_pigeons_3 17 rfl rfl)
theorem dX0_pigeons_89 : decode cX0_pigeons 89 = .ok (.iload 6, 2) := dk_21 6 (dk_at dksX0_pigeons_3 18 rfl rfl)
theorem dX0_pigeons_91 : decode cX0_pigeons 91 = .ok (.invokevirtual 316, 3) := dk_182 1 60 (dk_at dksX0_pigeons_3 20 rfl rfl)
theorem dX0_pigeons_94 : decode cX0_pigeons 94 = .ok (.ifCond .eq 17, 3) := dk_153 0 17 (dk_at dksX0_pigeons_4 0 rfl rfl)
theorem dX0_pigeons_97 : decode cX0_pigeons 97 = .ok (.aload_n 0, 1) := dk_42 (dk_at dksX0_pigeons_4 3 rfl rfl)
theorem dX0_pigeons_98 : decode cX0_pigeons 98 = .ok (.iload 6, 2) := dk_21 6 (dk_at dksX0_pigeons_4 4 rfl rfl)
theorem dX0_pigeons_100 : decode cX0_pigeons 100 = .ok (.invokevirtual 475, 3) := dk_182 1 219 (dk_at dksX0_pigeons_4 6 rfl rfl)
theorem dX0_pigeons_103 : decode cX0_pigeons 103 = .ok (.iconst 1, 1) := dk_4 (dk_at dksX0_pigeons_4 9 rfl rfl)
theorem dX0_pigeons_104 : decode cX0_pigeons 104 = .ok (.if_icmp .ne 7, 3) := dk_160 0 7 (dk_at dksX0_pigeons_4 10 rfl rfl)
theorem dX0_pigeons_107 : decode cX0_pigeons 107 = .ok (.iconst 1, 1) := dk_4 (dk_at dksX0_pigeons_4 13 rfl rfl)
theorem dX0_pigeons_108 : decode cX0_pigeons 108 = .ok (.goto 4, 3) := dk_167 0 4 (dk_at dksX0_pigeons_4 14 rfl rfl)
theorem dX0_pigeons_111 : decode cX0_pigeons 111 = .ok (.iconst 0, 1) := dk_3 (dk_at dksX0_pigeons_4 17 rfl rfl)
theorem dX0_pigeons_112 : decode cX0_pigeons 112 = .ok (.iadd, 1) := dk_96 (dk_at dksX0_pigeons_4 18 rfl rfl)
theorem dX0_pigeons_113 : decode cX0_pigeons 113 = .ok (.istore 5, 2) := dk_54 5 (dk_at dksX0_pigeons_4 19 rfl rfl)
theorem dX0_pigeons_115 : decode cX0_pigeons 115 = .ok (.iinc 6 1, 3) := dk_132 6 1 (dk_at dksX0_pigeons_4 21 rfl rfl)
theorem dX0_pigeons_118 : decode cX0_pigeons 118 = .ok (.goto (-71), 3) := dk_167 255 185 (dk_at dksX0_pigeons_5 0 rfl rfl)
theorem dX0_pigeons_121 : decode cX0_pigeons 121 = .ok (.iload_n 1, 1) := dk_27 (dk_at dksX0_pigeons_5 3 rfl rfl)
theorem dX0_pigeons_122 : decode cX0_pigeons 122 = .ok (.ifCond .ne 7, 3) := dk_154 0 7 (dk_at dksX0_pigeons_5 4 rfl rfl)
theorem dX0_pigeons_125 : decode cX0_pigeons 125 = .ok (.iload_n 3, 1) := dk_29 (dk_at dksX0_pigeons_5 7 rfl rfl)
theorem dX0_pigeons_126 : decode cX0_pigeons 126 = .ok (.goto 15, 3) := dk_167 0 15 (dk_at dksX0_pigeons_5 8 rfl rfl)
theorem dX0_pigeons_129 : decode cX0_pigeons 129 = .ok (.iload_n 1, 1) := dk_27 (dk_at dksX0_pigeons_5 11 rfl rfl)
theorem dX0_pigeons_130 : decode cX0_pigeons 130 = .ok (.iconst 1, 1) := dk_4 (dk_at dksX0_pigeons_5 12 rfl rfl)
theorem dX0_pigeons_131 : decode cX0_pigeons 131 = .ok (.if_icmp .ne 8, 3) := dk_160 0 8 (dk_at dksX0_pigeons_5 13 rfl rfl)
theorem dX0_pigeons_134 : decode cX0_pigeons 134 = .ok (.iload 4, 2) := dk_21 4 (dk_at dksX0_pigeons_5 16 rfl rfl)
theorem dX0_pigeons_136 : decode cX0_pigeons 136 = .ok (.goto 5, 3) := dk_167 0 5 (dk_at dksX0_pigeons_5 18 rfl rfl)
theorem dX0_pigeons_139 : decode cX0_pigeons 139 = .ok (.iload 5, 2) := dk_21 5 (dk_at dksX0_pigeons_5 21 rfl rfl)
theorem dX0_pigeons_141 : decode cX0_pigeons 141 = .ok (.ireturn, 1) := dk_172 (dk_at dksX0_pigeons_5 23 rfl rfl)
abbrev cX0_flock : ByteArray := prog_1_method_68_code
def yX0_flock : MethodName := ⟨RX0, "flock", "(I[Z)I"⟩
def dkwX0_flock_4 : List UInt8 := [180, 0, 42, 29, 21, 6, 79, 132, 3, 1, 132, 5, 1, 167, 255, 192, 132, 4, 1, 167, 255, 177, 29, 172]
abbrev dktX0_flock_4 : List UInt8 := dkwX0_flock_4 ++ []
def dkwX0_flock_3 : List UInt8 := [182, 1, 60, 153, 0, 29, 44, 21, 6, 51, 154, 0, 6, 167, 0, 19, 44, 21, 6, 3, 84, 42]
abbrev dktX0_flock_3 : List UInt8 := dkwX0_flock_3 ++ dktX0_flock_4
def dkwX0_flock_2 : List UInt8 := [180, 0, 42, 21, 4, 46, 21, 5, 184, 1, 57, 54, 6, 21, 6, 2, 159, 0, 38, 42, 21, 6]
abbrev dktX0_flock_2 : List UInt8 := dkwX0_flock_2 ++ dktX0_flock_3
def dkwX0_flock_1 : List UInt8 := [3, 27, 79, 4, 62, 3, 54, 4, 21, 4, 29, 162, 0, 79, 3, 54, 5, 21, 5, 7, 162, 0, 64, 42]
abbrev dktX0_flock_1 : List UInt8 := dkwX0_flock_1 ++ dktX0_flock_2
def dkwX0_flock_0 : List UInt8 := [42, 27, 182, 1, 60, 153, 0, 9, 44, 27, 51, 154, 0, 5, 3, 172, 44, 27, 3, 84, 42, 180, 0, 42]
abbrev dktX0_flock_0 : List UInt8 := dkwX0_flock_0 ++ dktX0_flock_1
theorem dksX0_flock_0 : cX0_flock.data.toList.drop 0 = dktX0_flock_0 := by decide +kernel
theorem dksX0_flock_1 : cX0_flock.data.toList.drop 24 = dktX0_flock_1 := dk_seg dksX0_flock_0 24 rfl rfl
theorem dksX0_flock_2 : cX0_flock.data.toList.drop 48 = dktX0_flock_2 := dk_seg dksX0_flock_1 24 rfl rfl
theorem dksX0_flock_3 : cX0_flock.data.toList.drop 70 = dktX0_flock_3 := dk_seg dksX0_flock_2 22 rfl rfl
theorem dksX0_flock_4 : cX0_flock.data.toList.drop 92 = dktX0_flock_4 := dk_seg dksX0_flock_3 22 rfl rfl
theorem dX0_flock_0 : decode cX0_flock 0 = .ok (.aload_n 0, 1) := dk_42 (dk_at dksX0_flock_0 0 rfl rfl)
theorem dX0_flock_1 : decode cX0_flock 1 = .ok (.iload_n 1, 1) := dk_27 (dk_at dksX0_flock_0 1 rfl rfl)
theorem dX0_flock_2 : decode cX0_flock 2 = .ok (.invokevirtual 316, 3) := dk_182 1 60 (dk_at dksX0_flock_0 2 rfl rfl)
theorem dX0_flock_5 : decode cX0_flock 5 = .ok (.ifCond .eq 9, 3) := dk_153 0 9 (dk_at dksX0_flock_0 5 rfl rfl)
theorem dX0_flock_8 : decode cX0_flock 8 = .ok (.aload_n 2, 1) := dk_44 (dk_at dksX0_flock_0 8 rfl rfl)
theorem dX0_flock_9 : decode cX0_flock 9 = .ok (.iload_n 1, 1) := dk_27 (dk_at dksX0_flock_0 9 rfl rfl)
theorem dX0_flock_10 : decode cX0_flock 10 = .ok (.baload, 1) := dk_51 (dk_at dksX0_flock_0 10 rfl rfl)
theorem dX0_flock_11 : decode cX0_flock 11 = .ok (.ifCond .ne 5, 3) := dk_154 0 5 (dk_at dksX0_flock_0 11 rfl rfl)
theorem dX0_flock_14 : decode cX0_flock 14 = .ok (.iconst 0, 1) := dk_3 (dk_at dksX0_flock_0 14 rfl rfl)
theorem dX0_flock_15 : decode cX0_flock 15 = .ok (.ireturn, 1) := dk_172 (dk_at dksX0_flock_0 15 rfl rfl)
theorem dX0_flock_16 : decode cX0_flock 16 = .ok (.aload_n 2, 1) := dk_44 (dk_at dksX0_flock_0 16 rfl rfl)
theorem dX0_flock_17 : decode cX0_flock 17 = .ok (.iload_n 1, 1) := dk_27 (dk_at dksX0_flock_0 17 rfl rfl)
theorem dX0_flock_18 : decode cX0_flock 18 = .ok (.iconst 0, 1) := dk_3 (dk_at dksX0_flock_0 18 rfl rfl)
theorem dX0_flock_19 : decode cX0_flock 19 = .ok (.bastore, 1) := dk_84 (dk_at dksX0_flock_0 19 rfl rfl)
theorem dX0_flock_20 : decode cX0_flock 20 = .ok (.aload_n 0, 1) := dk_42 (dk_at dksX0_flock_0 20 rfl rfl)
theorem dX0_flock_21 : decode cX0_flock 21 = .ok (.getfield 42, 3) := dk_180 0 42 (dk_at dksX0_flock_0 21 rfl rfl)
theorem dX0_flock_24 : decode cX0_flock 24 = .ok (.iconst 0, 1) := dk_3 (dk_at dksX0_flock_1 0 rfl rfl)
theorem dX0_flock_25 : decode cX0_flock 25 = .ok (.iload_n 1, 1) := dk_27 (dk_at dksX0_flock_1 1 rfl rfl)
theorem dX0_flock_26 : decode cX0_flock 26 = .ok (.iastore, 1) := dk_79 (dk_at dksX0_flock_1 2 rfl rfl)
theorem dX0_flock_27 : decode cX0_flock 27 = .ok (.iconst 1, 1) := dk_4 (dk_at dksX0_flock_1 3 rfl rfl)
theorem dX0_flock_28 : decode cX0_flock 28 = .ok (.istore_n 3, 1) := dk_62 (dk_at dksX0_flock_1 4 rfl rfl)
theorem dX0_flock_29 : decode cX0_flock 29 = .ok (.iconst 0, 1) := dk_3 (dk_at dksX0_flock_1 5 rfl rfl)
theorem dX0_flock_30 : decode cX0_flock 30 = .ok (.istore 4, 2) := dk_54 4 (dk_at dksX0_flock_1 6 rfl rfl)
theorem dX0_flock_32 : decode cX0_flock 32 = .ok (.iload 4, 2) := dk_21 4 (dk_at dksX0_flock_1 8 rfl rfl)
theorem dX0_flock_34 : decode cX0_flock 34 = .ok (.iload_n 3, 1) := dk_29 (dk_at dksX0_flock_1 10 rfl rfl)
theorem dX0_flock_35 : decode cX0_flock 35 = .ok (.if_icmp .ge 79, 3) := dk_162 0 79 (dk_at dksX0_flock_1 11 rfl rfl)
theorem dX0_flock_38 : decode cX0_flock 38 = .ok (.iconst 0, 1) := dk_3 (dk_at dksX0_flock_1 14 rfl rfl)
theorem dX0_flock_39 : decode cX0_flock 39 = .ok (.istore 5, 2) := dk_54 5 (dk_at dksX0_flock_1 15 rfl rfl)
theorem dX0_flock_41 : decode cX0_flock 41 = .ok (.iload 5, 2) := dk_21 5 (dk_at dksX0_flock_1 17 rfl rfl)
theorem dX0_flock_43 : decode cX0_flock 43 = .ok (.iconst 4, 1) := dk_7 (dk_at dksX0_flock_1 19 rfl rfl)
theorem dX0_flock_44 : decode cX0_flock 44 = .ok (.if_icmp .ge 64, 3) := dk_162 0 64 (dk_at dksX0_flock_1 20 rfl rfl)
theorem dX0_flock_47 : decode cX0_flock 47 = .ok (.aload_n 0, 1) := dk_42 (dk_at dksX0_flock_1 23 rfl rfl)
theorem dX0_flock_48 : decode cX0_flock 48 = .ok (.getfield 42, 3) := dk_180 0 42 (dk_at dksX0_flock_2 0 rfl rfl)
theorem dX0_flock_51 : decode cX0_flock 51 = .ok (.iload 4, 2) := dk_21 4 (dk_at dksX0_flock_2 3 rfl rfl)
theorem dX0_flock_53 : decode cX0_flock 53 = .ok (.iaload, 1) := dk_46 (dk_at dksX0_flock_2 5 rfl rfl)
theorem dX0_flock_54 : decode cX0_flock 54 = .ok (.iload 5, 2) := dk_21 5 (dk_at dksX0_flock_2 6 rfl rfl)
theorem dX0_flock_56 : decode cX0_flock 56 = .ok (.invokestatic 313, 3) := dk_184 1 57 (dk_at dksX0_flock_2 8 rfl rfl)
theorem dX0_flock_59 : decode cX0_flock 59 = .ok (.istore 6, 2) := dk_54 6 (dk_at dksX0_flock_2 11 rfl rfl)
theorem dX0_flock_61 : decode cX0_flock 61 = .ok (.iload 6, 2) := dk_21 6 (dk_at dksX0_flock_2 13 rfl rfl)
theorem dX0_flock_63 : decode cX0_flock 63 = .ok (.iconst (-1), 1) := dk_2 (dk_at dksX0_flock_2 15 rfl rfl)
theorem dX0_flock_64 : decode cX0_flock 64 = .ok (.if_icmp .eq 38, 3) := dk_159 0 38 (dk_at dksX0_flock_2 16 rfl rfl)
theorem dX0_flock_67 : decode cX0_flock 67 = .ok (.aload_n 0, 1) := dk_42 (dk_at dksX0_flock_2 19 rfl rfl)
theorem dX0_flock_68 : decode cX0_flock 68 = .ok (.iload 6, 2) := dk_21 6 (dk_at dksX0_flock_2 20 rfl rfl)
theorem dX0_flock_70 : decode cX0_flock 70 = .ok (.invokevirtual 316, 3) := dk_182 1 60 (dk_at dksX0_flock_3 0 rfl rfl)
theorem dX0_flock_73 : decode cX0_flock 73 = .ok (.ifCond .eq 29, 3) := dk_153 0 29 (dk_at dksX0_flock_3 3 rfl rfl)
theorem dX0_flock_76 : decode cX0_flock 76 = .ok (.aload_n 2, 1) := dk_44 (dk_at dksX0_flock_3 6 rfl rfl)
theorem dX0_flock_77 : decode cX0_flock 77 = .ok (.iload 6, 2) := dk_21 6 (dk_at dksX0_flock_3 7 rfl rfl)
theorem dX0_flock_79 : decode cX0_flock 79 = .ok (.baload, 1) := dk_51 (dk_at dksX0_flock_3 9 rfl rfl)
theorem dX0_flock_80 : decode cX0_flock 80 = .ok (.ifCond .ne 6, 3) := dk_154 0 6 (dk_at dksX0_flock_3 10 rfl rfl)
theorem dX0_flock_83 : decode cX0_flock 83 = .ok (.goto 19, 3) := dk_167 0 19 (dk_at dksX0_flock_3 13 rfl rfl)
theorem dX0_flock_86 : decode cX0_flock 86 = .ok (.aload_n 2, 1) := dk_44 (dk_at dksX0_flock_3 16 rfl rfl)
theorem dX0_flock_87 : decode cX0_flock 87 = .ok (.iload 6, 2) := dk_21 6 (dk_at dksX0_flock_3 17 rfl rfl)
theorem dX0_flock_89 : decode cX0_flock 89 = .ok (.iconst 0, 1) := dk_3 (dk_at dksX0_flock_3 19 rfl rfl)
theorem dX0_flock_90 : decode cX0_flock 90 = .ok (.bastore, 1) := dk_84 (dk_at dksX0_flock_3 20 rfl rfl)
theorem dX0_flock_91 : decode cX0_flock 91 = .ok (.aload_n 0, 1) := dk_42 (dk_at dksX0_flock_3 21 rfl rfl)
theorem dX0_flock_92 : decode cX0_flock 92 = .ok (.getfield 42, 3) := dk_180 0 42 (dk_at dksX0_flock_4 0 rfl rfl)
theorem dX0_flock_95 : decode cX0_flock 95 = .ok (.iload_n 3, 1) := dk_29 (dk_at dksX0_flock_4 3 rfl rfl)
theorem dX0_flock_96 : decode cX0_flock 96 = .ok (.iload 6, 2) := dk_21 6 (dk_at dksX0_flock_4 4 rfl rfl)
theorem dX0_flock_98 : decode cX0_flock 98 = .ok (.iastore, 1) := dk_79 (dk_at dksX0_flock_4 6 rfl rfl)
theorem dX0_flock_99 : decode cX0_flock 99 = .ok (.iinc 3 1, 3) := dk_132 3 1 (dk_at dksX0_flock_4 7 rfl rfl)
theorem dX0_flock_102 : decode cX0_flock 102 = .ok (.iinc 5 1, 3) := dk_132 5 1 (dk_at dksX0_flock_4 10 rfl rfl)
theorem dX0_flock_105 : decode cX0_flock 105 = .ok (.goto (-64), 3) := dk_167 255 192 (dk_at dksX0_flock_4 13 rfl rfl)
theorem dX0_flock_108 : decode cX0_flock 108 = .ok (.iinc 4 1, 3) := dk_132 4 1 (dk_at dksX0_flock_4 16 rfl rfl)
theorem dX0_flock_111 : decode cX0_flock 111 = .ok (.goto (-79), 3) := dk_167 255 177 (dk_at dksX0_flock_4 19 rfl rfl)
theorem dX0_flock_114 : decode cX0_flock 114 = .ok (.iload_n 3, 1) := dk_29 (dk_at dksX0_flock_4 22 rfl rfl)
theorem dX0_flock_115 : decode cX0_flock 115 = .ok (.ireturn, 1) := dk_172 (dk_at dksX0_flock_4 23 rfl rfl)
abbrev cX0_beside : ByteArray := prog_1_method_67_code
def yX0_beside : MethodName := ⟨RX0, "beside", "(I)I"⟩
def dkwX0_beside_1 : List UInt8 := [184, 1, 57, 182, 1, 60, 153, 0, 7, 4, 167, 0, 4, 3, 96, 61, 132, 3, 1, 167, 255, 219, 28, 172]
abbrev dktX0_beside_1 : List UInt8 := dkwX0_beside_1 ++ []
def dkwX0_beside_0 : List UInt8 := [3, 61, 3, 62, 29, 7, 162, 0, 38, 28, 27, 29, 184, 1, 57, 2, 159, 0, 19, 42, 27, 29]
abbrev dktX0_beside_0 : List UInt8 := dkwX0_beside_0 ++ dktX0_beside_1
theorem dksX0_beside_0 : cX0_beside.data.toList.drop 0 = dktX0_beside_0 := by decide +kernel
theorem dksX0_beside_1 : cX0_beside.data.toList.drop 22 = dktX0_beside_1 := dk_seg dksX0_beside_0 22 rfl rfl
theorem dX0_beside_0 : decode cX0_beside 0 = .ok (.iconst 0, 1) := dk_3 (dk_at dksX0_beside_0 0 rfl rfl)
theorem dX0_beside_1 : decode cX0_beside 1 = .ok (.istore_n 2, 1) := dk_61 (dk_at dksX0_beside_0 1 rfl rfl)
theorem dX0_beside_2 : decode cX0_beside 2 = .ok (.iconst 0, 1) := dk_3 (dk_at dksX0_beside_0 2 rfl rfl)
theorem dX0_beside_3 : decode cX0_beside 3 = .ok (.istore_n 3, 1) := dk_62 (dk_at dksX0_beside_0 3 rfl rfl)
theorem dX0_beside_4 : decode cX0_beside 4 = .ok (.iload_n 3, 1) := dk_29 (dk_at dksX0_beside_0 4 rfl rfl)
theorem dX0_beside_5 : decode cX0_beside 5 = .ok (.iconst 4, 1) := dk_7 (dk_at dksX0_beside_0 5 rfl rfl)
theorem dX0_beside_6 : decode cX0_beside 6 = .ok (.if_icmp .ge 38, 3) := dk_162 0 38 (dk_at dksX0_beside_0 6 rfl rfl)
theorem dX0_beside_9 : decode cX0_beside 9 = .ok (.iload_n 2, 1) := dk_28 (dk_at dksX0_beside_0 9 rfl rfl)
theorem dX0_beside_10 : decode cX0_beside 10 = .ok (.iload_n 1, 1) := dk_27 (dk_at dksX0_beside_0 10 rfl rfl)
theorem dX0_beside_11 : decode cX0_beside 11 = .ok (.iload_n 3, 1) := dk_29 (dk_at dksX0_beside_0 11 rfl rfl)
theorem dX0_beside_12 : decode cX0_beside 12 = .ok (.invokestatic 313, 3) := dk_184 1 57 (dk_at dksX0_beside_0 12 rfl rfl)
theorem dX0_beside_15 : decode cX0_beside 15 = .ok (.iconst (-1), 1) := dk_2 (dk_at dksX0_beside_0 15 rfl rfl)
theorem dX0_beside_16 : decode cX0_beside 16 = .ok (.if_icmp .eq 19, 3) := dk_159 0 19 (dk_at dksX0_beside_0 16 rfl rfl)
theorem dX0_beside_19 : decode cX0_beside 19 = .ok (.aload_n 0, 1) := dk_42 (dk_at dksX0_beside_0 19 rfl rfl)
theorem dX0_beside_20 : decode cX0_beside 20 = .ok (.iload_n 1, 1) := dk_27 (dk_at dksX0_beside_0 20 rfl rfl)
theorem dX0_beside_21 : decode cX0_beside 21 = .ok (.iload_n 3, 1) := dk_29 (dk_at dksX0_beside_0 21 rfl rfl)
theorem dX0_beside_22 : decode cX0_beside 22 = .ok (.invokestatic 313, 3) := dk_184 1 57 (dk_at dksX0_beside_1 0 rfl rfl)
theorem dX0_beside_25 : decode cX0_beside 25 = .ok (.invokevirtual 316, 3) := dk_182 1 60 (dk_at dksX0_beside_1 3 rfl rfl)
theorem dX0_beside_28 : decode cX0_beside 28 = .ok (.ifCond .eq 7, 3) := dk_153 0 7 (dk_at dksX0_beside_1 6 rfl rfl)
theorem dX0_beside_31 : decode cX0_beside 31 = .ok (.iconst 1, 1) := dk_4 (dk_at dksX0_beside_1 9 rfl rfl)
theorem dX0_beside_32 : decode cX0_beside 32 = .ok (.goto 4, 3) := dk_167 0 4 (dk_at dksX0_beside_1 10 rfl rfl)
theorem dX0_beside_35 : decode cX0_beside 35 = .ok (.iconst 0, 1) := dk_3 (dk_at dksX0_beside_1 13 rfl rfl)
theorem dX0_beside_36 : decode cX0_beside 36 = .ok (.iadd, 1) := dk_96 (dk_at dksX0_beside_1 14 rfl rfl)
theorem dX0_beside_37 : decode cX0_beside 37 = .ok (.istore_n 2, 1) := dk_61 (dk_at dksX0_beside_1 15 rfl rfl)
theorem dX0_beside_38 : decode cX0_beside 38 = .ok (.iinc 3 1, 3) := dk_132 3 1 (dk_at dksX0_beside_1 16 rfl rfl)
theorem dX0_beside_41 : decode cX0_beside 41 = .ok (.goto (-37), 3) := dk_167 255 219 (dk_at dksX0_beside_1 19 rfl rfl)
theorem dX0_beside_44 : decode cX0_beside 44 = .ok (.iload_n 2, 1) := dk_28 (dk_at dksX0_beside_1 22 rfl rfl)
theorem dX0_beside_45 : decode cX0_beside 45 = .ok (.ireturn, 1) := dk_172 (dk_at dksX0_beside_1 23 rfl rfl)
abbrev cX0_game : ByteArray := prog_1_method_72_code
def yX0_game : MethodName := ⟨RX0, "game", "(III)I"⟩
def dkwX0_game_4 : List UInt8 := [159, 0, 10, 21, 6, 21, 4, 162, 0, 7, 21, 6, 54, 4, 132, 5, 1, 167, 255, 205, 21, 4, 172]
abbrev dktX0_game_4 : List UInt8 := dkwX0_game_4 ++ []
def dkwX0_game_3 : List UInt8 := [184, 1, 222, 54, 6, 21, 6, 2, 159, 0, 30, 42, 180, 0, 98, 21, 6, 46, 154, 0, 20, 21, 4, 2]
abbrev dktX0_game_3 : List UInt8 := dkwX0_game_3 ++ dktX0_game_4
def dkwX0_game_2 : List UInt8 := [16, 61, 28, 104, 27, 96, 46, 172, 2, 54, 4, 3, 54, 5, 21, 5, 7, 162, 0, 51, 27, 28, 21, 5]
abbrev dktX0_game_2 : List UInt8 := dkwX0_game_2 ++ dktX0_game_3
def dkwX0_game_1 : List UInt8 := [184, 0, 110, 154, 0, 5, 2, 172, 42, 27, 28, 96, 182, 1, 228, 29, 154, 0, 15, 42, 180, 0, 98]
abbrev dktX0_game_1 : List UInt8 := dkwX0_game_1 ++ dktX0_game_2
def dkwX0_game_0 : List UInt8 := [27, 3, 16, 30, 184, 0, 110, 153, 0, 22, 28, 3, 16, 30, 184, 0, 110, 153, 0, 12, 29, 3, 4]
abbrev dktX0_game_0 : List UInt8 := dkwX0_game_0 ++ dktX0_game_1
theorem dksX0_game_0 : cX0_game.data.toList.drop 0 = dktX0_game_0 := by decide +kernel
theorem dksX0_game_1 : cX0_game.data.toList.drop 23 = dktX0_game_1 := dk_seg dksX0_game_0 23 rfl rfl
theorem dksX0_game_2 : cX0_game.data.toList.drop 46 = dktX0_game_2 := dk_seg dksX0_game_1 23 rfl rfl
theorem dksX0_game_3 : cX0_game.data.toList.drop 70 = dktX0_game_3 := dk_seg dksX0_game_2 24 rfl rfl
theorem dksX0_game_4 : cX0_game.data.toList.drop 94 = dktX0_game_4 := dk_seg dksX0_game_3 24 rfl rfl
theorem dX0_game_0 : decode cX0_game 0 = .ok (.iload_n 1, 1) := dk_27 (dk_at dksX0_game_0 0 rfl rfl)
theorem dX0_game_1 : decode cX0_game 1 = .ok (.iconst 0, 1) := dk_3 (dk_at dksX0_game_0 1 rfl rfl)
theorem dX0_game_2 : decode cX0_game 2 = .ok (.bipush 30, 2) := dk_16 30 (dk_at dksX0_game_0 2 rfl rfl)
theorem dX0_game_4 : decode cX0_game 4 = .ok (.invokestatic 110, 3) := dk_184 0 110 (dk_at dksX0_game_0 4 rfl rfl)
theorem dX0_game_7 : decode cX0_game 7 = .ok (.ifCond .eq 22, 3) := dk_153 0 22 (dk_at dksX0_game_0 7 rfl rfl)
theorem dX0_game_10 : decode cX0_game 10 = .ok (.iload_n 2, 1) := dk_28 (dk_at dksX0_game_0 10 rfl rfl)
theorem dX0_game_11 : decode cX0_game 11 = .ok (.iconst 0, 1) := dk_3 (dk_at dksX0_game_0 11 rfl rfl)
theorem dX0_game_12 : decode cX0_game 12 = .ok (.bipush 30, 2) := dk_16 30 (dk_at dksX0_game_0 12 rfl rfl)
theorem dX0_game_14 : decode cX0_game 14 = .ok (.invokestatic 110, 3) := dk_184 0 110 (dk_at dksX0_game_0 14 rfl rfl)
theorem dX0_game_17 : decode cX0_game 17 = .ok (.ifCond .eq 12, 3) := dk_153 0 12 (dk_at dksX0_game_0 17 rfl rfl)
theorem dX0_game_20 : decode cX0_game 20 = .ok (.iload_n 3, 1) := dk_29 (dk_at dksX0_game_0 20 rfl rfl)
theorem dX0_game_21 : decode cX0_game 21 = .ok (.iconst 0, 1) := dk_3 (dk_at dksX0_game_0 21 rfl rfl)
theorem dX0_game_22 : decode cX0_game 22 = .ok (.iconst 1, 1) := dk_4 (dk_at dksX0_game_0 22 rfl rfl)
theorem dX0_game_23 : decode cX0_game 23 = .ok (.invokestatic 110, 3) := dk_184 0 110 (dk_at dksX0_game_1 0 rfl rfl)
theorem dX0_game_26 : decode cX0_game 26 = .ok (.ifCond .ne 5, 3) := dk_154 0 5 (dk_at dksX0_game_1 3 rfl rfl)
theorem dX0_game_29 : decode cX0_game 29 = .ok (.iconst (-1), 1) := dk_2 (dk_at dksX0_game_1 6 rfl rfl)
theorem dX0_game_30 : decode cX0_game 30 = .ok (.ireturn, 1) := dk_172 (dk_at dksX0_game_1 7 rfl rfl)
theorem dX0_game_31 : decode cX0_game 31 = .ok (.aload_n 0, 1) := dk_42 (dk_at dksX0_game_1 8 rfl rfl)
theorem dX0_game_32 : decode cX0_game 32 = .ok (.iload_n 1, 1) := dk_27 (dk_at dksX0_game_1 9 rfl rfl)
theorem dX0_game_33 : decode cX0_game 33 = .ok (.iload_n 2, 1) := dk_28 (dk_at dksX0_game_1 10 rfl rfl)
theorem dX0_game_34 : decode cX0_game 34 = .ok (.iadd, 1) := dk_96 (dk_at dksX0_game_1 11 rfl rfl)
theorem dX0_game_35 : decode cX0_game 35 = .ok (.invokevirtual 484, 3) := dk_182 1 228 (dk_at dksX0_game_1 12 rfl rfl)
theorem dX0_game_38 : decode cX0_game 38 = .ok (.iload_n 3, 1) := dk_29 (dk_at dksX0_game_1 15 rfl rfl)
theorem dX0_game_39 : decode cX0_game 39 = .ok (.ifCond .ne 15, 3) := dk_154 0 15 (dk_at dksX0_game_1 16 rfl rfl)
theorem dX0_game_42 : decode cX0_game 42 = .ok (.aload_n 0, 1) := dk_42 (dk_at dksX0_game_1 19 rfl rfl)
theorem dX0_game_43 : decode cX0_game 43 = .ok (.getfield 98, 3) := dk_180 0 98 (dk_at dksX0_game_1 20 rfl rfl)
theorem dX0_game_46 : decode cX0_game 46 = .ok (.bipush 61, 2) := dk_16 61 (dk_at dksX0_game_2 0 rfl rfl)
theorem dX0_game_48 : decode cX0_game 48 = .ok (.iload_n 2, 1) := dk_28 (dk_at dksX0_game_2 2 rfl rfl)
theorem dX0_game_49 : decode cX0_game 49 = .ok (.imul, 1) := dk_104 (dk_at dksX0_game_2 3 rfl rfl)
theorem dX0_game_50 : decode cX0_game 50 = .ok (.iload_n 1, 1) := dk_27 (dk_at dksX0_game_2 4 rfl rfl)
theorem dX0_game_51 : decode cX0_game 51 = .ok (.iadd, 1) := dk_96 (dk_at dksX0_game_2 5 rfl rfl)
theorem dX0_game_52 : decode cX0_game 52 = .ok (.iaload, 1) := dk_46 (dk_at dksX0_game_2 6 rfl rfl)
theorem dX0_game_53 : decode cX0_game 53 = .ok (.ireturn, 1) := dk_172 (dk_at dksX0_game_2 7 rfl rfl)
theorem dX0_game_54 : decode cX0_game 54 = .ok (.iconst (-1), 1) := dk_2 (dk_at dksX0_game_2 8 rfl rfl)
theorem dX0_game_55 : decode cX0_game 55 = .ok (.istore 4, 2) := dk_54 4 (dk_at dksX0_game_2 9 rfl rfl)
theorem dX0_game_57 : decode cX0_game 57 = .ok (.iconst 0, 1) := dk_3 (dk_at dksX0_game_2 11 rfl rfl)
theorem dX0_game_58 : decode cX0_game 58 = .ok (.istore 5, 2) := dk_54 5 (dk_at dksX0_game_2 12 rfl rfl)
theorem dX0_game_60 : decode cX0_game 60 = .ok (.iload 5, 2) := dk_21 5 (dk_at dksX0_game_2 14 rfl rfl)
theorem dX0_game_62 : decode cX0_game 62 = .ok (.iconst 4, 1) := dk_7 (dk_at dksX0_game_2 16 rfl rfl)
theorem dX0_game_63 : decode cX0_game 63 = .ok (.if_icmp .ge 51, 3) := dk_162 0 51 (dk_at dksX0_game_2 17 rfl rfl)
theorem dX0_game_66 : decode cX0_game 66 = .ok (.iload_n 1, 1) := dk_27 (dk_at dksX0_game_2 20 rfl rfl)
theorem dX0_game_67 : decode cX0_game 67 = .ok (.iload_n 2, 1) := dk_28 (dk_at dksX0_game_2 21 rfl rfl)
theorem dX0_game_68 : decode cX0_game 68 = .ok (.iload 5, 2) := dk_21 5 (dk_at dksX0_game_2 22 rfl rfl)
theorem dX0_game_70 : decode cX0_game 70 = .ok (.invokestatic 478, 3) := dk_184 1 222 (dk_at dksX0_game_3 0 rfl rfl)
theorem dX0_game_73 : decode cX0_game 73 = .ok (.istore 6, 2) := dk_54 6 (dk_at dksX0_game_3 3 rfl rfl)
theorem dX0_game_75 : decode cX0_game 75 = .ok (.iload 6, 2) := dk_21 6 (dk_at dksX0_game_3 5 rfl rfl)
theorem dX0_game_77 : decode cX0_game 77 = .ok (.iconst (-1), 1) := dk_2 (dk_at dksX0_game_3 7 rfl rfl)
theorem dX0_game_78 : decode cX0_game 78 = .ok (.if_icmp .eq 30, 3) := dk_159 0 30 (dk_at dksX0_game_3 8 rfl rfl)
theorem dX0_game_81 : decode cX0_game 81 = .ok (.aload_n 0, 1) := dk_42 (dk_at dksX0_game_3 11 rfl rfl)
theorem dX0_game_82 : decode cX0_game 82 = .ok (.getfield 98, 3) := dk_180 0 98 (dk_at dksX0_game_3 12 rfl rfl)
theorem dX0_game_85 : decode cX0_game 85 = .ok (.iload 6, 2) := dk_21 6 (dk_at dksX0_game_3 15 rfl rfl)
theorem dX0_game_87 : decode cX0_game 87 = .ok (.iaload, 1) := dk_46 (dk_at dksX0_game_3 17 rfl rfl)
theorem dX0_game_88 : decode cX0_game 88 = .ok (.ifCond .ne 20, 3) := dk_154 0 20 (dk_at dksX0_game_3 18 rfl rfl)
theorem dX0_game_91 : decode cX0_game 91 = .ok (.iload 4, 2) := dk_21 4 (dk_at dksX0_game_3 21 rfl rfl)
theorem dX0_game_93 : decode cX0_game 93 = .ok (.iconst (-1), 1) := dk_2 (dk_at dksX0_game_3 23 rfl rfl)
theorem dX0_game_94 : decode cX0_game 94 = .ok (.if_icmp .eq 10, 3) := dk_159 0 10 (dk_at dksX0_game_4 0 rfl rfl)
theorem dX0_game_97 : decode cX0_game 97 = .ok (.iload 6, 2) := dk_21 6 (dk_at dksX0_game_4 3 rfl rfl)
theorem dX0_game_99 : decode cX0_game 99 = .ok (.iload 4, 2) := dk_21 4 (dk_at dksX0_game_4 5 rfl rfl)
theorem dX0_game_101 : decode cX0_game 101 = .ok (.if_icmp .ge 7, 3) := dk_162 0 7 (dk_at dksX0_game_4 7 rfl rfl)
theorem dX0_game_104 : decode cX0_game 104 = .ok (.iload 6, 2) := dk_21 6 (dk_at dksX0_game_4 10 rfl rfl)
theorem dX0_game_106 : decode cX0_game 106 = .ok (.istore 4, 2) := dk_54 4 (dk_at dksX0_game_4 12 rfl rfl)
theorem dX0_game_108 : decode cX0_game 108 = .ok (.iinc 5 1, 3) := dk_132 5 1 (dk_at dksX0_game_4 14 rfl rfl)
theorem dX0_game_111 : decode cX0_game 111 = .ok (.goto (-51), 3) := dk_167 255 205 (dk_at dksX0_game_4 17 rfl rfl)
theorem dX0_game_114 : decode cX0_game 114 = .ok (.iload 4, 2) := dk_21 4 (dk_at dksX0_game_4 20 rfl rfl)
theorem dX0_game_116 : decode cX0_game 116 = .ok (.ireturn, 1) := dk_172 (dk_at dksX0_game_4 22 rfl rfl)
abbrev cX0_laysNims : ByteArray := prog_1_method_71_code
def yX0_laysNims : MethodName := ⟨RX0, "laysNims", "(I)V"⟩
def dkwX0_laysNims_4 : List UInt8 := [132, 2, 1, 167, 255, 163, 177]
abbrev dktX0_laysNims_4 : List UInt8 := dkwX0_laysNims_4 ++ []
def dkwX0_laysNims_3 : List UInt8 := [16, 61, 28, 29, 100, 104, 29, 96, 21, 4, 2, 130, 184, 1, 225, 79, 132, 3, 1, 167, 255, 176]
abbrev dktX0_laysNims_3 : List UInt8 := dkwX0_laysNims_3 ++ dktX0_laysNims_4
def dkwX0_laysNims_2 : List UInt8 := [28, 29, 100, 21, 5, 184, 1, 222, 46, 120, 128, 54, 4, 132, 5, 1, 167, 255, 213, 42, 180, 0, 98]
abbrev dktX0_laysNims_2 : List UInt8 := dkwX0_laysNims_2 ++ dktX0_laysNims_3
def dkwX0_laysNims_1 : List UInt8 := [162, 0, 43, 29, 28, 29, 100, 21, 5, 184, 1, 222, 2, 159, 0, 24, 21, 4, 4, 42, 180, 0, 98, 29]
abbrev dktX0_laysNims_1 : List UInt8 := dkwX0_laysNims_1 ++ dktX0_laysNims_2
def dkwX0_laysNims_0 : List UInt8 := [3, 61, 28, 27, 163, 0, 94, 3, 62, 29, 28, 163, 0, 81, 3, 54, 4, 3, 54, 5, 21, 5, 7]
abbrev dktX0_laysNims_0 : List UInt8 := dkwX0_laysNims_0 ++ dktX0_laysNims_1
theorem dksX0_laysNims_0 : cX0_laysNims.data.toList.drop 0 = dktX0_laysNims_0 := by decide +kernel
theorem dksX0_laysNims_1 : cX0_laysNims.data.toList.drop 23 = dktX0_laysNims_1 := dk_seg dksX0_laysNims_0 23 rfl rfl
theorem dksX0_laysNims_2 : cX0_laysNims.data.toList.drop 47 = dktX0_laysNims_2 := dk_seg dksX0_laysNims_1 24 rfl rfl
theorem dksX0_laysNims_3 : cX0_laysNims.data.toList.drop 70 = dktX0_laysNims_3 := dk_seg dksX0_laysNims_2 23 rfl rfl
theorem dksX0_laysNims_4 : cX0_laysNims.data.toList.drop 92 = dktX0_laysNims_4 := dk_seg dksX0_laysNims_3 22 rfl rfl
theorem dX0_laysNims_0 : decode cX0_laysNims 0 = .ok (.iconst 0, 1) := dk_3 (dk_at dksX0_laysNims_0 0 rfl rfl)
theorem dX0_laysNims_1 : decode cX0_laysNims 1 = .ok (.istore_n 2, 1) := dk_61 (dk_at dksX0_laysNims_0 1 rfl rfl)
theorem dX0_laysNims_2 : decode cX0_laysNims 2 = .ok (.iload_n 2, 1) := dk_28 (dk_at dksX0_laysNims_0 2 rfl rfl)
theorem dX0_laysNims_3 : decode cX0_laysNims 3 = .ok (.iload_n 1, 1) := dk_27 (dk_at dksX0_laysNims_0 3 rfl rfl)
theorem dX0_laysNims_4 : decode cX0_laysNims 4 = .ok (.if_icmp .gt 94, 3) := dk_163 0 94 (dk_at dksX0_laysNims_0 4 rfl rfl)
theorem dX0_laysNims_7 : decode cX0_laysNims 7 = .ok (.iconst 0, 1) := dk_3 (dk_at dksX0_laysNims_0 7 rfl rfl)
theorem dX0_laysNims_8 : decode cX0_laysNims 8 = .ok (.istore_n 3, 1) := dk_62 (dk_at dksX0_laysNims_0 8 rfl rfl)
theorem dX0_laysNims_9 : decode cX0_laysNims 9 = .ok (.iload_n 3, 1) := dk_29 (dk_at dksX0_laysNims_0 9 rfl rfl)
theorem dX0_laysNims_10 : decode cX0_laysNims 10 = .ok (.iload_n 2, 1) := dk_28 (dk_at dksX0_laysNims_0 10 rfl rfl)
theorem dX0_laysNims_11 : decode cX0_laysNims 11 = .ok (.if_icmp .gt 81, 3) := dk_163 0 81 (dk_at dksX0_laysNims_0 11 rfl rfl)
theorem dX0_laysNims_14 : decode cX0_laysNims 14 = .ok (.iconst 0, 1) := dk_3 (dk_at dksX0_laysNims_0 14 rfl rfl)
theorem dX0_laysNims_15 : decode cX0_laysNims 15 = .ok (.istore 4, 2) := dk_54 4 (dk_at dksX0_laysNims_0 15 rfl rfl)
theorem dX0_laysNims_17 : decode cX0_laysNims 17 = .ok (.iconst 0, 1) := dk_3 (dk_at dksX0_laysNims_0 17 rfl rfl)
theorem dX0_laysNims_18 : decode cX0_laysNims 18 = .ok (.istore 5, 2) := dk_54 5 (dk_at dksX0_laysNims_0 18 rfl rfl)
theorem dX0_laysNims_20 : decode cX0_laysNims 20 = .ok (.iload 5, 2) := dk_21 5 (dk_at dksX0_laysNims_0 20 rfl rfl)
theorem dX0_laysNims_22 : decode cX0_laysNims 22 = .ok (.iconst 4, 1) := dk_7 (dk_at dksX0_laysNims_0 22 rfl rfl)
theorem dX0_laysNims_23 : decode cX0_laysNims 23 = .ok (.if_icmp .ge 43, 3) := dk_162 0 43 (dk_at dksX0_laysNims_1 0 rfl rfl)
theorem dX0_laysNims_26 : decode cX0_laysNims 26 = .ok (.iload_n 3, 1) := dk_29 (dk_at dksX0_laysNims_1 3 rfl rfl)
theorem dX0_laysNims_27 : decode cX0_laysNims 27 = .ok (.iload_n 2, 1) := dk_28 (dk_at dksX0_laysNims_1 4 rfl rfl)
theorem dX0_laysNims_28 : decode cX0_laysNims 28 = .ok (.iload_n 3, 1) := dk_29 (dk_at dksX0_laysNims_1 5 rfl rfl)
theorem dX0_laysNims_29 : decode cX0_laysNims 29 = .ok (.isub, 1) := dk_100 (dk_at dksX0_laysNims_1 6 rfl rfl)
theorem dX0_laysNims_30 : decode cX0_laysNims 30 = .ok (.iload 5, 2) := dk_21 5 (dk_at dksX0_laysNims_1 7 rfl rfl)
theorem dX0_laysNims_32 : decode cX0_laysNims 32 = .ok (.invokestatic 478, 3) := dk_184 1 222 (dk_at dksX0_laysNims_1 9 rfl rfl)
theorem dX0_laysNims_35 : decode cX0_laysNims 35 = .ok (.iconst (-1), 1) := dk_2 (dk_at dksX0_laysNims_1 12 rfl rfl)
theorem dX0_laysNims_36 : decode cX0_laysNims 36 = .ok (.if_icmp .eq 24, 3) := dk_159 0 24 (dk_at dksX0_laysNims_1 13 rfl rfl)
theorem dX0_laysNims_39 : decode cX0_laysNims 39 = .ok (.iload 4, 2) := dk_21 4 (dk_at dksX0_laysNims_1 16 rfl rfl)
theorem dX0_laysNims_41 : decode cX0_laysNims 41 = .ok (.iconst 1, 1) := dk_4 (dk_at dksX0_laysNims_1 18 rfl rfl)
theorem dX0_laysNims_42 : decode cX0_laysNims 42 = .ok (.aload_n 0, 1) := dk_42 (dk_at dksX0_laysNims_1 19 rfl rfl)
theorem dX0_laysNims_43 : decode cX0_laysNims 43 = .ok (.getfield 98, 3) := dk_180 0 98 (dk_at dksX0_laysNims_1 20 rfl rfl)
theorem dX0_laysNims_46 : decode cX0_laysNims 46 = .ok (.iload_n 3, 1) := dk_29 (dk_at dksX0_laysNims_1 23 rfl rfl)
theorem dX0_laysNims_47 : decode cX0_laysNims 47 = .ok (.iload_n 2, 1) := dk_28 (dk_at dksX0_laysNims_2 0 rfl rfl)
theorem dX0_laysNims_48 : decode cX0_laysNims 48 = .ok (.iload_n 3, 1) := dk_29 (dk_at dksX0_laysNims_2 1 rfl rfl)
theorem dX0_laysNims_49 : decode cX0_laysNims 49 = .ok (.isub, 1) := dk_100 (dk_at dksX0_laysNims_2 2 rfl rfl)
theorem dX0_laysNims_50 : decode cX0_laysNims 50 = .ok (.iload 5, 2) := dk_21 5 (dk_at dksX0_laysNims_2 3 rfl rfl)
theorem dX0_laysNims_52 : decode cX0_laysNims 52 = .ok (.invokestatic 478, 3) := dk_184 1 222 (dk_at dksX0_laysNims_2 5 rfl rfl)
theorem dX0_laysNims_55 : decode cX0_laysNims 55 = .ok (.iaload, 1) := dk_46 (dk_at dksX0_laysNims_2 8 rfl rfl)
theorem dX0_laysNims_56 : decode cX0_laysNims 56 = .ok (.ishl, 1) := dk_120 (dk_at dksX0_laysNims_2 9 rfl rfl)
theorem dX0_laysNims_57 : decode cX0_laysNims 57 = .ok (.ior, 1) := dk_128 (dk_at dksX0_laysNims_2 10 rfl rfl)
theorem dX0_laysNims_58 : decode cX0_laysNims 58 = .ok (.istore 4, 2) := dk_54 4 (dk_at dksX0_laysNims_2 11 rfl rfl)
theorem dX0_laysNims_60 : decode cX0_laysNims 60 = .ok (.iinc 5 1, 3) := dk_132 5 1 (dk_at dksX0_laysNims_2 13 rfl rfl)
theorem dX0_laysNims_63 : decode cX0_laysNims 63 = .ok (.goto (-43), 3) := dk_167 255 213 (dk_at dksX0_laysNims_2 16 rfl rfl)
theorem dX0_laysNims_66 : decode cX0_laysNims 66 = .ok (.aload_n 0, 1) := dk_42 (dk_at dksX0_laysNims_2 19 rfl rfl)
theorem dX0_laysNims_67 : decode cX0_laysNims 67 = .ok (.getfield 98, 3) := dk_180 0 98 (dk_at dksX0_laysNims_2 20 rfl rfl)
theorem dX0_laysNims_70 : decode cX0_laysNims 70 = .ok (.bipush 61, 2) := dk_16 61 (dk_at dksX0_laysNims_3 0 rfl rfl)
theorem dX0_laysNims_72 : decode cX0_laysNims 72 = .ok (.iload_n 2, 1) := dk_28 (dk_at dksX0_laysNims_3 2 rfl rfl)
theorem dX0_laysNims_73 : decode cX0_laysNims 73 = .ok (.iload_n 3, 1) := dk_29 (dk_at dksX0_laysNims_3 3 rfl rfl)
theorem dX0_laysNims_74 : decode cX0_laysNims 74 = .ok (.isub, 1) := dk_100 (dk_at dksX0_laysNims_3 4 rfl rfl)
theorem dX0_laysNims_75 : decode cX0_laysNims 75 = .ok (.imul, 1) := dk_104 (dk_at dksX0_laysNims_3 5 rfl rfl)
theorem dX0_laysNims_76 : decode cX0_laysNims 76 = .ok (.iload_n 3, 1) := dk_29 (dk_at dksX0_laysNims_3 6 rfl rfl)
theorem dX0_laysNims_77 : decode cX0_laysNims 77 = .ok (.iadd, 1) := dk_96 (dk_at dksX0_laysNims_3 7 rfl rfl)
theorem dX0_laysNims_78 : decode cX0_laysNims 78 = .ok (.iload 4, 2) := dk_21 4 (dk_at dksX0_laysNims_3 8 rfl rfl)
theorem dX0_laysNims_80 : decode cX0_laysNims 80 = .ok (.iconst (-1), 1) := dk_2 (dk_at dksX0_laysNims_3 10 rfl rfl)
theorem dX0_laysNims_81 : decode cX0_laysNims 81 = .ok (.ixor, 1) := dk_130 (dk_at dksX0_laysNims_3 11 rfl rfl)
theorem dX0_laysNims_82 : decode cX0_laysNims 82 = .ok (.invokestatic 481, 3) := dk_184 1 225 (dk_at dksX0_laysNims_3 12 rfl rfl)
theorem dX0_laysNims_85 : decode cX0_laysNims 85 = .ok (.iastore, 1) := dk_79 (dk_at dksX0_laysNims_3 15 rfl rfl)
theorem dX0_laysNims_86 : decode cX0_laysNims 86 = .ok (.iinc 3 1, 3) := dk_132 3 1 (dk_at dksX0_laysNims_3 16 rfl rfl)
theorem dX0_laysNims_89 : decode cX0_laysNims 89 = .ok (.goto (-80), 3) := dk_167 255 176 (dk_at dksX0_laysNims_3 19 rfl rfl)
theorem dX0_laysNims_92 : decode cX0_laysNims 92 = .ok (.iinc 2 1, 3) := dk_132 2 1 (dk_at dksX0_laysNims_4 0 rfl rfl)
theorem dX0_laysNims_95 : decode cX0_laysNims 95 = .ok (.goto (-93), 3) := dk_167 255 163 (dk_at dksX0_laysNims_4 3 rfl rfl)
theorem dX0_laysNims_98 : decode cX0_laysNims 98 = .ok (.return_, 1) := dk_177 (dk_at dksX0_laysNims_4 6 rfl rfl)
abbrev cX0_bent : ByteArray := prog_1_method_70_code
def yX0_bent : MethodName := ⟨RX0, "bent", "(III)I"⟩
def dkwX0_bent_2 : List UInt8 := [155, 0, 8, 21, 4, 156, 0, 7, 2, 167, 0, 10, 16, 61, 21, 4, 104, 29, 96, 172]
abbrev dktX0_bent_2 : List UInt8 := dkwX0_bent_2 ++ []
def dkwX0_bent_1 : List UInt8 := [28, 154, 0, 7, 4, 167, 0, 14, 28, 4, 160, 0, 7, 2, 167, 0, 5, 16, 254, 96, 54, 4, 29]
abbrev dktX0_bent_1 : List UInt8 := dkwX0_bent_1 ++ dktX0_bent_2
def dkwX0_bent_0 : List UInt8 := [26, 28, 5, 162, 0, 8, 16, 254, 167, 0, 13, 28, 5, 160, 0, 7, 4, 167, 0, 4, 2, 96, 62, 27]
abbrev dktX0_bent_0 : List UInt8 := dkwX0_bent_0 ++ dktX0_bent_1
theorem dksX0_bent_0 : cX0_bent.data.toList.drop 0 = dktX0_bent_0 := by decide +kernel
theorem dksX0_bent_1 : cX0_bent.data.toList.drop 24 = dktX0_bent_1 := dk_seg dksX0_bent_0 24 rfl rfl
theorem dksX0_bent_2 : cX0_bent.data.toList.drop 47 = dktX0_bent_2 := dk_seg dksX0_bent_1 23 rfl rfl
theorem dX0_bent_0 : decode cX0_bent 0 = .ok (.iload_n 0, 1) := dk_26 (dk_at dksX0_bent_0 0 rfl rfl)
theorem dX0_bent_1 : decode cX0_bent 1 = .ok (.iload_n 2, 1) := dk_28 (dk_at dksX0_bent_0 1 rfl rfl)
theorem dX0_bent_2 : decode cX0_bent 2 = .ok (.iconst 2, 1) := dk_5 (dk_at dksX0_bent_0 2 rfl rfl)
theorem dX0_bent_3 : decode cX0_bent 3 = .ok (.if_icmp .ge 8, 3) := dk_162 0 8 (dk_at dksX0_bent_0 3 rfl rfl)
theorem dX0_bent_6 : decode cX0_bent 6 = .ok (.bipush (-2), 2) := dk_16 254 (dk_at dksX0_bent_0 6 rfl rfl)
theorem dX0_bent_8 : decode cX0_bent 8 = .ok (.goto 13, 3) := dk_167 0 13 (dk_at dksX0_bent_0 8 rfl rfl)
theorem dX0_bent_11 : decode cX0_bent 11 = .ok (.iload_n 2, 1) := dk_28 (dk_at dksX0_bent_0 11 rfl rfl)
theorem dX0_bent_12 : decode cX0_bent 12 = .ok (.iconst 2, 1) := dk_5 (dk_at dksX0_bent_0 12 rfl rfl)
theorem dX0_bent_13 : decode cX0_bent 13 = .ok (.if_icmp .ne 7, 3) := dk_160 0 7 (dk_at dksX0_bent_0 13 rfl rfl)
theorem dX0_bent_16 : decode cX0_bent 16 = .ok (.iconst 1, 1) := dk_4 (dk_at dksX0_bent_0 16 rfl rfl)
theorem dX0_bent_17 : decode cX0_bent 17 = .ok (.goto 4, 3) := dk_167 0 4 (dk_at dksX0_bent_0 17 rfl rfl)
theorem dX0_bent_20 : decode cX0_bent 20 = .ok (.iconst (-1), 1) := dk_2 (dk_at dksX0_bent_0 20 rfl rfl)
theorem dX0_bent_21 : decode cX0_bent 21 = .ok (.iadd, 1) := dk_96 (dk_at dksX0_bent_0 21 rfl rfl)
theorem dX0_bent_22 : decode cX0_bent 22 = .ok (.istore_n 3, 1) := dk_62 (dk_at dksX0_bent_0 22 rfl rfl)
theorem dX0_bent_23 : decode cX0_bent 23 = .ok (.iload_n 1, 1) := dk_27 (dk_at dksX0_bent_0 23 rfl rfl)
theorem dX0_bent_24 : decode cX0_bent 24 = .ok (.iload_n 2, 1) := dk_28 (dk_at dksX0_bent_1 0 rfl rfl)
theorem dX0_bent_25 : decode cX0_bent 25 = .ok (.ifCond .ne 7, 3) := dk_154 0 7 (dk_at dksX0_bent_1 1 rfl rfl)
theorem dX0_bent_28 : decode cX0_bent 28 = .ok (.iconst 1, 1) := dk_4 (dk_at dksX0_bent_1 4 rfl rfl)
theorem dX0_bent_29 : decode cX0_bent 29 = .ok (.goto 14, 3) := dk_167 0 14 (dk_at dksX0_bent_1 5 rfl rfl)
theorem dX0_bent_32 : decode cX0_bent 32 = .ok (.iload_n 2, 1) := dk_28 (dk_at dksX0_bent_1 8 rfl rfl)
theorem dX0_bent_33 : decode cX0_bent 33 = .ok (.iconst 1, 1) := dk_4 (dk_at dksX0_bent_1 9 rfl rfl)
theorem dX0_bent_34 : decode cX0_bent 34 = .ok (.if_icmp .ne 7, 3) := dk_160 0 7 (dk_at dksX0_bent_1 10 rfl rfl)
theorem dX0_bent_37 : decode cX0_bent 37 = .ok (.iconst (-1), 1) := dk_2 (dk_at dksX0_bent_1 13 rfl rfl)
theorem dX0_bent_38 : decode cX0_bent 38 = .ok (.goto 5, 3) := dk_167 0 5 (dk_at dksX0_bent_1 14 rfl rfl)
theorem dX0_bent_41 : decode cX0_bent 41 = .ok (.bipush (-2), 2) := dk_16 254 (dk_at dksX0_bent_1 17 rfl rfl)
theorem dX0_bent_43 : decode cX0_bent 43 = .ok (.iadd, 1) := dk_96 (dk_at dksX0_bent_1 19 rfl rfl)
theorem dX0_bent_44 : decode cX0_bent 44 = .ok (.istore 4, 2) := dk_54 4 (dk_at dksX0_bent_1 20 rfl rfl)
theorem dX0_bent_46 : decode cX0_bent 46 = .ok (.iload_n 3, 1) := dk_29 (dk_at dksX0_bent_1 22 rfl rfl)
theorem dX0_bent_47 : decode cX0_bent 47 = .ok (.ifCond .lt 8, 3) := dk_155 0 8 (dk_at dksX0_bent_2 0 rfl rfl)
theorem dX0_bent_50 : decode cX0_bent 50 = .ok (.iload 4, 2) := dk_21 4 (dk_at dksX0_bent_2 3 rfl rfl)
theorem dX0_bent_52 : decode cX0_bent 52 = .ok (.ifCond .ge 7, 3) := dk_156 0 7 (dk_at dksX0_bent_2 5 rfl rfl)
theorem dX0_bent_55 : decode cX0_bent 55 = .ok (.iconst (-1), 1) := dk_2 (dk_at dksX0_bent_2 8 rfl rfl)
theorem dX0_bent_56 : decode cX0_bent 56 = .ok (.goto 10, 3) := dk_167 0 10 (dk_at dksX0_bent_2 9 rfl rfl)
theorem dX0_bent_59 : decode cX0_bent 59 = .ok (.bipush 61, 2) := dk_16 61 (dk_at dksX0_bent_2 12 rfl rfl)
theorem dX0_bent_61 : decode cX0_bent 61 = .ok (.iload 4, 2) := dk_21 4 (dk_at dksX0_bent_2 14 rfl rfl)
theorem dX0_bent_63 : decode cX0_bent 63 = .ok (.imul, 1) := dk_104 (dk_at dksX0_bent_2 16 rfl rfl)
theorem dX0_bent_64 : decode cX0_bent 64 = .ok (.iload_n 3, 1) := dk_29 (dk_at dksX0_bent_2 17 rfl rfl)
theorem dX0_bent_65 : decode cX0_bent 65 = .ok (.iadd, 1) := dk_96 (dk_at dksX0_bent_2 18 rfl rfl)
theorem dX0_bent_66 : decode cX0_bent 66 = .ok (.ireturn, 1) := dk_172 (dk_at dksX0_bent_2 19 rfl rfl)
abbrev cX0_image : ByteArray := prog_1_method_73_code
def yX0_image : MethodName := ⟨RX0, "image", "(Z)Z"⟩
def dkwX0_image_2 : List UInt8 := [42, 182, 0, 185, 87, 42, 4, 181, 1, 231, 4, 172]
abbrev dktX0_image_2 : List UInt8 := dkwX0_image_2 ++ []
def dkwX0_image_1 : List UInt8 := [180, 0, 20, 182, 1, 234, 167, 0, 14, 42, 180, 0, 20, 42, 180, 0, 24, 182, 1, 234, 27, 154, 0, 8]
abbrev dktX0_image_1 : List UInt8 := dkwX0_image_1 ++ dktX0_image_2
def dkwX0_image_0 : List UInt8 := [27, 154, 0, 12, 42, 180, 1, 231, 154, 0, 5, 3, 172, 27, 153, 0, 17, 42, 180, 0, 24, 42]
abbrev dktX0_image_0 : List UInt8 := dkwX0_image_0 ++ dktX0_image_1
theorem dksX0_image_0 : cX0_image.data.toList.drop 0 = dktX0_image_0 := by decide +kernel
theorem dksX0_image_1 : cX0_image.data.toList.drop 22 = dktX0_image_1 := dk_seg dksX0_image_0 22 rfl rfl
theorem dksX0_image_2 : cX0_image.data.toList.drop 46 = dktX0_image_2 := dk_seg dksX0_image_1 24 rfl rfl
theorem dX0_image_0 : decode cX0_image 0 = .ok (.iload_n 1, 1) := dk_27 (dk_at dksX0_image_0 0 rfl rfl)
theorem dX0_image_1 : decode cX0_image 1 = .ok (.ifCond .ne 12, 3) := dk_154 0 12 (dk_at dksX0_image_0 1 rfl rfl)
theorem dX0_image_4 : decode cX0_image 4 = .ok (.aload_n 0, 1) := dk_42 (dk_at dksX0_image_0 4 rfl rfl)
theorem dX0_image_5 : decode cX0_image 5 = .ok (.getfield 487, 3) := dk_180 1 231 (dk_at dksX0_image_0 5 rfl rfl)
theorem dX0_image_8 : decode cX0_image 8 = .ok (.ifCond .ne 5, 3) := dk_154 0 5 (dk_at dksX0_image_0 8 rfl rfl)
theorem dX0_image_11 : decode cX0_image 11 = .ok (.iconst 0, 1) := dk_3 (dk_at dksX0_image_0 11 rfl rfl)
theorem dX0_image_12 : decode cX0_image 12 = .ok (.ireturn, 1) := dk_172 (dk_at dksX0_image_0 12 rfl rfl)
theorem dX0_image_13 : decode cX0_image 13 = .ok (.iload_n 1, 1) := dk_27 (dk_at dksX0_image_0 13 rfl rfl)
theorem dX0_image_14 : decode cX0_image 14 = .ok (.ifCond .eq 17, 3) := dk_153 0 17 (dk_at dksX0_image_0 14 rfl rfl)
theorem dX0_image_17 : decode cX0_image 17 = .ok (.aload_n 0, 1) := dk_42 (dk_at dksX0_image_0 17 rfl rfl)
theorem dX0_image_18 : decode cX0_image 18 = .ok (.getfield 24, 3) := dk_180 0 24 (dk_at dksX0_image_0 18 rfl rfl)
theorem dX0_image_21 : decode cX0_image 21 = .ok (.aload_n 0, 1) := dk_42 (dk_at dksX0_image_0 21 rfl rfl)
theorem dX0_image_22 : decode cX0_image 22 = .ok (.getfield 20, 3) := dk_180 0 20 (dk_at dksX0_image_1 0 rfl rfl)
theorem dX0_image_25 : decode cX0_image 25 = .ok (.invokevirtual 490, 3) := dk_182 1 234 (dk_at dksX0_image_1 3 rfl rfl)
theorem dX0_image_28 : decode cX0_image 28 = .ok (.goto 14, 3) := dk_167 0 14 (dk_at dksX0_image_1 6 rfl rfl)
theorem dX0_image_31 : decode cX0_image 31 = .ok (.aload_n 0, 1) := dk_42 (dk_at dksX0_image_1 9 rfl rfl)
theorem dX0_image_32 : decode cX0_image 32 = .ok (.getfield 20, 3) := dk_180 0 20 (dk_at dksX0_image_1 10 rfl rfl)
theorem dX0_image_35 : decode cX0_image 35 = .ok (.aload_n 0, 1) := dk_42 (dk_at dksX0_image_1 13 rfl rfl)
theorem dX0_image_36 : decode cX0_image 36 = .ok (.getfield 24, 3) := dk_180 0 24 (dk_at dksX0_image_1 14 rfl rfl)
theorem dX0_image_39 : decode cX0_image 39 = .ok (.invokevirtual 490, 3) := dk_182 1 234 (dk_at dksX0_image_1 17 rfl rfl)
theorem dX0_image_42 : decode cX0_image 42 = .ok (.iload_n 1, 1) := dk_27 (dk_at dksX0_image_1 20 rfl rfl)
theorem dX0_image_43 : decode cX0_image 43 = .ok (.ifCond .ne 8, 3) := dk_154 0 8 (dk_at dksX0_image_1 21 rfl rfl)
theorem dX0_image_46 : decode cX0_image 46 = .ok (.aload_n 0, 1) := dk_42 (dk_at dksX0_image_2 0 rfl rfl)
theorem dX0_image_47 : decode cX0_image 47 = .ok (.invokevirtual 185, 3) := dk_182 0 185 (dk_at dksX0_image_2 1 rfl rfl)
theorem dX0_image_50 : decode cX0_image 50 = .ok (.pop, 1) := dk_87 (dk_at dksX0_image_2 4 rfl rfl)
theorem dX0_image_51 : decode cX0_image 51 = .ok (.aload_n 0, 1) := dk_42 (dk_at dksX0_image_2 5 rfl rfl)
theorem dX0_image_52 : decode cX0_image 52 = .ok (.iconst 1, 1) := dk_4 (dk_at dksX0_image_2 6 rfl rfl)
theorem dX0_image_53 : decode cX0_image 53 = .ok (.putfield 487, 3) := dk_181 1 231 (dk_at dksX0_image_2 7 rfl rfl)
theorem dX0_image_56 : decode cX0_image 56 = .ok (.iconst 1, 1) := dk_4 (dk_at dksX0_image_2 10 rfl rfl)
theorem dX0_image_57 : decode cX0_image 57 = .ok (.ireturn, 1) := dk_172 (dk_at dksX0_image_2 11 rfl rfl)
