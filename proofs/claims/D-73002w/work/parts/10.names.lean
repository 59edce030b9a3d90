set_option maxRecDepth 100000
abbrev cX5_drivesOut : ByteArray := prog_17_method_37_code
def yX5_drivesOut : MethodName := ⟨RX5, "drivesOut", "()V"⟩
def dkwX5_drivesOut_3 : List UInt8 := [132, 1, 1, 167, 255, 183, 177]
abbrev dktX5_drivesOut_3 : List UInt8 := dkwX5_drivesOut_3 ++ []
def dkwX5_drivesOut_2 : List UInt8 := [180, 0, 9, 28, 6, 96, 46, 184, 0, 108, 46, 4, 160, 0, 12, 42, 180, 0, 9, 28, 4, 96, 3, 79]
abbrev dktX5_drivesOut_2 : List UInt8 := dkwX5_drivesOut_2 ++ dktX5_drivesOut_3
def dkwX5_drivesOut_1 : List UInt8 := [180, 0, 9, 28, 4, 96, 46, 4, 160, 0, 40, 42, 180, 0, 9, 42, 180, 0, 9, 28, 5, 96, 46, 42]
abbrev dktX5_drivesOut_1 : List UInt8 := dkwX5_drivesOut_1 ++ dktX5_drivesOut_2
def dkwX5_drivesOut_0 : List UInt8 := [3, 60, 27, 42, 180, 0, 9, 17, 3, 172, 46, 162, 0, 67, 17, 0, 144, 16, 12, 27, 104, 96, 61, 42]
abbrev dktX5_drivesOut_0 : List UInt8 := dkwX5_drivesOut_0 ++ dktX5_drivesOut_1
theorem dksX5_drivesOut_0 : cX5_drivesOut.data.toList.drop 0 = dktX5_drivesOut_0 := by decide +kernel
theorem dksX5_drivesOut_1 : cX5_drivesOut.data.toList.drop 24 = dktX5_drivesOut_1 := dk_seg dksX5_drivesOut_0 24 rfl rfl
theorem dksX5_drivesOut_2 : cX5_drivesOut.data.toList.drop 48 = dktX5_drivesOut_2 := dk_seg dksX5_drivesOut_1 24 rfl rfl
theorem dksX5_drivesOut_3 : cX5_drivesOut.data.toList.drop 72 = dktX5_drivesOut_3 := dk_seg dksX5_drivesOut_2 24 rfl rfl
theorem dX5_drivesOut_0 : decode cX5_drivesOut 0 = .ok (.iconst 0, 1) := dk_3 (dk_at dksX5_drivesOut_0 0 rfl rfl)
theorem dX5_drivesOut_1 : decode cX5_drivesOut 1 = .ok (.istore_n 1, 1) := dk_60 (dk_at dksX5_drivesOut_0 1 rfl rfl)
theorem dX5_drivesOut_2 : decode cX5_drivesOut 2 = .ok (.iload_n 1, 1) := dk_27 (dk_at dksX5_drivesOut_0 2 rfl rfl)
theorem dX5_drivesOut_3 : decode cX5_drivesOut 3 = .ok (.aload_n 0, 1) := dk_42 (dk_at dksX5_drivesOut_0 3 rfl rfl)
theorem dX5_drivesOut_4 : decode cX5_drivesOut 4 = .ok (.getfield 9, 3) := dk_180 0 9 (dk_at dksX5_drivesOut_0 4 rfl rfl)
theorem dX5_drivesOut_7 : decode cX5_drivesOut 7 = .ok (.sipush 940, 3) := dk_17 3 172 (dk_at dksX5_drivesOut_0 7 rfl rfl)
theorem dX5_drivesOut_10 : decode cX5_drivesOut 10 = .ok (.iaload, 1) := dk_46 (dk_at dksX5_drivesOut_0 10 rfl rfl)
theorem dX5_drivesOut_11 : decode cX5_drivesOut 11 = .ok (.if_icmp .ge 67, 3) := dk_162 0 67 (dk_at dksX5_drivesOut_0 11 rfl rfl)
theorem dX5_drivesOut_14 : decode cX5_drivesOut 14 = .ok (.sipush 144, 3) := dk_17 0 144 (dk_at dksX5_drivesOut_0 14 rfl rfl)
theorem dX5_drivesOut_17 : decode cX5_drivesOut 17 = .ok (.bipush 12, 2) := dk_16 12 (dk_at dksX5_drivesOut_0 17 rfl rfl)
theorem dX5_drivesOut_19 : decode cX5_drivesOut 19 = .ok (.iload_n 1, 1) := dk_27 (dk_at dksX5_drivesOut_0 19 rfl rfl)
theorem dX5_drivesOut_20 : decode cX5_drivesOut 20 = .ok (.imul, 1) := dk_104 (dk_at dksX5_drivesOut_0 20 rfl rfl)
theorem dX5_drivesOut_21 : decode cX5_drivesOut 21 = .ok (.iadd, 1) := dk_96 (dk_at dksX5_drivesOut_0 21 rfl rfl)
theorem dX5_drivesOut_22 : decode cX5_drivesOut 22 = .ok (.istore_n 2, 1) := dk_61 (dk_at dksX5_drivesOut_0 22 rfl rfl)
theorem dX5_drivesOut_23 : decode cX5_drivesOut 23 = .ok (.aload_n 0, 1) := dk_42 (dk_at dksX5_drivesOut_0 23 rfl rfl)
theorem dX5_drivesOut_24 : decode cX5_drivesOut 24 = .ok (.getfield 9, 3) := dk_180 0 9 (dk_at dksX5_drivesOut_1 0 rfl rfl)
theorem dX5_drivesOut_27 : decode cX5_drivesOut 27 = .ok (.iload_n 2, 1) := dk_28 (dk_at dksX5_drivesOut_1 3 rfl rfl)
theorem dX5_drivesOut_28 : decode cX5_drivesOut 28 = .ok (.iconst 1, 1) := dk_4 (dk_at dksX5_drivesOut_1 4 rfl rfl)
theorem dX5_drivesOut_29 : decode cX5_drivesOut 29 = .ok (.iadd, 1) := dk_96 (dk_at dksX5_drivesOut_1 5 rfl rfl)
theorem dX5_drivesOut_30 : decode cX5_drivesOut 30 = .ok (.iaload, 1) := dk_46 (dk_at dksX5_drivesOut_1 6 rfl rfl)
theorem dX5_drivesOut_31 : decode cX5_drivesOut 31 = .ok (.iconst 1, 1) := dk_4 (dk_at dksX5_drivesOut_1 7 rfl rfl)
theorem dX5_drivesOut_32 : decode cX5_drivesOut 32 = .ok (.if_icmp .ne 40, 3) := dk_160 0 40 (dk_at dksX5_drivesOut_1 8 rfl rfl)
theorem dX5_drivesOut_35 : decode cX5_drivesOut 35 = .ok (.aload_n 0, 1) := dk_42 (dk_at dksX5_drivesOut_1 11 rfl rfl)
theorem dX5_drivesOut_36 : decode cX5_drivesOut 36 = .ok (.getfield 9, 3) := dk_180 0 9 (dk_at dksX5_drivesOut_1 12 rfl rfl)
theorem dX5_drivesOut_39 : decode cX5_drivesOut 39 = .ok (.aload_n 0, 1) := dk_42 (dk_at dksX5_drivesOut_1 15 rfl rfl)
theorem dX5_drivesOut_40 : decode cX5_drivesOut 40 = .ok (.getfield 9, 3) := dk_180 0 9 (dk_at dksX5_drivesOut_1 16 rfl rfl)
theorem dX5_drivesOut_43 : decode cX5_drivesOut 43 = .ok (.iload_n 2, 1) := dk_28 (dk_at dksX5_drivesOut_1 19 rfl rfl)
theorem dX5_drivesOut_44 : decode cX5_drivesOut 44 = .ok (.iconst 2, 1) := dk_5 (dk_at dksX5_drivesOut_1 20 rfl rfl)
theorem dX5_drivesOut_45 : decode cX5_drivesOut 45 = .ok (.iadd, 1) := dk_96 (dk_at dksX5_drivesOut_1 21 rfl rfl)
theorem dX5_drivesOut_46 : decode cX5_drivesOut 46 = .ok (.iaload, 1) := dk_46 (dk_at dksX5_drivesOut_1 22 rfl rfl)
theorem dX5_drivesOut_47 : decode cX5_drivesOut 47 = .ok (.aload_n 0, 1) := dk_42 (dk_at dksX5_drivesOut_1 23 rfl rfl)
theorem dX5_drivesOut_48 : decode cX5_drivesOut 48 = .ok (.getfield 9, 3) := dk_180 0 9 (dk_at dksX5_drivesOut_2 0 rfl rfl)
theorem dX5_drivesOut_51 : decode cX5_drivesOut 51 = .ok (.iload_n 2, 1) := dk_28 (dk_at dksX5_drivesOut_2 3 rfl rfl)
theorem dX5_drivesOut_52 : decode cX5_drivesOut 52 = .ok (.iconst 3, 1) := dk_6 (dk_at dksX5_drivesOut_2 4 rfl rfl)
theorem dX5_drivesOut_53 : decode cX5_drivesOut 53 = .ok (.iadd, 1) := dk_96 (dk_at dksX5_drivesOut_2 5 rfl rfl)
theorem dX5_drivesOut_54 : decode cX5_drivesOut 54 = .ok (.iaload, 1) := dk_46 (dk_at dksX5_drivesOut_2 6 rfl rfl)
theorem dX5_drivesOut_55 : decode cX5_drivesOut 55 = .ok (.invokestatic 108, 3) := dk_184 0 108 (dk_at dksX5_drivesOut_2 7 rfl rfl)
theorem dX5_drivesOut_58 : decode cX5_drivesOut 58 = .ok (.iaload, 1) := dk_46 (dk_at dksX5_drivesOut_2 10 rfl rfl)
theorem dX5_drivesOut_59 : decode cX5_drivesOut 59 = .ok (.iconst 1, 1) := dk_4 (dk_at dksX5_drivesOut_2 11 rfl rfl)
theorem dX5_drivesOut_60 : decode cX5_drivesOut 60 = .ok (.if_icmp .ne 12, 3) := dk_160 0 12 (dk_at dksX5_drivesOut_2 12 rfl rfl)
theorem dX5_drivesOut_63 : decode cX5_drivesOut 63 = .ok (.aload_n 0, 1) := dk_42 (dk_at dksX5_drivesOut_2 15 rfl rfl)
theorem dX5_drivesOut_64 : decode cX5_drivesOut 64 = .ok (.getfield 9, 3) := dk_180 0 9 (dk_at dksX5_drivesOut_2 16 rfl rfl)
theorem dX5_drivesOut_67 : decode cX5_drivesOut 67 = .ok (.iload_n 2, 1) := dk_28 (dk_at dksX5_drivesOut_2 19 rfl rfl)
theorem dX5_drivesOut_68 : decode cX5_drivesOut 68 = .ok (.iconst 1, 1) := dk_4 (dk_at dksX5_drivesOut_2 20 rfl rfl)
theorem dX5_drivesOut_69 : decode cX5_drivesOut 69 = .ok (.iadd, 1) := dk_96 (dk_at dksX5_drivesOut_2 21 rfl rfl)
theorem dX5_drivesOut_70 : decode cX5_drivesOut 70 = .ok (.iconst 0, 1) := dk_3 (dk_at dksX5_drivesOut_2 22 rfl rfl)
theorem dX5_drivesOut_71 : decode cX5_drivesOut 71 = .ok (.iastore, 1) := dk_79 (dk_at dksX5_drivesOut_2 23 rfl rfl)
theorem dX5_drivesOut_72 : decode cX5_drivesOut 72 = .ok (.iinc 1 1, 3) := dk_132 1 1 (dk_at dksX5_drivesOut_3 0 rfl rfl)
theorem dX5_drivesOut_75 : decode cX5_drivesOut 75 = .ok (.goto (-73), 3) := dk_167 255 183 (dk_at dksX5_drivesOut_3 3 rfl rfl)
theorem dX5_drivesOut_78 : decode cX5_drivesOut 78 = .ok (.return_, 1) := dk_177 (dk_at dksX5_drivesOut_3 6 rfl rfl)
abbrev cX5_place : ByteArray := prog_17_method_8_code
def yX5_place : MethodName := ⟨RX5, "place", "(II)I"⟩
def dkwX5_place_0 : List UInt8 := [16, 12, 27, 104, 26, 96, 172]
abbrev dktX5_place_0 : List UInt8 := dkwX5_place_0 ++ []
theorem dksX5_place_0 : cX5_place.data.toList.drop 0 = dktX5_place_0 := by decide +kernel
theorem dX5_place_0 : decode cX5_place 0 = .ok (.bipush 12, 2) := dk_16 12 (dk_at dksX5_place_0 0 rfl rfl)
theorem dX5_place_2 : decode cX5_place 2 = .ok (.iload_n 1, 1) := dk_27 (dk_at dksX5_place_0 2 rfl rfl)
theorem dX5_place_3 : decode cX5_place 3 = .ok (.imul, 1) := dk_104 (dk_at dksX5_place_0 3 rfl rfl)
theorem dX5_place_4 : decode cX5_place 4 = .ok (.iload_n 0, 1) := dk_26 (dk_at dksX5_place_0 4 rfl rfl)
theorem dX5_place_5 : decode cX5_place 5 = .ok (.iadd, 1) := dk_96 (dk_at dksX5_place_0 5 rfl rfl)
theorem dX5_place_6 : decode cX5_place 6 = .ok (.ireturn, 1) := dk_172 (dk_at dksX5_place_0 6 rfl rfl)
abbrev cX5_fault : ByteArray := prog_17_method_38_code
def yX5_fault : MethodName := ⟨RX5, "fault", "(I)I"⟩
def dkwX5_fault_1 : List UInt8 := [172]
abbrev dktX5_fault_1 : List UInt8 := dkwX5_fault_1 ++ []
def dkwX5_fault_0 : List UInt8 := [27, 154, 0, 10, 42, 180, 0, 169, 167, 0, 16, 27, 4, 160, 0, 10, 42, 180, 0, 22, 167, 0, 4, 2]
abbrev dktX5_fault_0 : List UInt8 := dkwX5_fault_0 ++ dktX5_fault_1
theorem dksX5_fault_0 : cX5_fault.data.toList.drop 0 = dktX5_fault_0 := by decide +kernel
theorem dksX5_fault_1 : cX5_fault.data.toList.drop 24 = dktX5_fault_1 := dk_seg dksX5_fault_0 24 rfl rfl
theorem dX5_fault_0 : decode cX5_fault 0 = .ok (.iload_n 1, 1) := dk_27 (dk_at dksX5_fault_0 0 rfl rfl)
theorem dX5_fault_1 : decode cX5_fault 1 = .ok (.ifCond .ne 10, 3) := dk_154 0 10 (dk_at dksX5_fault_0 1 rfl rfl)
theorem dX5_fault_4 : decode cX5_fault 4 = .ok (.aload_n 0, 1) := dk_42 (dk_at dksX5_fault_0 4 rfl rfl)
theorem dX5_fault_5 : decode cX5_fault 5 = .ok (.getfield 169, 3) := dk_180 0 169 (dk_at dksX5_fault_0 5 rfl rfl)
theorem dX5_fault_8 : decode cX5_fault 8 = .ok (.goto 16, 3) := dk_167 0 16 (dk_at dksX5_fault_0 8 rfl rfl)
theorem dX5_fault_11 : decode cX5_fault 11 = .ok (.iload_n 1, 1) := dk_27 (dk_at dksX5_fault_0 11 rfl rfl)
theorem dX5_fault_12 : decode cX5_fault 12 = .ok (.iconst 1, 1) := dk_4 (dk_at dksX5_fault_0 12 rfl rfl)
theorem dX5_fault_13 : decode cX5_fault 13 = .ok (.if_icmp .ne 10, 3) := dk_160 0 10 (dk_at dksX5_fault_0 13 rfl rfl)
theorem dX5_fault_16 : decode cX5_fault 16 = .ok (.aload_n 0, 1) := dk_42 (dk_at dksX5_fault_0 16 rfl rfl)
theorem dX5_fault_17 : decode cX5_fault 17 = .ok (.getfield 22, 3) := dk_180 0 22 (dk_at dksX5_fault_0 17 rfl rfl)
theorem dX5_fault_20 : decode cX5_fault 20 = .ok (.goto 4, 3) := dk_167 0 4 (dk_at dksX5_fault_0 20 rfl rfl)
theorem dX5_fault_23 : decode cX5_fault 23 = .ok (.iconst (-1), 1) := dk_2 (dk_at dksX5_fault_0 23 rfl rfl)
theorem dX5_fault_24 : decode cX5_fault 24 = .ok (.ireturn, 1) := dk_172 (dk_at dksX5_fault_1 0 rfl rfl)
abbrev cX5_minutes : ByteArray := prog_17_method_70_code
def yX5_minutes : MethodName := ⟨RX5, "minutes", "(I)I"⟩
def dkwX5_minutes_4 : List UInt8 := [42, 16, 9, 182, 1, 63, 28, 100, 172]
abbrev dktX5_minutes_4 : List UInt8 := dkwX5_minutes_4 ++ []
def dkwX5_minutes_3 : List UInt8 := [62, 29, 27, 162, 0, 21, 42, 182, 1, 54, 42, 182, 1, 57, 42, 182, 1, 60, 132, 3, 1, 167, 255, 236]
abbrev dktX5_minutes_3 : List UInt8 := dkwX5_minutes_3 ++ dktX5_minutes_4
def dkwX5_minutes_2 : List UInt8 := [180, 0, 9, 17, 0, 144, 16, 12, 29, 104, 96, 16, 9, 96, 46, 96, 61, 132, 3, 1, 167, 255, 222, 3]
abbrev dktX5_minutes_2 : List UInt8 := dkwX5_minutes_2 ++ dktX5_minutes_3
def dkwX5_minutes_1 : List UInt8 := [164, 0, 5, 2, 172, 3, 61, 3, 62, 29, 42, 180, 0, 9, 17, 3, 172, 46, 162, 0, 28, 28, 42]
abbrev dktX5_minutes_1 : List UInt8 := dkwX5_minutes_1 ++ dktX5_minutes_2
def dkwX5_minutes_0 : List UInt8 := [27, 4, 16, 60, 184, 0, 100, 153, 0, 19, 42, 180, 0, 9, 17, 3, 168, 46, 27, 96, 17, 39, 15]
abbrev dktX5_minutes_0 : List UInt8 := dkwX5_minutes_0 ++ dktX5_minutes_1
theorem dksX5_minutes_0 : cX5_minutes.data.toList.drop 0 = dktX5_minutes_0 := by decide +kernel
theorem dksX5_minutes_1 : cX5_minutes.data.toList.drop 23 = dktX5_minutes_1 := dk_seg dksX5_minutes_0 23 rfl rfl
theorem dksX5_minutes_2 : cX5_minutes.data.toList.drop 46 = dktX5_minutes_2 := dk_seg dksX5_minutes_1 23 rfl rfl
theorem dksX5_minutes_3 : cX5_minutes.data.toList.drop 70 = dktX5_minutes_3 := dk_seg dksX5_minutes_2 24 rfl rfl
theorem dksX5_minutes_4 : cX5_minutes.data.toList.drop 94 = dktX5_minutes_4 := dk_seg dksX5_minutes_3 24 rfl rfl
theorem dX5_minutes_0 : decode cX5_minutes 0 = .ok (.iload_n 1, 1) := dk_27 (dk_at dksX5_minutes_0 0 rfl rfl)
theorem dX5_minutes_1 : decode cX5_minutes 1 = .ok (.iconst 1, 1) := dk_4 (dk_at dksX5_minutes_0 1 rfl rfl)
theorem dX5_minutes_2 : decode cX5_minutes 2 = .ok (.bipush 60, 2) := dk_16 60 (dk_at dksX5_minutes_0 2 rfl rfl)
theorem dX5_minutes_4 : decode cX5_minutes 4 = .ok (.invokestatic 100, 3) := dk_184 0 100 (dk_at dksX5_minutes_0 4 rfl rfl)
theorem dX5_minutes_7 : decode cX5_minutes 7 = .ok (.ifCond .eq 19, 3) := dk_153 0 19 (dk_at dksX5_minutes_0 7 rfl rfl)
theorem dX5_minutes_10 : decode cX5_minutes 10 = .ok (.aload_n 0, 1) := dk_42 (dk_at dksX5_minutes_0 10 rfl rfl)
theorem dX5_minutes_11 : decode cX5_minutes 11 = .ok (.getfield 9, 3) := dk_180 0 9 (dk_at dksX5_minutes_0 11 rfl rfl)
theorem dX5_minutes_14 : decode cX5_minutes 14 = .ok (.sipush 936, 3) := dk_17 3 168 (dk_at dksX5_minutes_0 14 rfl rfl)
theorem dX5_minutes_17 : decode cX5_minutes 17 = .ok (.iaload, 1) := dk_46 (dk_at dksX5_minutes_0 17 rfl rfl)
theorem dX5_minutes_18 : decode cX5_minutes 18 = .ok (.iload_n 1, 1) := dk_27 (dk_at dksX5_minutes_0 18 rfl rfl)
theorem dX5_minutes_19 : decode cX5_minutes 19 = .ok (.iadd, 1) := dk_96 (dk_at dksX5_minutes_0 19 rfl rfl)
theorem dX5_minutes_20 : decode cX5_minutes 20 = .ok (.sipush 9999, 3) := dk_17 39 15 (dk_at dksX5_minutes_0 20 rfl rfl)
theorem dX5_minutes_23 : decode cX5_minutes 23 = .ok (.if_icmp .le 5, 3) := dk_164 0 5 (dk_at dksX5_minutes_1 0 rfl rfl)
theorem dX5_minutes_26 : decode cX5_minutes 26 = .ok (.iconst (-1), 1) := dk_2 (dk_at dksX5_minutes_1 3 rfl rfl)
theorem dX5_minutes_27 : decode cX5_minutes 27 = .ok (.ireturn, 1) := dk_172 (dk_at dksX5_minutes_1 4 rfl rfl)
theorem dX5_minutes_28 : decode cX5_minutes 28 = .ok (.iconst 0, 1) := dk_3 (dk_at dksX5_minutes_1 5 rfl rfl)
theorem dX5_minutes_29 : decode cX5_minutes 29 = .ok (.istore_n 2, 1) := dk_61 (dk_at dksX5_minutes_1 6 rfl rfl)
theorem dX5_minutes_30 : decode cX5_minutes 30 = .ok (.iconst 0, 1) := dk_3 (dk_at dksX5_minutes_1 7 rfl rfl)
theorem dX5_minutes_31 : decode cX5_minutes 31 = .ok (.istore_n 3, 1) := dk_62 (dk_at dksX5_minutes_1 8 rfl rfl)
theorem dX5_minutes_32 : decode cX5_minutes 32 = .ok (.iload_n 3, 1) := dk_29 (dk_at dksX5_minutes_1 9 rfl rfl)
theorem dX5_minutes_33 : decode cX5_minutes 33 = .ok (.aload_n 0, 1) := dk_42 (dk_at dksX5_minutes_1 10 rfl rfl)
theorem dX5_minutes_34 : decode cX5_minutes 34 = .ok (.getfield 9, 3) := dk_180 0 9 (dk_at dksX5_minutes_1 11 rfl rfl)
theorem dX5_minutes_37 : decode cX5_minutes 37 = .ok (.sipush 940, 3) := dk_17 3 172 (dk_at dksX5_minutes_1 14 rfl rfl)
theorem dX5_minutes_40 : decode cX5_minutes 40 = .ok (.iaload, 1) := dk_46 (dk_at dksX5_minutes_1 17 rfl rfl)
theorem dX5_minutes_41 : decode cX5_minutes 41 = .ok (.if_icmp .ge 28, 3) := dk_162 0 28 (dk_at dksX5_minutes_1 18 rfl rfl)
theorem dX5_minutes_44 : decode cX5_minutes 44 = .ok (.iload_n 2, 1) := dk_28 (dk_at dksX5_minutes_1 21 rfl rfl)
theorem dX5_minutes_45 : decode cX5_minutes 45 = .ok (.aload_n 0, 1) := dk_42 (dk_at dksX5_minutes_1 22 rfl rfl)
theorem dX5_minutes_46 : decode cX5_minutes 46 = .ok (.getfield 9, 3) := dk_180 0 9 (dk_at dksX5_minutes_2 0 rfl rfl)
theorem dX5_minutes_49 : decode cX5_minutes 49 = .ok (.sipush 144, 3) := dk_17 0 144 (dk_at dksX5_minutes_2 3 rfl rfl)
theorem dX5_minutes_52 : decode cX5_minutes 52 = .ok (.bipush 12, 2) := dk_16 12 (dk_at dksX5_minutes_2 6 rfl rfl)
theorem dX5_minutes_54 : decode cX5_minutes 54 = .ok (.iload_n 3, 1) := dk_29 (dk_at dksX5_minutes_2 8 rfl rfl)
theorem dX5_minutes_55 : decode cX5_minutes 55 = .ok (.imul, 1) := dk_104 (dk_at dksX5_minutes_2 9 rfl rfl)
theorem dX5_minutes_56 : decode cX5_minutes 56 = .ok (.iadd, 1) := dk_96 (dk_at dksX5_minutes_2 10 rfl rfl)
theorem dX5_minutes_57 : decode cX5_minutes 57 = .ok (.bipush 9, 2) := dk_16 9 (dk_at dksX5_minutes_2 11 rfl rfl)
theorem dX5_minutes_59 : decode cX5_minutes 59 = .ok (.iadd, 1) := dk_96 (dk_at dksX5_minutes_2 13 rfl rfl)
theorem dX5_minutes_60 : decode cX5_minutes 60 = .ok (.iaload, 1) := dk_46 (dk_at dksX5_minutes_2 14 rfl rfl)
theorem dX5_minutes_61 : decode cX5_minutes 61 = .ok (.iadd, 1) := dk_96 (dk_at dksX5_minutes_2 15 rfl rfl)
theorem dX5_minutes_62 : decode cX5_minutes 62 = .ok (.istore_n 2, 1) := dk_61 (dk_at dksX5_minutes_2 16 rfl rfl)
theorem dX5_minutes_63 : decode cX5_minutes 63 = .ok (.iinc 3 1, 3) := dk_132 3 1 (dk_at dksX5_minutes_2 17 rfl rfl)
theorem dX5_minutes_66 : decode cX5_minutes 66 = .ok (.goto (-34), 3) := dk_167 255 222 (dk_at dksX5_minutes_2 20 rfl rfl)
theorem dX5_minutes_69 : decode cX5_minutes 69 = .ok (.iconst 0, 1) := dk_3 (dk_at dksX5_minutes_2 23 rfl rfl)
theorem dX5_minutes_70 : decode cX5_minutes 70 = .ok (.istore_n 3, 1) := dk_62 (dk_at dksX5_minutes_3 0 rfl rfl)
theorem dX5_minutes_71 : decode cX5_minutes 71 = .ok (.iload_n 3, 1) := dk_29 (dk_at dksX5_minutes_3 1 rfl rfl)
theorem dX5_minutes_72 : decode cX5_minutes 72 = .ok (.iload_n 1, 1) := dk_27 (dk_at dksX5_minutes_3 2 rfl rfl)
theorem dX5_minutes_73 : decode cX5_minutes 73 = .ok (.if_icmp .ge 21, 3) := dk_162 0 21 (dk_at dksX5_minutes_3 3 rfl rfl)
theorem dX5_minutes_76 : decode cX5_minutes 76 = .ok (.aload_n 0, 1) := dk_42 (dk_at dksX5_minutes_3 6 rfl rfl)
theorem dX5_minutes_77 : decode cX5_minutes 77 = .ok (.invokevirtual 310, 3) := dk_182 1 54 (dk_at dksX5_minutes_3 7 rfl rfl)
theorem dX5_minutes_80 : decode cX5_minutes 80 = .ok (.aload_n 0, 1) := dk_42 (dk_at dksX5_minutes_3 10 rfl rfl)
theorem dX5_minutes_81 : decode cX5_minutes 81 = .ok (.invokevirtual 313, 3) := dk_182 1 57 (dk_at dksX5_minutes_3 11 rfl rfl)
theorem dX5_minutes_84 : decode cX5_minutes 84 = .ok (.aload_n 0, 1) := dk_42 (dk_at dksX5_minutes_3 14 rfl rfl)
theorem dX5_minutes_85 : decode cX5_minutes 85 = .ok (.invokevirtual 316, 3) := dk_182 1 60 (dk_at dksX5_minutes_3 15 rfl rfl)
theorem dX5_minutes_88 : decode cX5_minutes 88 = .ok (.iinc 3 1, 3) := dk_132 3 1 (dk_at dksX5_minutes_3 18 rfl rfl)
theorem dX5_minutes_91 : decode cX5_minutes 91 = .ok (.goto (-20), 3) := dk_167 255 236 (dk_at dksX5_minutes_3 21 rfl rfl)
theorem dX5_minutes_94 : decode cX5_minutes 94 = .ok (.aload_n 0, 1) := dk_42 (dk_at dksX5_minutes_4 0 rfl rfl)
theorem dX5_minutes_95 : decode cX5_minutes 95 = .ok (.bipush 9, 2) := dk_16 9 (dk_at dksX5_minutes_4 1 rfl rfl)
theorem dX5_minutes_97 : decode cX5_minutes 97 = .ok (.invokevirtual 319, 3) := dk_182 1 63 (dk_at dksX5_minutes_4 3 rfl rfl)
theorem dX5_minutes_100 : decode cX5_minutes 100 = .ok (.iload_n 2, 1) := dk_28 (dk_at dksX5_minutes_4 6 rfl rfl)
theorem dX5_minutes_101 : decode cX5_minutes 101 = .ok (.isub, 1) := dk_100 (dk_at dksX5_minutes_4 7 rfl rfl)
theorem dX5_minutes_102 : decode cX5_minutes 102 = .ok (.ireturn, 1) := dk_172 (dk_at dksX5_minutes_4 8 rfl rfl)
abbrev cX5_begins : ByteArray := prog_17_method_6_code
def yX5_begins : MethodName := ⟨RX5, "begins", "()V"⟩
def dkwX5_begins_0 : List UInt8 := [42, 180, 0, 9, 42, 180, 0, 13, 17, 9, 121, 184, 0, 86, 42, 3, 181, 0, 90, 177]
abbrev dktX5_begins_0 : List UInt8 := dkwX5_begins_0 ++ []
theorem dksX5_begins_0 : cX5_begins.data.toList.drop 0 = dktX5_begins_0 := by decide +kernel
theorem dX5_begins_0 : decode cX5_begins 0 = .ok (.aload_n 0, 1) := dk_42 (dk_at dksX5_begins_0 0 rfl rfl)
theorem dX5_begins_1 : decode cX5_begins 1 = .ok (.getfield 9, 3) := dk_180 0 9 (dk_at dksX5_begins_0 1 rfl rfl)
theorem dX5_begins_4 : decode cX5_begins 4 = .ok (.aload_n 0, 1) := dk_42 (dk_at dksX5_begins_0 4 rfl rfl)
theorem dX5_begins_5 : decode cX5_begins 5 = .ok (.getfield 13, 3) := dk_180 0 13 (dk_at dksX5_begins_0 5 rfl rfl)
theorem dX5_begins_8 : decode cX5_begins 8 = .ok (.sipush 2425, 3) := dk_17 9 121 (dk_at dksX5_begins_0 8 rfl rfl)
theorem dX5_begins_11 : decode cX5_begins 11 = .ok (.invokestatic 86, 3) := dk_184 0 86 (dk_at dksX5_begins_0 11 rfl rfl)
theorem dX5_begins_14 : decode cX5_begins 14 = .ok (.aload_n 0, 1) := dk_42 (dk_at dksX5_begins_0 14 rfl rfl)
theorem dX5_begins_15 : decode cX5_begins 15 = .ok (.iconst 0, 1) := dk_3 (dk_at dksX5_begins_0 15 rfl rfl)
theorem dX5_begins_16 : decode cX5_begins 16 = .ok (.putfield 90, 3) := dk_181 0 90 (dk_at dksX5_begins_0 16 rfl rfl)
theorem dX5_begins_19 : decode cX5_begins 19 = .ok (.return_, 1) := dk_177 (dk_at dksX5_begins_0 19 rfl rfl)
abbrev cX5_goesMinute : ByteArray := prog_17_method_68_code
def yX5_goesMinute : MethodName := ⟨RX5, "goesMinute", "()V"⟩
def dkwX5_goesMinute_3 : List UInt8 := [180, 0, 13, 17, 3, 168, 92, 46, 4, 96, 79, 177]
abbrev dktX5_goesMinute_3 : List UInt8 := dkwX5_goesMinute_3 ++ []
def dkwX5_goesMinute_2 : List UInt8 := [28, 182, 1, 48, 167, 0, 13, 28, 6, 160, 0, 8, 42, 27, 182, 1, 51, 132, 1, 1, 167, 255, 191, 42]
abbrev dktX5_goesMinute_2 : List UInt8 := dkwX5_goesMinute_2 ++ dktX5_goesMinute_3
def dkwX5_goesMinute_1 : List UInt8 := [167, 0, 41, 42, 27, 182, 1, 45, 61, 42, 27, 16, 8, 4, 182, 1, 14, 28, 6, 162, 0, 12, 42, 27]
abbrev dktX5_goesMinute_1 : List UInt8 := dkwX5_goesMinute_1 ++ dktX5_goesMinute_2
def dkwX5_goesMinute_0 : List UInt8 := [3, 60, 27, 42, 180, 0, 13, 17, 3, 172, 46, 162, 0, 59, 42, 27, 4, 182, 0, 104, 154, 0, 6]
abbrev dktX5_goesMinute_0 : List UInt8 := dkwX5_goesMinute_0 ++ dktX5_goesMinute_1
theorem dksX5_goesMinute_0 : cX5_goesMinute.data.toList.drop 0 = dktX5_goesMinute_0 := by decide +kernel
theorem dksX5_goesMinute_1 : cX5_goesMinute.data.toList.drop 23 = dktX5_goesMinute_1 := dk_seg dksX5_goesMinute_0 23 rfl rfl
theorem dksX5_goesMinute_2 : cX5_goesMinute.data.toList.drop 47 = dktX5_goesMinute_2 := dk_seg dksX5_goesMinute_1 24 rfl rfl
theorem dksX5_goesMinute_3 : cX5_goesMinute.data.toList.drop 71 = dktX5_goesMinute_3 := dk_seg dksX5_goesMinute_2 24 rfl rfl
theorem dX5_goesMinute_0 : decode cX5_goesMinute 0 = .ok (.iconst 0, 1) := dk_3 (dk_at dksX5_goesMinute_0 0 rfl rfl)
theorem dX5_goesMinute_1 : decode cX5_goesMinute 1 = .ok (.istore_n 1, 1) := dk_60 (dk_at dksX5_goesMinute_0 1 rfl rfl)
theorem dX5_goesMinute_2 : decode cX5_goesMinute 2 = .ok (.iload_n 1, 1) := dk_27 (dk_at dksX5_goesMinute_0 2 rfl rfl)
theorem dX5_goesMinute_3 : decode cX5_goesMinute 3 = .ok (.aload_n 0, 1) := dk_42 (dk_at dksX5_goesMinute_0 3 rfl rfl)
theorem dX5_goesMinute_4 : decode cX5_goesMinute 4 = .ok (.getfield 13, 3) := dk_180 0 13 (dk_at dksX5_goesMinute_0 4 rfl rfl)
theorem dX5_goesMinute_7 : decode cX5_goesMinute 7 = .ok (.sipush 940, 3) := dk_17 3 172 (dk_at dksX5_goesMinute_0 7 rfl rfl)
theorem dX5_goesMinute_10 : decode cX5_goesMinute 10 = .ok (.iaload, 1) := dk_46 (dk_at dksX5_goesMinute_0 10 rfl rfl)
theorem dX5_goesMinute_11 : decode cX5_goesMinute 11 = .ok (.if_icmp .ge 59, 3) := dk_162 0 59 (dk_at dksX5_goesMinute_0 11 rfl rfl)
theorem dX5_goesMinute_14 : decode cX5_goesMinute 14 = .ok (.aload_n 0, 1) := dk_42 (dk_at dksX5_goesMinute_0 14 rfl rfl)
theorem dX5_goesMinute_15 : decode cX5_goesMinute 15 = .ok (.iload_n 1, 1) := dk_27 (dk_at dksX5_goesMinute_0 15 rfl rfl)
theorem dX5_goesMinute_16 : decode cX5_goesMinute 16 = .ok (.iconst 1, 1) := dk_4 (dk_at dksX5_goesMinute_0 16 rfl rfl)
theorem dX5_goesMinute_17 : decode cX5_goesMinute 17 = .ok (.invokevirtual 104, 3) := dk_182 0 104 (dk_at dksX5_goesMinute_0 17 rfl rfl)
theorem dX5_goesMinute_20 : decode cX5_goesMinute 20 = .ok (.ifCond .ne 6, 3) := dk_154 0 6 (dk_at dksX5_goesMinute_0 20 rfl rfl)
theorem dX5_goesMinute_23 : decode cX5_goesMinute 23 = .ok (.goto 41, 3) := dk_167 0 41 (dk_at dksX5_goesMinute_1 0 rfl rfl)
theorem dX5_goesMinute_26 : decode cX5_goesMinute 26 = .ok (.aload_n 0, 1) := dk_42 (dk_at dksX5_goesMinute_1 3 rfl rfl)
theorem dX5_goesMinute_27 : decode cX5_goesMinute 27 = .ok (.iload_n 1, 1) := dk_27 (dk_at dksX5_goesMinute_1 4 rfl rfl)
theorem dX5_goesMinute_28 : decode cX5_goesMinute 28 = .ok (.invokevirtual 301, 3) := dk_182 1 45 (dk_at dksX5_goesMinute_1 5 rfl rfl)
theorem dX5_goesMinute_31 : decode cX5_goesMinute 31 = .ok (.istore_n 2, 1) := dk_61 (dk_at dksX5_goesMinute_1 8 rfl rfl)
theorem dX5_goesMinute_32 : decode cX5_goesMinute 32 = .ok (.aload_n 0, 1) := dk_42 (dk_at dksX5_goesMinute_1 9 rfl rfl)
theorem dX5_goesMinute_33 : decode cX5_goesMinute 33 = .ok (.iload_n 1, 1) := dk_27 (dk_at dksX5_goesMinute_1 10 rfl rfl)
theorem dX5_goesMinute_34 : decode cX5_goesMinute 34 = .ok (.bipush 8, 2) := dk_16 8 (dk_at dksX5_goesMinute_1 11 rfl rfl)
theorem dX5_goesMinute_36 : decode cX5_goesMinute 36 = .ok (.iconst 1, 1) := dk_4 (dk_at dksX5_goesMinute_1 13 rfl rfl)
theorem dX5_goesMinute_37 : decode cX5_goesMinute 37 = .ok (.invokevirtual 270, 3) := dk_182 1 14 (dk_at dksX5_goesMinute_1 14 rfl rfl)
theorem dX5_goesMinute_40 : decode cX5_goesMinute 40 = .ok (.iload_n 2, 1) := dk_28 (dk_at dksX5_goesMinute_1 17 rfl rfl)
theorem dX5_goesMinute_41 : decode cX5_goesMinute 41 = .ok (.iconst 3, 1) := dk_6 (dk_at dksX5_goesMinute_1 18 rfl rfl)
theorem dX5_goesMinute_42 : decode cX5_goesMinute 42 = .ok (.if_icmp .ge 12, 3) := dk_162 0 12 (dk_at dksX5_goesMinute_1 19 rfl rfl)
theorem dX5_goesMinute_45 : decode cX5_goesMinute 45 = .ok (.aload_n 0, 1) := dk_42 (dk_at dksX5_goesMinute_1 22 rfl rfl)
theorem dX5_goesMinute_46 : decode cX5_goesMinute 46 = .ok (.iload_n 1, 1) := dk_27 (dk_at dksX5_goesMinute_1 23 rfl rfl)
theorem dX5_goesMinute_47 : decode cX5_goesMinute 47 = .ok (.iload_n 2, 1) := dk_28 (dk_at dksX5_goesMinute_2 0 rfl rfl)
theorem dX5_goesMinute_48 : decode cX5_goesMinute 48 = .ok (.invokevirtual 304, 3) := dk_182 1 48 (dk_at dksX5_goesMinute_2 1 rfl rfl)
theorem dX5_goesMinute_51 : decode cX5_goesMinute 51 = .ok (.goto 13, 3) := dk_167 0 13 (dk_at dksX5_goesMinute_2 4 rfl rfl)
theorem dX5_goesMinute_54 : decode cX5_goesMinute 54 = .ok (.iload_n 2, 1) := dk_28 (dk_at dksX5_goesMinute_2 7 rfl rfl)
theorem dX5_goesMinute_55 : decode cX5_goesMinute 55 = .ok (.iconst 3, 1) := dk_6 (dk_at dksX5_goesMinute_2 8 rfl rfl)
theorem dX5_goesMinute_56 : decode cX5_goesMinute 56 = .ok (.if_icmp .ne 8, 3) := dk_160 0 8 (dk_at dksX5_goesMinute_2 9 rfl rfl)
theorem dX5_goesMinute_59 : decode cX5_goesMinute 59 = .ok (.aload_n 0, 1) := dk_42 (dk_at dksX5_goesMinute_2 12 rfl rfl)
theorem dX5_goesMinute_60 : decode cX5_goesMinute 60 = .ok (.iload_n 1, 1) := dk_27 (dk_at dksX5_goesMinute_2 13 rfl rfl)
theorem dX5_goesMinute_61 : decode cX5_goesMinute 61 = .ok (.invokevirtual 307, 3) := dk_182 1 51 (dk_at dksX5_goesMinute_2 14 rfl rfl)
theorem dX5_goesMinute_64 : decode cX5_goesMinute 64 = .ok (.iinc 1 1, 3) := dk_132 1 1 (dk_at dksX5_goesMinute_2 17 rfl rfl)
theorem dX5_goesMinute_67 : decode cX5_goesMinute 67 = .ok (.goto (-65), 3) := dk_167 255 191 (dk_at dksX5_goesMinute_2 20 rfl rfl)
theorem dX5_goesMinute_70 : decode cX5_goesMinute 70 = .ok (.aload_n 0, 1) := dk_42 (dk_at dksX5_goesMinute_2 23 rfl rfl)
theorem dX5_goesMinute_71 : decode cX5_goesMinute 71 = .ok (.getfield 13, 3) := dk_180 0 13 (dk_at dksX5_goesMinute_3 0 rfl rfl)
theorem dX5_goesMinute_74 : decode cX5_goesMinute 74 = .ok (.sipush 936, 3) := dk_17 3 168 (dk_at dksX5_goesMinute_3 3 rfl rfl)
theorem dX5_goesMinute_77 : decode cX5_goesMinute 77 = .ok (.dup2, 1) := dk_92 (dk_at dksX5_goesMinute_3 6 rfl rfl)
theorem dX5_goesMinute_78 : decode cX5_goesMinute 78 = .ok (.iaload, 1) := dk_46 (dk_at dksX5_goesMinute_3 7 rfl rfl)
theorem dX5_goesMinute_79 : decode cX5_goesMinute 79 = .ok (.iconst 1, 1) := dk_4 (dk_at dksX5_goesMinute_3 8 rfl rfl)
theorem dX5_goesMinute_80 : decode cX5_goesMinute 80 = .ok (.iadd, 1) := dk_96 (dk_at dksX5_goesMinute_3 9 rfl rfl)
theorem dX5_goesMinute_81 : decode cX5_goesMinute 81 = .ok (.iastore, 1) := dk_79 (dk_at dksX5_goesMinute_3 10 rfl rfl)
theorem dX5_goesMinute_82 : decode cX5_goesMinute 82 = .ok (.return_, 1) := dk_177 (dk_at dksX5_goesMinute_3 11 rfl rfl)
abbrev cX5_has : ByteArray := prog_17_method_12_code
def yX5_has : MethodName := ⟨RX5, "has", "(II)I"⟩
def dkwX5_has_0 : List UInt8 := [42, 180, 0, 13, 17, 0, 144, 16, 12, 27, 104, 96, 28, 96, 46, 172]
abbrev dktX5_has_0 : List UInt8 := dkwX5_has_0 ++ []
theorem dksX5_has_0 : cX5_has.data.toList.drop 0 = dktX5_has_0 := by decide +kernel
theorem dX5_has_0 : decode cX5_has 0 = .ok (.aload_n 0, 1) := dk_42 (dk_at dksX5_has_0 0 rfl rfl)
theorem dX5_has_1 : decode cX5_has 1 = .ok (.getfield 13, 3) := dk_180 0 13 (dk_at dksX5_has_0 1 rfl rfl)
theorem dX5_has_4 : decode cX5_has 4 = .ok (.sipush 144, 3) := dk_17 0 144 (dk_at dksX5_has_0 4 rfl rfl)
theorem dX5_has_7 : decode cX5_has 7 = .ok (.bipush 12, 2) := dk_16 12 (dk_at dksX5_has_0 7 rfl rfl)
theorem dX5_has_9 : decode cX5_has 9 = .ok (.iload_n 1, 1) := dk_27 (dk_at dksX5_has_0 9 rfl rfl)
theorem dX5_has_10 : decode cX5_has 10 = .ok (.imul, 1) := dk_104 (dk_at dksX5_has_0 10 rfl rfl)
theorem dX5_has_11 : decode cX5_has 11 = .ok (.iadd, 1) := dk_96 (dk_at dksX5_has_0 11 rfl rfl)
theorem dX5_has_12 : decode cX5_has 12 = .ok (.iload_n 2, 1) := dk_28 (dk_at dksX5_has_0 12 rfl rfl)
theorem dX5_has_13 : decode cX5_has 13 = .ok (.iadd, 1) := dk_96 (dk_at dksX5_has_0 13 rfl rfl)
theorem dX5_has_14 : decode cX5_has 14 = .ok (.iaload, 1) := dk_46 (dk_at dksX5_has_0 14 rfl rfl)
theorem dX5_has_15 : decode cX5_has 15 = .ok (.ireturn, 1) := dk_172 (dk_at dksX5_has_0 15 rfl rfl)
abbrev cX5_nextWord : ByteArray := prog_17_method_62_code
def yX5_nextWord : MethodName := ⟨RX5, "nextWord", "(I)I"⟩
def dkwX5_nextWord_3 : List UInt8 := [96, 5, 21, 4, 104, 96, 46, 100, 62, 132, 4, 1, 167, 255, 195, 6, 172]
abbrev dktX5_nextWord_3 : List UInt8 := dkwX5_nextWord_3 ++ []
def dkwX5_nextWord_2 : List UInt8 := [162, 0, 17, 42, 180, 0, 13, 28, 4, 96, 5, 21, 4, 104, 96, 46, 172, 29, 42, 180, 0, 13, 28, 5]
abbrev dktX5_nextWord_2 : List UInt8 := dkwX5_nextWord_2 ++ dktX5_nextWord_3
def dkwX5_nextWord_1 : List UInt8 := [180, 0, 13, 28, 46, 162, 0, 56, 29, 42, 180, 0, 13, 28, 5, 96, 5, 21, 4, 104, 96, 46]
abbrev dktX5_nextWord_1 : List UInt8 := dkwX5_nextWord_1 ++ dktX5_nextWord_2
def dkwX5_nextWord_0 : List UInt8 := [17, 7, 133, 16, 25, 27, 104, 96, 61, 42, 27, 16, 8, 182, 0, 104, 62, 3, 54, 4, 21, 4, 42]
abbrev dktX5_nextWord_0 : List UInt8 := dkwX5_nextWord_0 ++ dktX5_nextWord_1
theorem dksX5_nextWord_0 : cX5_nextWord.data.toList.drop 0 = dktX5_nextWord_0 := by decide +kernel
theorem dksX5_nextWord_1 : cX5_nextWord.data.toList.drop 23 = dktX5_nextWord_1 := dk_seg dksX5_nextWord_0 23 rfl rfl
theorem dksX5_nextWord_2 : cX5_nextWord.data.toList.drop 45 = dktX5_nextWord_2 := dk_seg dksX5_nextWord_1 22 rfl rfl
theorem dksX5_nextWord_3 : cX5_nextWord.data.toList.drop 69 = dktX5_nextWord_3 := dk_seg dksX5_nextWord_2 24 rfl rfl
theorem dX5_nextWord_0 : decode cX5_nextWord 0 = .ok (.sipush 1925, 3) := dk_17 7 133 (dk_at dksX5_nextWord_0 0 rfl rfl)
theorem dX5_nextWord_3 : decode cX5_nextWord 3 = .ok (.bipush 25, 2) := dk_16 25 (dk_at dksX5_nextWord_0 3 rfl rfl)
theorem dX5_nextWord_5 : decode cX5_nextWord 5 = .ok (.iload_n 1, 1) := dk_27 (dk_at dksX5_nextWord_0 5 rfl rfl)
theorem dX5_nextWord_6 : decode cX5_nextWord 6 = .ok (.imul, 1) := dk_104 (dk_at dksX5_nextWord_0 6 rfl rfl)
theorem dX5_nextWord_7 : decode cX5_nextWord 7 = .ok (.iadd, 1) := dk_96 (dk_at dksX5_nextWord_0 7 rfl rfl)
theorem dX5_nextWord_8 : decode cX5_nextWord 8 = .ok (.istore_n 2, 1) := dk_61 (dk_at dksX5_nextWord_0 8 rfl rfl)
theorem dX5_nextWord_9 : decode cX5_nextWord 9 = .ok (.aload_n 0, 1) := dk_42 (dk_at dksX5_nextWord_0 9 rfl rfl)
theorem dX5_nextWord_10 : decode cX5_nextWord 10 = .ok (.iload_n 1, 1) := dk_27 (dk_at dksX5_nextWord_0 10 rfl rfl)
theorem dX5_nextWord_11 : decode cX5_nextWord 11 = .ok (.bipush 8, 2) := dk_16 8 (dk_at dksX5_nextWord_0 11 rfl rfl)
theorem dX5_nextWord_13 : decode cX5_nextWord 13 = .ok (.invokevirtual 104, 3) := dk_182 0 104 (dk_at dksX5_nextWord_0 13 rfl rfl)
theorem dX5_nextWord_16 : decode cX5_nextWord 16 = .ok (.istore_n 3, 1) := dk_62 (dk_at dksX5_nextWord_0 16 rfl rfl)
theorem dX5_nextWord_17 : decode cX5_nextWord 17 = .ok (.iconst 0, 1) := dk_3 (dk_at dksX5_nextWord_0 17 rfl rfl)
theorem dX5_nextWord_18 : decode cX5_nextWord 18 = .ok (.istore 4, 2) := dk_54 4 (dk_at dksX5_nextWord_0 18 rfl rfl)
theorem dX5_nextWord_20 : decode cX5_nextWord 20 = .ok (.iload 4, 2) := dk_21 4 (dk_at dksX5_nextWord_0 20 rfl rfl)
theorem dX5_nextWord_22 : decode cX5_nextWord 22 = .ok (.aload_n 0, 1) := dk_42 (dk_at dksX5_nextWord_0 22 rfl rfl)
theorem dX5_nextWord_23 : decode cX5_nextWord 23 = .ok (.getfield 13, 3) := dk_180 0 13 (dk_at dksX5_nextWord_1 0 rfl rfl)
theorem dX5_nextWord_26 : decode cX5_nextWord 26 = .ok (.iload_n 2, 1) := dk_28 (dk_at dksX5_nextWord_1 3 rfl rfl)
theorem dX5_nextWord_27 : decode cX5_nextWord 27 = .ok (.iaload, 1) := dk_46 (dk_at dksX5_nextWord_1 4 rfl rfl)
theorem dX5_nextWord_28 : decode cX5_nextWord 28 = .ok (.if_icmp .ge 56, 3) := dk_162 0 56 (dk_at dksX5_nextWord_1 5 rfl rfl)
theorem dX5_nextWord_31 : decode cX5_nextWord 31 = .ok (.iload_n 3, 1) := dk_29 (dk_at dksX5_nextWord_1 8 rfl rfl)
theorem dX5_nextWord_32 : decode cX5_nextWord 32 = .ok (.aload_n 0, 1) := dk_42 (dk_at dksX5_nextWord_1 9 rfl rfl)
theorem dX5_nextWord_33 : decode cX5_nextWord 33 = .ok (.getfield 13, 3) := dk_180 0 13 (dk_at dksX5_nextWord_1 10 rfl rfl)
theorem dX5_nextWord_36 : decode cX5_nextWord 36 = .ok (.iload_n 2, 1) := dk_28 (dk_at dksX5_nextWord_1 13 rfl rfl)
theorem dX5_nextWord_37 : decode cX5_nextWord 37 = .ok (.iconst 2, 1) := dk_5 (dk_at dksX5_nextWord_1 14 rfl rfl)
theorem dX5_nextWord_38 : decode cX5_nextWord 38 = .ok (.iadd, 1) := dk_96 (dk_at dksX5_nextWord_1 15 rfl rfl)
theorem dX5_nextWord_39 : decode cX5_nextWord 39 = .ok (.iconst 2, 1) := dk_5 (dk_at dksX5_nextWord_1 16 rfl rfl)
theorem dX5_nextWord_40 : decode cX5_nextWord 40 = .ok (.iload 4, 2) := dk_21 4 (dk_at dksX5_nextWord_1 17 rfl rfl)
theorem dX5_nextWord_42 : decode cX5_nextWord 42 = .ok (.imul, 1) := dk_104 (dk_at dksX5_nextWord_1 19 rfl rfl)
theorem dX5_nextWord_43 : decode cX5_nextWord 43 = .ok (.iadd, 1) := dk_96 (dk_at dksX5_nextWord_1 20 rfl rfl)
theorem dX5_nextWord_44 : decode cX5_nextWord 44 = .ok (.iaload, 1) := dk_46 (dk_at dksX5_nextWord_1 21 rfl rfl)
theorem dX5_nextWord_45 : decode cX5_nextWord 45 = .ok (.if_icmp .ge 17, 3) := dk_162 0 17 (dk_at dksX5_nextWord_2 0 rfl rfl)
theorem dX5_nextWord_48 : decode cX5_nextWord 48 = .ok (.aload_n 0, 1) := dk_42 (dk_at dksX5_nextWord_2 3 rfl rfl)
theorem dX5_nextWord_49 : decode cX5_nextWord 49 = .ok (.getfield 13, 3) := dk_180 0 13 (dk_at dksX5_nextWord_2 4 rfl rfl)
theorem dX5_nextWord_52 : decode cX5_nextWord 52 = .ok (.iload_n 2, 1) := dk_28 (dk_at dksX5_nextWord_2 7 rfl rfl)
theorem dX5_nextWord_53 : decode cX5_nextWord 53 = .ok (.iconst 1, 1) := dk_4 (dk_at dksX5_nextWord_2 8 rfl rfl)
theorem dX5_nextWord_54 : decode cX5_nextWord 54 = .ok (.iadd, 1) := dk_96 (dk_at dksX5_nextWord_2 9 rfl rfl)
theorem dX5_nextWord_55 : decode cX5_nextWord 55 = .ok (.iconst 2, 1) := dk_5 (dk_at dksX5_nextWord_2 10 rfl rfl)
theorem dX5_nextWord_56 : decode cX5_nextWord 56 = .ok (.iload 4, 2) := dk_21 4 (dk_at dksX5_nextWord_2 11 rfl rfl)
theorem dX5_nextWord_58 : decode cX5_nextWord 58 = .ok (.imul, 1) := dk_104 (dk_at dksX5_nextWord_2 13 rfl rfl)
theorem dX5_nextWord_59 : decode cX5_nextWord 59 = .ok (.iadd, 1) := dk_96 (dk_at dksX5_nextWord_2 14 rfl rfl)
theorem dX5_nextWord_60 : decode cX5_nextWord 60 = .ok (.iaload, 1) := dk_46 (dk_at dksX5_nextWord_2 15 rfl rfl)
theorem dX5_nextWord_61 : decode cX5_nextWord 61 = .ok (.ireturn, 1) := dk_172 (dk_at dksX5_nextWord_2 16 rfl rfl)
theorem dX5_nextWord_62 : decode cX5_nextWord 62 = .ok (.iload_n 3, 1) := dk_29 (dk_at dksX5_nextWord_2 17 rfl rfl)
theorem dX5_nextWord_63 : decode cX5_nextWord 63 = .ok (.aload_n 0, 1) := dk_42 (dk_at dksX5_nextWord_2 18 rfl rfl)
theorem dX5_nextWord_64 : decode cX5_nextWord 64 = .ok (.getfield 13, 3) := dk_180 0 13 (dk_at dksX5_nextWord_2 19 rfl rfl)
theorem dX5_nextWord_67 : decode cX5_nextWord 67 = .ok (.iload_n 2, 1) := dk_28 (dk_at dksX5_nextWord_2 22 rfl rfl)
theorem dX5_nextWord_68 : decode cX5_nextWord 68 = .ok (.iconst 2, 1) := dk_5 (dk_at dksX5_nextWord_2 23 rfl rfl)
theorem dX5_nextWord_69 : decode cX5_nextWord 69 = .ok (.iadd, 1) := dk_96 (dk_at dksX5_nextWord_3 0 rfl rfl)
theorem dX5_nextWord_70 : decode cX5_nextWord 70 = .ok (.iconst 2, 1) := dk_5 (dk_at dksX5_nextWord_3 1 rfl rfl)
theorem dX5_nextWord_71 : decode cX5_nextWord 71 = .ok (.iload 4, 2) := dk_21 4 (dk_at dksX5_nextWord_3 2 rfl rfl)
theorem dX5_nextWord_73 : decode cX5_nextWord 73 = .ok (.imul, 1) := dk_104 (dk_at dksX5_nextWord_3 4 rfl rfl)
theorem dX5_nextWord_74 : decode cX5_nextWord 74 = .ok (.iadd, 1) := dk_96 (dk_at dksX5_nextWord_3 5 rfl rfl)
theorem dX5_nextWord_75 : decode cX5_nextWord 75 = .ok (.iaload, 1) := dk_46 (dk_at dksX5_nextWord_3 6 rfl rfl)
theorem dX5_nextWord_76 : decode cX5_nextWord 76 = .ok (.isub, 1) := dk_100 (dk_at dksX5_nextWord_3 7 rfl rfl)
theorem dX5_nextWord_77 : decode cX5_nextWord 77 = .ok (.istore_n 3, 1) := dk_62 (dk_at dksX5_nextWord_3 8 rfl rfl)
theorem dX5_nextWord_78 : decode cX5_nextWord 78 = .ok (.iinc 4 1, 3) := dk_132 4 1 (dk_at dksX5_nextWord_3 9 rfl rfl)
theorem dX5_nextWord_81 : decode cX5_nextWord 81 = .ok (.goto (-61), 3) := dk_167 255 195 (dk_at dksX5_nextWord_3 12 rfl rfl)
theorem dX5_nextWord_84 : decode cX5_nextWord 84 = .ok (.iconst 3, 1) := dk_6 (dk_at dksX5_nextWord_3 15 rfl rfl)
theorem dX5_nextWord_85 : decode cX5_nextWord 85 = .ok (.ireturn, 1) := dk_172 (dk_at dksX5_nextWord_3 16 rfl rfl)
abbrev cX5_adds : ByteArray := prog_17_method_14_code
def yX5_adds : MethodName := ⟨RX5, "adds", "(III)V"⟩
def dkwX5_adds_0 : List UInt8 := [42, 180, 0, 13, 17, 0, 144, 16, 12, 27, 104, 96, 28, 96, 92, 46, 29, 96, 79, 177]
abbrev dktX5_adds_0 : List UInt8 := dkwX5_adds_0 ++ []
theorem dksX5_adds_0 : cX5_adds.data.toList.drop 0 = dktX5_adds_0 := by decide +kernel
theorem dX5_adds_0 : decode cX5_adds 0 = .ok (.aload_n 0, 1) := dk_42 (dk_at dksX5_adds_0 0 rfl rfl)
theorem dX5_adds_1 : decode cX5_adds 1 = .ok (.getfield 13, 3) := dk_180 0 13 (dk_at dksX5_adds_0 1 rfl rfl)
theorem dX5_adds_4 : decode cX5_adds 4 = .ok (.sipush 144, 3) := dk_17 0 144 (dk_at dksX5_adds_0 4 rfl rfl)
theorem dX5_adds_7 : decode cX5_adds 7 = .ok (.bipush 12, 2) := dk_16 12 (dk_at dksX5_adds_0 7 rfl rfl)
theorem dX5_adds_9 : decode cX5_adds 9 = .ok (.iload_n 1, 1) := dk_27 (dk_at dksX5_adds_0 9 rfl rfl)
theorem dX5_adds_10 : decode cX5_adds 10 = .ok (.imul, 1) := dk_104 (dk_at dksX5_adds_0 10 rfl rfl)
theorem dX5_adds_11 : decode cX5_adds 11 = .ok (.iadd, 1) := dk_96 (dk_at dksX5_adds_0 11 rfl rfl)
theorem dX5_adds_12 : decode cX5_adds 12 = .ok (.iload_n 2, 1) := dk_28 (dk_at dksX5_adds_0 12 rfl rfl)
theorem dX5_adds_13 : decode cX5_adds 13 = .ok (.iadd, 1) := dk_96 (dk_at dksX5_adds_0 13 rfl rfl)
theorem dX5_adds_14 : decode cX5_adds 14 = .ok (.dup2, 1) := dk_92 (dk_at dksX5_adds_0 14 rfl rfl)
theorem dX5_adds_15 : decode cX5_adds 15 = .ok (.iaload, 1) := dk_46 (dk_at dksX5_adds_0 15 rfl rfl)
theorem dX5_adds_16 : decode cX5_adds 16 = .ok (.iload_n 3, 1) := dk_29 (dk_at dksX5_adds_0 16 rfl rfl)
theorem dX5_adds_17 : decode cX5_adds 17 = .ok (.iadd, 1) := dk_96 (dk_at dksX5_adds_0 17 rfl rfl)
theorem dX5_adds_18 : decode cX5_adds 18 = .ok (.iastore, 1) := dk_79 (dk_at dksX5_adds_0 18 rfl rfl)
theorem dX5_adds_19 : decode cX5_adds 19 = .ok (.return_, 1) := dk_177 (dk_at dksX5_adds_0 19 rfl rfl)
abbrev cX5_turnsRound : ByteArray := prog_17_method_64_code
def yX5_turnsRound : MethodName := ⟨RX5, "turnsRound", "(II)V"⟩
def dkwX5_turnsRound_2 : List UInt8 := [42, 27, 16, 6, 29, 182, 1, 14, 42, 4, 27, 42, 27, 182, 0, 111, 182, 1, 17, 177]
abbrev dktX5_turnsRound_2 : List UInt8 := dkwX5_turnsRound_2 ++ []
def dkwX5_turnsRound_1 : List UInt8 := [182, 1, 10, 42, 27, 8, 29, 182, 1, 14, 42, 180, 0, 13, 42, 27, 182, 0, 111, 46, 6, 160, 0, 11]
abbrev dktX5_turnsRound_1 : List UInt8 := dkwX5_turnsRound_1 ++ dktX5_turnsRound_2
def dkwX5_turnsRound_0 : List UInt8 := [28, 5, 160, 0, 7, 5, 167, 0, 4, 4, 62, 42, 27, 7, 42, 27, 7, 182, 0, 104, 28, 184, 1, 7]
abbrev dktX5_turnsRound_0 : List UInt8 := dkwX5_turnsRound_0 ++ dktX5_turnsRound_1
theorem dksX5_turnsRound_0 : cX5_turnsRound.data.toList.drop 0 = dktX5_turnsRound_0 := by decide +kernel
theorem dksX5_turnsRound_1 : cX5_turnsRound.data.toList.drop 24 = dktX5_turnsRound_1 := dk_seg dksX5_turnsRound_0 24 rfl rfl
theorem dksX5_turnsRound_2 : cX5_turnsRound.data.toList.drop 48 = dktX5_turnsRound_2 := dk_seg dksX5_turnsRound_1 24 rfl rfl
theorem dX5_turnsRound_0 : decode cX5_turnsRound 0 = .ok (.iload_n 2, 1) := dk_28 (dk_at dksX5_turnsRound_0 0 rfl rfl)
theorem dX5_turnsRound_1 : decode cX5_turnsRound 1 = .ok (.iconst 2, 1) := dk_5 (dk_at dksX5_turnsRound_0 1 rfl rfl)
theorem dX5_turnsRound_2 : decode cX5_turnsRound 2 = .ok (.if_icmp .ne 7, 3) := dk_160 0 7 (dk_at dksX5_turnsRound_0 2 rfl rfl)
theorem dX5_turnsRound_5 : decode cX5_turnsRound 5 = .ok (.iconst 2, 1) := dk_5 (dk_at dksX5_turnsRound_0 5 rfl rfl)
theorem dX5_turnsRound_6 : decode cX5_turnsRound 6 = .ok (.goto 4, 3) := dk_167 0 4 (dk_at dksX5_turnsRound_0 6 rfl rfl)
theorem dX5_turnsRound_9 : decode cX5_turnsRound 9 = .ok (.iconst 1, 1) := dk_4 (dk_at dksX5_turnsRound_0 9 rfl rfl)
theorem dX5_turnsRound_10 : decode cX5_turnsRound 10 = .ok (.istore_n 3, 1) := dk_62 (dk_at dksX5_turnsRound_0 10 rfl rfl)
theorem dX5_turnsRound_11 : decode cX5_turnsRound 11 = .ok (.aload_n 0, 1) := dk_42 (dk_at dksX5_turnsRound_0 11 rfl rfl)
theorem dX5_turnsRound_12 : decode cX5_turnsRound 12 = .ok (.iload_n 1, 1) := dk_27 (dk_at dksX5_turnsRound_0 12 rfl rfl)
theorem dX5_turnsRound_13 : decode cX5_turnsRound 13 = .ok (.iconst 4, 1) := dk_7 (dk_at dksX5_turnsRound_0 13 rfl rfl)
theorem dX5_turnsRound_14 : decode cX5_turnsRound 14 = .ok (.aload_n 0, 1) := dk_42 (dk_at dksX5_turnsRound_0 14 rfl rfl)
theorem dX5_turnsRound_15 : decode cX5_turnsRound 15 = .ok (.iload_n 1, 1) := dk_27 (dk_at dksX5_turnsRound_0 15 rfl rfl)
theorem dX5_turnsRound_16 : decode cX5_turnsRound 16 = .ok (.iconst 4, 1) := dk_7 (dk_at dksX5_turnsRound_0 16 rfl rfl)
theorem dX5_turnsRound_17 : decode cX5_turnsRound 17 = .ok (.invokevirtual 104, 3) := dk_182 0 104 (dk_at dksX5_turnsRound_0 17 rfl rfl)
theorem dX5_turnsRound_20 : decode cX5_turnsRound 20 = .ok (.iload_n 2, 1) := dk_28 (dk_at dksX5_turnsRound_0 20 rfl rfl)
theorem dX5_turnsRound_21 : decode cX5_turnsRound 21 = .ok (.invokestatic 263, 3) := dk_184 1 7 (dk_at dksX5_turnsRound_0 21 rfl rfl)
theorem dX5_turnsRound_24 : decode cX5_turnsRound 24 = .ok (.invokevirtual 266, 3) := dk_182 1 10 (dk_at dksX5_turnsRound_1 0 rfl rfl)
theorem dX5_turnsRound_27 : decode cX5_turnsRound 27 = .ok (.aload_n 0, 1) := dk_42 (dk_at dksX5_turnsRound_1 3 rfl rfl)
theorem dX5_turnsRound_28 : decode cX5_turnsRound 28 = .ok (.iload_n 1, 1) := dk_27 (dk_at dksX5_turnsRound_1 4 rfl rfl)
theorem dX5_turnsRound_29 : decode cX5_turnsRound 29 = .ok (.iconst 5, 1) := dk_8 (dk_at dksX5_turnsRound_1 5 rfl rfl)
theorem dX5_turnsRound_30 : decode cX5_turnsRound 30 = .ok (.iload_n 3, 1) := dk_29 (dk_at dksX5_turnsRound_1 6 rfl rfl)
theorem dX5_turnsRound_31 : decode cX5_turnsRound 31 = .ok (.invokevirtual 270, 3) := dk_182 1 14 (dk_at dksX5_turnsRound_1 7 rfl rfl)
theorem dX5_turnsRound_34 : decode cX5_turnsRound 34 = .ok (.aload_n 0, 1) := dk_42 (dk_at dksX5_turnsRound_1 10 rfl rfl)
theorem dX5_turnsRound_35 : decode cX5_turnsRound 35 = .ok (.getfield 13, 3) := dk_180 0 13 (dk_at dksX5_turnsRound_1 11 rfl rfl)
theorem dX5_turnsRound_38 : decode cX5_turnsRound 38 = .ok (.aload_n 0, 1) := dk_42 (dk_at dksX5_turnsRound_1 14 rfl rfl)
theorem dX5_turnsRound_39 : decode cX5_turnsRound 39 = .ok (.iload_n 1, 1) := dk_27 (dk_at dksX5_turnsRound_1 15 rfl rfl)
theorem dX5_turnsRound_40 : decode cX5_turnsRound 40 = .ok (.invokevirtual 111, 3) := dk_182 0 111 (dk_at dksX5_turnsRound_1 16 rfl rfl)
theorem dX5_turnsRound_43 : decode cX5_turnsRound 43 = .ok (.iaload, 1) := dk_46 (dk_at dksX5_turnsRound_1 19 rfl rfl)
theorem dX5_turnsRound_44 : decode cX5_turnsRound 44 = .ok (.iconst 3, 1) := dk_6 (dk_at dksX5_turnsRound_1 20 rfl rfl)
theorem dX5_turnsRound_45 : decode cX5_turnsRound 45 = .ok (.if_icmp .ne 11, 3) := dk_160 0 11 (dk_at dksX5_turnsRound_1 21 rfl rfl)
theorem dX5_turnsRound_48 : decode cX5_turnsRound 48 = .ok (.aload_n 0, 1) := dk_42 (dk_at dksX5_turnsRound_2 0 rfl rfl)
theorem dX5_turnsRound_49 : decode cX5_turnsRound 49 = .ok (.iload_n 1, 1) := dk_27 (dk_at dksX5_turnsRound_2 1 rfl rfl)
theorem dX5_turnsRound_50 : decode cX5_turnsRound 50 = .ok (.bipush 6, 2) := dk_16 6 (dk_at dksX5_turnsRound_2 2 rfl rfl)
theorem dX5_turnsRound_52 : decode cX5_turnsRound 52 = .ok (.iload_n 3, 1) := dk_29 (dk_at dksX5_turnsRound_2 4 rfl rfl)
theorem dX5_turnsRound_53 : decode cX5_turnsRound 53 = .ok (.invokevirtual 270, 3) := dk_182 1 14 (dk_at dksX5_turnsRound_2 5 rfl rfl)
theorem dX5_turnsRound_56 : decode cX5_turnsRound 56 = .ok (.aload_n 0, 1) := dk_42 (dk_at dksX5_turnsRound_2 8 rfl rfl)
theorem dX5_turnsRound_57 : decode cX5_turnsRound 57 = .ok (.iconst 1, 1) := dk_4 (dk_at dksX5_turnsRound_2 9 rfl rfl)
theorem dX5_turnsRound_58 : decode cX5_turnsRound 58 = .ok (.iload_n 1, 1) := dk_27 (dk_at dksX5_turnsRound_2 10 rfl rfl)
theorem dX5_turnsRound_59 : decode cX5_turnsRound 59 = .ok (.aload_n 0, 1) := dk_42 (dk_at dksX5_turnsRound_2 11 rfl rfl)
theorem dX5_turnsRound_60 : decode cX5_turnsRound 60 = .ok (.iload_n 1, 1) := dk_27 (dk_at dksX5_turnsRound_2 12 rfl rfl)
theorem dX5_turnsRound_61 : decode cX5_turnsRound 61 = .ok (.invokevirtual 111, 3) := dk_182 0 111 (dk_at dksX5_turnsRound_2 13 rfl rfl)
theorem dX5_turnsRound_64 : decode cX5_turnsRound 64 = .ok (.invokevirtual 273, 3) := dk_182 1 17 (dk_at dksX5_turnsRound_2 16 rfl rfl)
theorem dX5_turnsRound_67 : decode cX5_turnsRound 67 = .ok (.return_, 1) := dk_177 (dk_at dksX5_turnsRound_2 19 rfl rfl)
abbrev cX5_turned : ByteArray := prog_17_method_63_code
def yX5_turned : MethodName := ⟨RX5, "turned", "(II)I"⟩
def dkwX5_turned_0 : List UInt8 := [26, 27, 154, 0, 7, 6, 167, 0, 4, 27, 96, 7, 112, 172]
abbrev dktX5_turned_0 : List UInt8 := dkwX5_turned_0 ++ []
theorem dksX5_turned_0 : cX5_turned.data.toList.drop 0 = dktX5_turned_0 := by decide +kernel
theorem dX5_turned_0 : decode cX5_turned 0 = .ok (.iload_n 0, 1) := dk_26 (dk_at dksX5_turned_0 0 rfl rfl)
theorem dX5_turned_1 : decode cX5_turned 1 = .ok (.iload_n 1, 1) := dk_27 (dk_at dksX5_turned_0 1 rfl rfl)
theorem dX5_turned_2 : decode cX5_turned 2 = .ok (.ifCond .ne 7, 3) := dk_154 0 7 (dk_at dksX5_turned_0 2 rfl rfl)
theorem dX5_turned_5 : decode cX5_turned 5 = .ok (.iconst 3, 1) := dk_6 (dk_at dksX5_turned_0 5 rfl rfl)
theorem dX5_turned_6 : decode cX5_turned 6 = .ok (.goto 4, 3) := dk_167 0 4 (dk_at dksX5_turned_0 6 rfl rfl)
theorem dX5_turned_9 : decode cX5_turned 9 = .ok (.iload_n 1, 1) := dk_27 (dk_at dksX5_turned_0 9 rfl rfl)
theorem dX5_turned_10 : decode cX5_turned 10 = .ok (.iadd, 1) := dk_96 (dk_at dksX5_turned_0 10 rfl rfl)
theorem dX5_turned_11 : decode cX5_turned 11 = .ok (.iconst 4, 1) := dk_7 (dk_at dksX5_turned_0 11 rfl rfl)
theorem dX5_turned_12 : decode cX5_turned 12 = .ok (.irem, 1) := dk_112 (dk_at dksX5_turned_0 12 rfl rfl)
theorem dX5_turned_13 : decode cX5_turned 13 = .ok (.ireturn, 1) := dk_172 (dk_at dksX5_turned_0 13 rfl rfl)
abbrev cX5_sets : ByteArray := prog_17_method_13_code
def yX5_sets : MethodName := ⟨RX5, "sets", "(III)V"⟩
def dkwX5_sets_0 : List UInt8 := [42, 180, 0, 13, 17, 0, 144, 16, 12, 27, 104, 96, 28, 96, 29, 79, 177]
abbrev dktX5_sets_0 : List UInt8 := dkwX5_sets_0 ++ []
theorem dksX5_sets_0 : cX5_sets.data.toList.drop 0 = dktX5_sets_0 := by decide +kernel
theorem dX5_sets_0 : decode cX5_sets 0 = .ok (.aload_n 0, 1) := dk_42 (dk_at dksX5_sets_0 0 rfl rfl)
theorem dX5_sets_1 : decode cX5_sets 1 = .ok (.getfield 13, 3) := dk_180 0 13 (dk_at dksX5_sets_0 1 rfl rfl)
theorem dX5_sets_4 : decode cX5_sets 4 = .ok (.sipush 144, 3) := dk_17 0 144 (dk_at dksX5_sets_0 4 rfl rfl)
theorem dX5_sets_7 : decode cX5_sets 7 = .ok (.bipush 12, 2) := dk_16 12 (dk_at dksX5_sets_0 7 rfl rfl)
theorem dX5_sets_9 : decode cX5_sets 9 = .ok (.iload_n 1, 1) := dk_27 (dk_at dksX5_sets_0 9 rfl rfl)
theorem dX5_sets_10 : decode cX5_sets 10 = .ok (.imul, 1) := dk_104 (dk_at dksX5_sets_0 10 rfl rfl)
theorem dX5_sets_11 : decode cX5_sets 11 = .ok (.iadd, 1) := dk_96 (dk_at dksX5_sets_0 11 rfl rfl)
theorem dX5_sets_12 : decode cX5_sets 12 = .ok (.iload_n 2, 1) := dk_28 (dk_at dksX5_sets_0 12 rfl rfl)
theorem dX5_sets_13 : decode cX5_sets 13 = .ok (.iadd, 1) := dk_96 (dk_at dksX5_sets_0 13 rfl rfl)
theorem dX5_sets_14 : decode cX5_sets 14 = .ok (.iload_n 3, 1) := dk_29 (dk_at dksX5_sets_0 14 rfl rfl)
theorem dX5_sets_15 : decode cX5_sets 15 = .ok (.iastore, 1) := dk_79 (dk_at dksX5_sets_0 15 rfl rfl)
theorem dX5_sets_16 : decode cX5_sets 16 = .ok (.return_, 1) := dk_177 (dk_at dksX5_sets_0 16 rfl rfl)
abbrev cX5_standsAt : ByteArray := prog_17_method_15_code
def yX5_standsAt : MethodName := ⟨RX5, "standsAt", "(I)I"⟩
def dkwX5_standsAt_0 : List UInt8 := [42, 27, 5, 182, 0, 104, 42, 27, 6, 182, 0, 104, 184, 0, 108, 172]
abbrev dktX5_standsAt_0 : List UInt8 := dkwX5_standsAt_0 ++ []
theorem dksX5_standsAt_0 : cX5_standsAt.data.toList.drop 0 = dktX5_standsAt_0 := by decide +kernel
theorem dX5_standsAt_0 : decode cX5_standsAt 0 = .ok (.aload_n 0, 1) := dk_42 (dk_at dksX5_standsAt_0 0 rfl rfl)
theorem dX5_standsAt_1 : decode cX5_standsAt 1 = .ok (.iload_n 1, 1) := dk_27 (dk_at dksX5_standsAt_0 1 rfl rfl)
theorem dX5_standsAt_2 : decode cX5_standsAt 2 = .ok (.iconst 2, 1) := dk_5 (dk_at dksX5_standsAt_0 2 rfl rfl)
theorem dX5_standsAt_3 : decode cX5_standsAt 3 = .ok (.invokevirtual 104, 3) := dk_182 0 104 (dk_at dksX5_standsAt_0 3 rfl rfl)
theorem dX5_standsAt_6 : decode cX5_standsAt 6 = .ok (.aload_n 0, 1) := dk_42 (dk_at dksX5_standsAt_0 6 rfl rfl)
theorem dX5_standsAt_7 : decode cX5_standsAt 7 = .ok (.iload_n 1, 1) := dk_27 (dk_at dksX5_standsAt_0 7 rfl rfl)
theorem dX5_standsAt_8 : decode cX5_standsAt 8 = .ok (.iconst 3, 1) := dk_6 (dk_at dksX5_standsAt_0 8 rfl rfl)
theorem dX5_standsAt_9 : decode cX5_standsAt 9 = .ok (.invokevirtual 104, 3) := dk_182 0 104 (dk_at dksX5_standsAt_0 9 rfl rfl)
theorem dX5_standsAt_12 : decode cX5_standsAt 12 = .ok (.invokestatic 108, 3) := dk_184 0 108 (dk_at dksX5_standsAt_0 12 rfl rfl)
theorem dX5_standsAt_15 : decode cX5_standsAt 15 = .ok (.ireturn, 1) := dk_172 (dk_at dksX5_standsAt_0 15 rfl rfl)
abbrev cX5_writes : ByteArray := prog_17_method_18_code
def yX5_writes : MethodName := ⟨RX5, "writes", "(III)V"⟩
def dkwX5_writes_3 : List UInt8 := [21, 4, 6, 96, 29, 79, 42, 180, 0, 13, 17, 3, 171, 92, 46, 4, 96, 79, 177]
abbrev dktX5_writes_3 : List UInt8 := dkwX5_writes_3 ++ []
def dkwX5_writes_2 : List UInt8 := [180, 0, 13, 21, 4, 4, 96, 27, 79, 42, 180, 0, 13, 21, 4, 5, 96, 28, 79, 42, 180, 0, 13]
abbrev dktX5_writes_2 : List UInt8 := dkwX5_writes_2 ++ dktX5_writes_3
def dkwX5_writes_1 : List UInt8 := [17, 3, 171, 46, 104, 96, 54, 4, 42, 180, 0, 13, 21, 4, 42, 180, 0, 13, 17, 3, 168, 46, 79, 42]
abbrev dktX5_writes_1 : List UInt8 := dkwX5_writes_1 ++ dktX5_writes_2
def dkwX5_writes_0 : List UInt8 := [42, 180, 0, 13, 17, 3, 171, 46, 17, 0, 150, 160, 0, 4, 177, 17, 1, 80, 7, 42, 180, 0, 13]
abbrev dktX5_writes_0 : List UInt8 := dkwX5_writes_0 ++ dktX5_writes_1
theorem dksX5_writes_0 : cX5_writes.data.toList.drop 0 = dktX5_writes_0 := by decide +kernel
theorem dksX5_writes_1 : cX5_writes.data.toList.drop 23 = dktX5_writes_1 := dk_seg dksX5_writes_0 23 rfl rfl
theorem dksX5_writes_2 : cX5_writes.data.toList.drop 47 = dktX5_writes_2 := dk_seg dksX5_writes_1 24 rfl rfl
theorem dksX5_writes_3 : cX5_writes.data.toList.drop 70 = dktX5_writes_3 := dk_seg dksX5_writes_2 23 rfl rfl
theorem dX5_writes_0 : decode cX5_writes 0 = .ok (.aload_n 0, 1) := dk_42 (dk_at dksX5_writes_0 0 rfl rfl)
theorem dX5_writes_1 : decode cX5_writes 1 = .ok (.getfield 13, 3) := dk_180 0 13 (dk_at dksX5_writes_0 1 rfl rfl)
theorem dX5_writes_4 : decode cX5_writes 4 = .ok (.sipush 939, 3) := dk_17 3 171 (dk_at dksX5_writes_0 4 rfl rfl)
theorem dX5_writes_7 : decode cX5_writes 7 = .ok (.iaload, 1) := dk_46 (dk_at dksX5_writes_0 7 rfl rfl)
theorem dX5_writes_8 : decode cX5_writes 8 = .ok (.sipush 150, 3) := dk_17 0 150 (dk_at dksX5_writes_0 8 rfl rfl)
theorem dX5_writes_11 : decode cX5_writes 11 = .ok (.if_icmp .ne 4, 3) := dk_160 0 4 (dk_at dksX5_writes_0 11 rfl rfl)
theorem dX5_writes_14 : decode cX5_writes 14 = .ok (.return_, 1) := dk_177 (dk_at dksX5_writes_0 14 rfl rfl)
theorem dX5_writes_15 : decode cX5_writes 15 = .ok (.sipush 336, 3) := dk_17 1 80 (dk_at dksX5_writes_0 15 rfl rfl)
theorem dX5_writes_18 : decode cX5_writes 18 = .ok (.iconst 4, 1) := dk_7 (dk_at dksX5_writes_0 18 rfl rfl)
theorem dX5_writes_19 : decode cX5_writes 19 = .ok (.aload_n 0, 1) := dk_42 (dk_at dksX5_writes_0 19 rfl rfl)
theorem dX5_writes_20 : decode cX5_writes 20 = .ok (.getfield 13, 3) := dk_180 0 13 (dk_at dksX5_writes_0 20 rfl rfl)
theorem dX5_writes_23 : decode cX5_writes 23 = .ok (.sipush 939, 3) := dk_17 3 171 (dk_at dksX5_writes_1 0 rfl rfl)
theorem dX5_writes_26 : decode cX5_writes 26 = .ok (.iaload, 1) := dk_46 (dk_at dksX5_writes_1 3 rfl rfl)
theorem dX5_writes_27 : decode cX5_writes 27 = .ok (.imul, 1) := dk_104 (dk_at dksX5_writes_1 4 rfl rfl)
theorem dX5_writes_28 : decode cX5_writes 28 = .ok (.iadd, 1) := dk_96 (dk_at dksX5_writes_1 5 rfl rfl)
theorem dX5_writes_29 : decode cX5_writes 29 = .ok (.istore 4, 2) := dk_54 4 (dk_at dksX5_writes_1 6 rfl rfl)
theorem dX5_writes_31 : decode cX5_writes 31 = .ok (.aload_n 0, 1) := dk_42 (dk_at dksX5_writes_1 8 rfl rfl)
theorem dX5_writes_32 : decode cX5_writes 32 = .ok (.getfield 13, 3) := dk_180 0 13 (dk_at dksX5_writes_1 9 rfl rfl)
theorem dX5_writes_35 : decode cX5_writes 35 = .ok (.iload 4, 2) := dk_21 4 (dk_at dksX5_writes_1 12 rfl rfl)
theorem dX5_writes_37 : decode cX5_writes 37 = .ok (.aload_n 0, 1) := dk_42 (dk_at dksX5_writes_1 14 rfl rfl)
theorem dX5_writes_38 : decode cX5_writes 38 = .ok (.getfield 13, 3) := dk_180 0 13 (dk_at dksX5_writes_1 15 rfl rfl)
theorem dX5_writes_41 : decode cX5_writes 41 = .ok (.sipush 936, 3) := dk_17 3 168 (dk_at dksX5_writes_1 18 rfl rfl)
theorem dX5_writes_44 : decode cX5_writes 44 = .ok (.iaload, 1) := dk_46 (dk_at dksX5_writes_1 21 rfl rfl)
theorem dX5_writes_45 : decode cX5_writes 45 = .ok (.iastore, 1) := dk_79 (dk_at dksX5_writes_1 22 rfl rfl)
theorem dX5_writes_46 : decode cX5_writes 46 = .ok (.aload_n 0, 1) := dk_42 (dk_at dksX5_writes_1 23 rfl rfl)
theorem dX5_writes_47 : decode cX5_writes 47 = .ok (.getfield 13, 3) := dk_180 0 13 (dk_at dksX5_writes_2 0 rfl rfl)
theorem dX5_writes_50 : decode cX5_writes 50 = .ok (.iload 4, 2) := dk_21 4 (dk_at dksX5_writes_2 3 rfl rfl)
theorem dX5_writes_52 : decode cX5_writes 52 = .ok (.iconst 1, 1) := dk_4 (dk_at dksX5_writes_2 5 rfl rfl)
theorem dX5_writes_53 : decode cX5_writes 53 = .ok (.iadd, 1) := dk_96 (dk_at dksX5_writes_2 6 rfl rfl)
theorem dX5_writes_54 : decode cX5_writes 54 = .ok (.iload_n 1, 1) := dk_27 (dk_at dksX5_writes_2 7 rfl rfl)
theorem dX5_writes_55 : decode cX5_writes 55 = .ok (.iastore, 1) := dk_79 (dk_at dksX5_writes_2 8 rfl rfl)
theorem dX5_writes_56 : decode cX5_writes 56 = .ok (.aload_n 0, 1) := dk_42 (dk_at dksX5_writes_2 9 rfl rfl)
theorem dX5_writes_57 : decode cX5_writes 57 = .ok (.getfield 13, 3) := dk_180 0 13 (dk_at dksX5_writes_2 10 rfl rfl)
theorem dX5_writes_60 : decode cX5_writes 60 = .ok (.iload 4, 2) := dk_21 4 (dk_at dksX5_writes_2 13 rfl rfl)
theorem dX5_writes_62 : decode cX5_writes 62 = .ok (.iconst 2, 1) := dk_5 (dk_at dksX5_writes_2 15 rfl rfl)
theorem dX5_writes_63 : decode cX5_writes 63 = .ok (.iadd, 1) := dk_96 (dk_at dksX5_writes_2 16 rfl rfl)
theorem dX5_writes_64 : decode cX5_writes 64 = .ok (.iload_n 2, 1) := dk_28 (dk_at dksX5_writes_2 17 rfl rfl)
theorem dX5_writes_65 : decode cX5_writes 65 = .ok (.iastore, 1) := dk_79 (dk_at dksX5_writes_2 18 rfl rfl)
theorem dX5_writes_66 : decode cX5_writes 66 = .ok (.aload_n 0, 1) := dk_42 (dk_at dksX5_writes_2 19 rfl rfl)
theorem dX5_writes_67 : decode cX5_writes 67 = .ok (.getfield 13, 3) := dk_180 0 13 (dk_at dksX5_writes_2 20 rfl rfl)
theorem dX5_writes_70 : decode cX5_writes 70 = .ok (.iload 4, 2) := dk_21 4 (dk_at dksX5_writes_3 0 rfl rfl)
theorem dX5_writes_72 : decode cX5_writes 72 = .ok (.iconst 3, 1) := dk_6 (dk_at dksX5_writes_3 2 rfl rfl)
theorem dX5_writes_73 : decode cX5_writes 73 = .ok (.iadd, 1) := dk_96 (dk_at dksX5_writes_3 3 rfl rfl)
theorem dX5_writes_74 : decode cX5_writes 74 = .ok (.iload_n 3, 1) := dk_29 (dk_at dksX5_writes_3 4 rfl rfl)
theorem dX5_writes_75 : decode cX5_writes 75 = .ok (.iastore, 1) := dk_79 (dk_at dksX5_writes_3 5 rfl rfl)
theorem dX5_writes_76 : decode cX5_writes 76 = .ok (.aload_n 0, 1) := dk_42 (dk_at dksX5_writes_3 6 rfl rfl)
theorem dX5_writes_77 : decode cX5_writes 77 = .ok (.getfield 13, 3) := dk_180 0 13 (dk_at dksX5_writes_3 7 rfl rfl)
theorem dX5_writes_80 : decode cX5_writes 80 = .ok (.sipush 939, 3) := dk_17 3 171 (dk_at dksX5_writes_3 10 rfl rfl)
theorem dX5_writes_83 : decode cX5_writes 83 = .ok (.dup2, 1) := dk_92 (dk_at dksX5_writes_3 13 rfl rfl)
theorem dX5_writes_84 : decode cX5_writes 84 = .ok (.iaload, 1) := dk_46 (dk_at dksX5_writes_3 14 rfl rfl)
theorem dX5_writes_85 : decode cX5_writes 85 = .ok (.iconst 1, 1) := dk_4 (dk_at dksX5_writes_3 15 rfl rfl)
theorem dX5_writes_86 : decode cX5_writes 86 = .ok (.iadd, 1) := dk_96 (dk_at dksX5_writes_3 16 rfl rfl)
theorem dX5_writes_87 : decode cX5_writes 87 = .ok (.iastore, 1) := dk_79 (dk_at dksX5_writes_3 17 rfl rfl)
theorem dX5_writes_88 : decode cX5_writes 88 = .ok (.return_, 1) := dk_177 (dk_at dksX5_writes_3 18 rfl rfl)
abbrev cX5_goesOn : ByteArray := prog_17_method_67_code
def yX5_goesOn : MethodName := ⟨RX5, "goesOn", "(I)V"⟩
def dkwX5_goesOn_7 : List UInt8 := [182, 1, 14, 42, 5, 27, 42, 27, 182, 0, 111, 182, 1, 17, 132, 3, 1, 167, 255, 79, 177]
abbrev dktX5_goesOn_7 : List UInt8 := dkwX5_goesOn_7 ++ []
def dkwX5_goesOn_6 : List UInt8 := [182, 1, 23, 153, 0, 7, 4, 167, 0, 4, 3, 61, 28, 154, 0, 6, 167, 0, 22, 42, 27, 16, 11, 4]
abbrev dktX5_goesOn_6 : List UInt8 := dkwX5_goesOn_6 ++ dktX5_goesOn_7
def dkwX5_goesOn_5 : List UInt8 := [180, 0, 13, 21, 4, 21, 5, 184, 0, 108, 46, 5, 160, 0, 20, 42, 42, 3, 27, 182, 1, 20]
abbrev dktX5_goesOn_5 : List UInt8 := dkwX5_goesOn_5 ++ dktX5_goesOn_6
def dkwX5_goesOn_4 : List UInt8 := [167, 0, 58, 42, 27, 5, 21, 4, 182, 1, 10, 42, 27, 6, 21, 5, 182, 1, 10, 29, 154, 0, 36, 42]
abbrev dktX5_goesOn_4 : List UInt8 := dkwX5_goesOn_4 ++ dktX5_goesOn_5
def dkwX5_goesOn_3 : List UInt8 := [21, 5, 184, 0, 108, 182, 1, 42, 154, 0, 17, 42, 8, 27, 42, 27, 182, 0, 111, 182, 1, 17]
abbrev dktX5_goesOn_3 : List UInt8 := dkwX5_goesOn_3 ++ dktX5_goesOn_4
def dkwX5_goesOn_2 : List UInt8 := [96, 54, 5, 21, 4, 21, 5, 184, 1, 35, 154, 0, 11, 42, 27, 182, 1, 39, 167, 0, 86, 42, 21, 4]
abbrev dktX5_goesOn_2 : List UInt8 := dkwX5_goesOn_2 ++ dktX5_goesOn_3
def dkwX5_goesOn_1 : List UInt8 := [182, 0, 104, 184, 1, 29, 96, 54, 4, 42, 27, 6, 182, 0, 104, 42, 27, 7, 182, 0, 104, 184, 1, 32]
abbrev dktX5_goesOn_1 : List UInt8 := dkwX5_goesOn_1 ++ dktX5_goesOn_2
def dkwX5_goesOn_0 : List UInt8 := [4, 61, 3, 62, 29, 5, 162, 0, 178, 28, 153, 0, 174, 3, 61, 42, 27, 5, 182, 0, 104, 42, 27, 7]
abbrev dktX5_goesOn_0 : List UInt8 := dkwX5_goesOn_0 ++ dktX5_goesOn_1
theorem dksX5_goesOn_0 : cX5_goesOn.data.toList.drop 0 = dktX5_goesOn_0 := by decide +kernel
theorem dksX5_goesOn_1 : cX5_goesOn.data.toList.drop 24 = dktX5_goesOn_1 := dk_seg dksX5_goesOn_0 24 rfl rfl
theorem dksX5_goesOn_2 : cX5_goesOn.data.toList.drop 48 = dktX5_goesOn_2 := dk_seg dksX5_goesOn_1 24 rfl rfl
theorem dksX5_goesOn_3 : cX5_goesOn.data.toList.drop 72 = dktX5_goesOn_3 := dk_seg dksX5_goesOn_2 24 rfl rfl
theorem dksX5_goesOn_4 : cX5_goesOn.data.toList.drop 94 = dktX5_goesOn_4 := dk_seg dksX5_goesOn_3 22 rfl rfl
theorem dksX5_goesOn_5 : cX5_goesOn.data.toList.drop 118 = dktX5_goesOn_5 := dk_seg dksX5_goesOn_4 24 rfl rfl
theorem dksX5_goesOn_6 : cX5_goesOn.data.toList.drop 140 = dktX5_goesOn_6 := dk_seg dksX5_goesOn_5 22 rfl rfl
theorem dksX5_goesOn_7 : cX5_goesOn.data.toList.drop 164 = dktX5_goesOn_7 := dk_seg dksX5_goesOn_6 24 rfl rfl
theorem dX5_goesOn_0 : decode cX5_goesOn 0 = .ok (.iconst 1, 1) := dk_4 (dk_at dksX5_goesOn_0 0 rfl rfl)
theorem dX5_goesOn_1 : decode cX5_goesOn 1 = .ok (.istore_n 2, 1) := dk_61 (dk_at dksX5_goesOn_0 1 rfl rfl)
theorem dX5_goesOn_2 : decode cX5_goesOn 2 = .ok (.iconst 0, 1) := dk_3 (dk_at dksX5_goesOn_0 2 rfl rfl)
theorem dX5_goesOn_3 : decode cX5_goesOn 3 = .ok (.istore_n 3, 1) := dk_62 (dk_at dksX5_goesOn_0 3 rfl rfl)
theorem dX5_goesOn_4 : decode cX5_goesOn 4 = .ok (.iload_n 3, 1) := dk_29 (dk_at dksX5_goesOn_0 4 rfl rfl)
theorem dX5_goesOn_5 : decode cX5_goesOn 5 = .ok (.iconst 2, 1) := dk_5 (dk_at dksX5_goesOn_0 5 rfl rfl)
theorem dX5_goesOn_6 : decode cX5_goesOn 6 = .ok (.if_icmp .ge 178, 3) := dk_162 0 178 (dk_at dksX5_goesOn_0 6 rfl rfl)
theorem dX5_goesOn_9 : decode cX5_goesOn 9 = .ok (.iload_n 2, 1) := dk_28 (dk_at dksX5_goesOn_0 9 rfl rfl)
theorem dX5_goesOn_10 : decode cX5_goesOn 10 = .ok (.ifCond .eq 174, 3) := dk_153 0 174 (dk_at dksX5_goesOn_0 10 rfl rfl)
theorem dX5_goesOn_13 : decode cX5_goesOn 13 = .ok (.iconst 0, 1) := dk_3 (dk_at dksX5_goesOn_0 13 rfl rfl)
theorem dX5_goesOn_14 : decode cX5_goesOn 14 = .ok (.istore_n 2, 1) := dk_61 (dk_at dksX5_goesOn_0 14 rfl rfl)
theorem dX5_goesOn_15 : decode cX5_goesOn 15 = .ok (.aload_n 0, 1) := dk_42 (dk_at dksX5_goesOn_0 15 rfl rfl)
theorem dX5_goesOn_16 : decode cX5_goesOn 16 = .ok (.iload_n 1, 1) := dk_27 (dk_at dksX5_goesOn_0 16 rfl rfl)
theorem dX5_goesOn_17 : decode cX5_goesOn 17 = .ok (.iconst 2, 1) := dk_5 (dk_at dksX5_goesOn_0 17 rfl rfl)
theorem dX5_goesOn_18 : decode cX5_goesOn 18 = .ok (.invokevirtual 104, 3) := dk_182 0 104 (dk_at dksX5_goesOn_0 18 rfl rfl)
theorem dX5_goesOn_21 : decode cX5_goesOn 21 = .ok (.aload_n 0, 1) := dk_42 (dk_at dksX5_goesOn_0 21 rfl rfl)
theorem dX5_goesOn_22 : decode cX5_goesOn 22 = .ok (.iload_n 1, 1) := dk_27 (dk_at dksX5_goesOn_0 22 rfl rfl)
theorem dX5_goesOn_23 : decode cX5_goesOn 23 = .ok (.iconst 4, 1) := dk_7 (dk_at dksX5_goesOn_0 23 rfl rfl)
theorem dX5_goesOn_24 : decode cX5_goesOn 24 = .ok (.invokevirtual 104, 3) := dk_182 0 104 (dk_at dksX5_goesOn_1 0 rfl rfl)
theorem dX5_goesOn_27 : decode cX5_goesOn 27 = .ok (.invokestatic 285, 3) := dk_184 1 29 (dk_at dksX5_goesOn_1 3 rfl rfl)
theorem dX5_goesOn_30 : decode cX5_goesOn 30 = .ok (.iadd, 1) := dk_96 (dk_at dksX5_goesOn_1 6 rfl rfl)
theorem dX5_goesOn_31 : decode cX5_goesOn 31 = .ok (.istore 4, 2) := dk_54 4 (dk_at dksX5_goesOn_1 7 rfl rfl)
theorem dX5_goesOn_33 : decode cX5_goesOn 33 = .ok (.aload_n 0, 1) := dk_42 (dk_at dksX5_goesOn_1 9 rfl rfl)
theorem dX5_goesOn_34 : decode cX5_goesOn 34 = .ok (.iload_n 1, 1) := dk_27 (dk_at dksX5_goesOn_1 10 rfl rfl)
theorem dX5_goesOn_35 : decode cX5_goesOn 35 = .ok (.iconst 3, 1) := dk_6 (dk_at dksX5_goesOn_1 11 rfl rfl)
theorem dX5_goesOn_36 : decode cX5_goesOn 36 = .ok (.invokevirtual 104, 3) := dk_182 0 104 (dk_at dksX5_goesOn_1 12 rfl rfl)
theorem dX5_goesOn_39 : decode cX5_goesOn 39 = .ok (.aload_n 0, 1) := dk_42 (dk_at dksX5_goesOn_1 15 rfl rfl)
theorem dX5_goesOn_40 : decode cX5_goesOn 40 = .ok (.iload_n 1, 1) := dk_27 (dk_at dksX5_goesOn_1 16 rfl rfl)
theorem dX5_goesOn_41 : decode cX5_goesOn 41 = .ok (.iconst 4, 1) := dk_7 (dk_at dksX5_goesOn_1 17 rfl rfl)
theorem dX5_goesOn_42 : decode cX5_goesOn 42 = .ok (.invokevirtual 104, 3) := dk_182 0 104 (dk_at dksX5_goesOn_1 18 rfl rfl)
theorem dX5_goesOn_45 : decode cX5_goesOn 45 = .ok (.invokestatic 288, 3) := dk_184 1 32 (dk_at dksX5_goesOn_1 21 rfl rfl)
theorem dX5_goesOn_48 : decode cX5_goesOn 48 = .ok (.iadd, 1) := dk_96 (dk_at dksX5_goesOn_2 0 rfl rfl)
theorem dX5_goesOn_49 : decode cX5_goesOn 49 = .ok (.istore 5, 2) := dk_54 5 (dk_at dksX5_goesOn_2 1 rfl rfl)
theorem dX5_goesOn_51 : decode cX5_goesOn 51 = .ok (.iload 4, 2) := dk_21 4 (dk_at dksX5_goesOn_2 3 rfl rfl)
theorem dX5_goesOn_53 : decode cX5_goesOn 53 = .ok (.iload 5, 2) := dk_21 5 (dk_at dksX5_goesOn_2 5 rfl rfl)
theorem dX5_goesOn_55 : decode cX5_goesOn 55 = .ok (.invokestatic 291, 3) := dk_184 1 35 (dk_at dksX5_goesOn_2 7 rfl rfl)
theorem dX5_goesOn_58 : decode cX5_goesOn 58 = .ok (.ifCond .ne 11, 3) := dk_154 0 11 (dk_at dksX5_goesOn_2 10 rfl rfl)
theorem dX5_goesOn_61 : decode cX5_goesOn 61 = .ok (.aload_n 0, 1) := dk_42 (dk_at dksX5_goesOn_2 13 rfl rfl)
theorem dX5_goesOn_62 : decode cX5_goesOn 62 = .ok (.iload_n 1, 1) := dk_27 (dk_at dksX5_goesOn_2 14 rfl rfl)
theorem dX5_goesOn_63 : decode cX5_goesOn 63 = .ok (.invokevirtual 295, 3) := dk_182 1 39 (dk_at dksX5_goesOn_2 15 rfl rfl)
theorem dX5_goesOn_66 : decode cX5_goesOn 66 = .ok (.goto 86, 3) := dk_167 0 86 (dk_at dksX5_goesOn_2 18 rfl rfl)
theorem dX5_goesOn_69 : decode cX5_goesOn 69 = .ok (.aload_n 0, 1) := dk_42 (dk_at dksX5_goesOn_2 21 rfl rfl)
theorem dX5_goesOn_70 : decode cX5_goesOn 70 = .ok (.iload 4, 2) := dk_21 4 (dk_at dksX5_goesOn_2 22 rfl rfl)
theorem dX5_goesOn_72 : decode cX5_goesOn 72 = .ok (.iload 5, 2) := dk_21 5 (dk_at dksX5_goesOn_3 0 rfl rfl)
theorem dX5_goesOn_74 : decode cX5_goesOn 74 = .ok (.invokestatic 108, 3) := dk_184 0 108 (dk_at dksX5_goesOn_3 2 rfl rfl)
theorem dX5_goesOn_77 : decode cX5_goesOn 77 = .ok (.invokevirtual 298, 3) := dk_182 1 42 (dk_at dksX5_goesOn_3 5 rfl rfl)
theorem dX5_goesOn_80 : decode cX5_goesOn 80 = .ok (.ifCond .ne 17, 3) := dk_154 0 17 (dk_at dksX5_goesOn_3 8 rfl rfl)
theorem dX5_goesOn_83 : decode cX5_goesOn 83 = .ok (.aload_n 0, 1) := dk_42 (dk_at dksX5_goesOn_3 11 rfl rfl)
theorem dX5_goesOn_84 : decode cX5_goesOn 84 = .ok (.iconst 5, 1) := dk_8 (dk_at dksX5_goesOn_3 12 rfl rfl)
theorem dX5_goesOn_85 : decode cX5_goesOn 85 = .ok (.iload_n 1, 1) := dk_27 (dk_at dksX5_goesOn_3 13 rfl rfl)
theorem dX5_goesOn_86 : decode cX5_goesOn 86 = .ok (.aload_n 0, 1) := dk_42 (dk_at dksX5_goesOn_3 14 rfl rfl)
theorem dX5_goesOn_87 : decode cX5_goesOn 87 = .ok (.iload_n 1, 1) := dk_27 (dk_at dksX5_goesOn_3 15 rfl rfl)
theorem dX5_goesOn_88 : decode cX5_goesOn 88 = .ok (.invokevirtual 111, 3) := dk_182 0 111 (dk_at dksX5_goesOn_3 16 rfl rfl)
theorem dX5_goesOn_91 : decode cX5_goesOn 91 = .ok (.invokevirtual 273, 3) := dk_182 1 17 (dk_at dksX5_goesOn_3 19 rfl rfl)
theorem dX5_goesOn_94 : decode cX5_goesOn 94 = .ok (.goto 58, 3) := dk_167 0 58 (dk_at dksX5_goesOn_4 0 rfl rfl)
theorem dX5_goesOn_97 : decode cX5_goesOn 97 = .ok (.aload_n 0, 1) := dk_42 (dk_at dksX5_goesOn_4 3 rfl rfl)
theorem dX5_goesOn_98 : decode cX5_goesOn 98 = .ok (.iload_n 1, 1) := dk_27 (dk_at dksX5_goesOn_4 4 rfl rfl)
theorem dX5_goesOn_99 : decode cX5_goesOn 99 = .ok (.iconst 2, 1) := dk_5 (dk_at dksX5_goesOn_4 5 rfl rfl)
theorem dX5_goesOn_100 : decode cX5_goesOn 100 = .ok (.iload 4, 2) := dk_21 4 (dk_at dksX5_goesOn_4 6 rfl rfl)
theorem dX5_goesOn_102 : decode cX5_goesOn 102 = .ok (.invokevirtual 266, 3) := dk_182 1 10 (dk_at dksX5_goesOn_4 8 rfl rfl)
theorem dX5_goesOn_105 : decode cX5_goesOn 105 = .ok (.aload_n 0, 1) := dk_42 (dk_at dksX5_goesOn_4 11 rfl rfl)
theorem dX5_goesOn_106 : decode cX5_goesOn 106 = .ok (.iload_n 1, 1) := dk_27 (dk_at dksX5_goesOn_4 12 rfl rfl)
theorem dX5_goesOn_107 : decode cX5_goesOn 107 = .ok (.iconst 3, 1) := dk_6 (dk_at dksX5_goesOn_4 13 rfl rfl)
theorem dX5_goesOn_108 : decode cX5_goesOn 108 = .ok (.iload 5, 2) := dk_21 5 (dk_at dksX5_goesOn_4 14 rfl rfl)
theorem dX5_goesOn_110 : decode cX5_goesOn 110 = .ok (.invokevirtual 266, 3) := dk_182 1 10 (dk_at dksX5_goesOn_4 16 rfl rfl)
theorem dX5_goesOn_113 : decode cX5_goesOn 113 = .ok (.iload_n 3, 1) := dk_29 (dk_at dksX5_goesOn_4 19 rfl rfl)
theorem dX5_goesOn_114 : decode cX5_goesOn 114 = .ok (.ifCond .ne 36, 3) := dk_154 0 36 (dk_at dksX5_goesOn_4 20 rfl rfl)
theorem dX5_goesOn_117 : decode cX5_goesOn 117 = .ok (.aload_n 0, 1) := dk_42 (dk_at dksX5_goesOn_4 23 rfl rfl)
theorem dX5_goesOn_118 : decode cX5_goesOn 118 = .ok (.getfield 13, 3) := dk_180 0 13 (dk_at dksX5_goesOn_5 0 rfl rfl)
theorem dX5_goesOn_121 : decode cX5_goesOn 121 = .ok (.iload 4, 2) := dk_21 4 (dk_at dksX5_goesOn_5 3 rfl rfl)
theorem dX5_goesOn_123 : decode cX5_goesOn 123 = .ok (.iload 5, 2) := dk_21 5 (dk_at dksX5_goesOn_5 5 rfl rfl)
theorem dX5_goesOn_125 : decode cX5_goesOn 125 = .ok (.invokestatic 108, 3) := dk_184 0 108 (dk_at dksX5_goesOn_5 7 rfl rfl)
theorem dX5_goesOn_128 : decode cX5_goesOn 128 = .ok (.iaload, 1) := dk_46 (dk_at dksX5_goesOn_5 10 rfl rfl)
theorem dX5_goesOn_129 : decode cX5_goesOn 129 = .ok (.iconst 2, 1) := dk_5 (dk_at dksX5_goesOn_5 11 rfl rfl)
theorem dX5_goesOn_130 : decode cX5_goesOn 130 = .ok (.if_icmp .ne 20, 3) := dk_160 0 20 (dk_at dksX5_goesOn_5 12 rfl rfl)
theorem dX5_goesOn_133 : decode cX5_goesOn 133 = .ok (.aload_n 0, 1) := dk_42 (dk_at dksX5_goesOn_5 15 rfl rfl)
theorem dX5_goesOn_134 : decode cX5_goesOn 134 = .ok (.aload_n 0, 1) := dk_42 (dk_at dksX5_goesOn_5 16 rfl rfl)
theorem dX5_goesOn_135 : decode cX5_goesOn 135 = .ok (.iconst 0, 1) := dk_3 (dk_at dksX5_goesOn_5 17 rfl rfl)
theorem dX5_goesOn_136 : decode cX5_goesOn 136 = .ok (.iload_n 1, 1) := dk_27 (dk_at dksX5_goesOn_5 18 rfl rfl)
theorem dX5_goesOn_137 : decode cX5_goesOn 137 = .ok (.invokevirtual 276, 3) := dk_182 1 20 (dk_at dksX5_goesOn_5 19 rfl rfl)
theorem dX5_goesOn_140 : decode cX5_goesOn 140 = .ok (.invokevirtual 279, 3) := dk_182 1 23 (dk_at dksX5_goesOn_6 0 rfl rfl)
theorem dX5_goesOn_143 : decode cX5_goesOn 143 = .ok (.ifCond .eq 7, 3) := dk_153 0 7 (dk_at dksX5_goesOn_6 3 rfl rfl)
theorem dX5_goesOn_146 : decode cX5_goesOn 146 = .ok (.iconst 1, 1) := dk_4 (dk_at dksX5_goesOn_6 6 rfl rfl)
theorem dX5_goesOn_147 : decode cX5_goesOn 147 = .ok (.goto 4, 3) := dk_167 0 4 (dk_at dksX5_goesOn_6 7 rfl rfl)
theorem dX5_goesOn_150 : decode cX5_goesOn 150 = .ok (.iconst 0, 1) := dk_3 (dk_at dksX5_goesOn_6 10 rfl rfl)
theorem dX5_goesOn_151 : decode cX5_goesOn 151 = .ok (.istore_n 2, 1) := dk_61 (dk_at dksX5_goesOn_6 11 rfl rfl)
theorem dX5_goesOn_152 : decode cX5_goesOn 152 = .ok (.iload_n 2, 1) := dk_28 (dk_at dksX5_goesOn_6 12 rfl rfl)
theorem dX5_goesOn_153 : decode cX5_goesOn 153 = .ok (.ifCond .ne 6, 3) := dk_154 0 6 (dk_at dksX5_goesOn_6 13 rfl rfl)
theorem dX5_goesOn_156 : decode cX5_goesOn 156 = .ok (.goto 22, 3) := dk_167 0 22 (dk_at dksX5_goesOn_6 16 rfl rfl)
theorem dX5_goesOn_159 : decode cX5_goesOn 159 = .ok (.aload_n 0, 1) := dk_42 (dk_at dksX5_goesOn_6 19 rfl rfl)
theorem dX5_goesOn_160 : decode cX5_goesOn 160 = .ok (.iload_n 1, 1) := dk_27 (dk_at dksX5_goesOn_6 20 rfl rfl)
theorem dX5_goesOn_161 : decode cX5_goesOn 161 = .ok (.bipush 11, 2) := dk_16 11 (dk_at dksX5_goesOn_6 21 rfl rfl)
theorem dX5_goesOn_163 : decode cX5_goesOn 163 = .ok (.iconst 1, 1) := dk_4 (dk_at dksX5_goesOn_6 23 rfl rfl)
theorem dX5_goesOn_164 : decode cX5_goesOn 164 = .ok (.invokevirtual 270, 3) := dk_182 1 14 (dk_at dksX5_goesOn_7 0 rfl rfl)
theorem dX5_goesOn_167 : decode cX5_goesOn 167 = .ok (.aload_n 0, 1) := dk_42 (dk_at dksX5_goesOn_7 3 rfl rfl)
theorem dX5_goesOn_168 : decode cX5_goesOn 168 = .ok (.iconst 2, 1) := dk_5 (dk_at dksX5_goesOn_7 4 rfl rfl)
theorem dX5_goesOn_169 : decode cX5_goesOn 169 = .ok (.iload_n 1, 1) := dk_27 (dk_at dksX5_goesOn_7 5 rfl rfl)
theorem dX5_goesOn_170 : decode cX5_goesOn 170 = .ok (.aload_n 0, 1) := dk_42 (dk_at dksX5_goesOn_7 6 rfl rfl)
theorem dX5_goesOn_171 : decode cX5_goesOn 171 = .ok (.iload_n 1, 1) := dk_27 (dk_at dksX5_goesOn_7 7 rfl rfl)
theorem dX5_goesOn_172 : decode cX5_goesOn 172 = .ok (.invokevirtual 111, 3) := dk_182 0 111 (dk_at dksX5_goesOn_7 8 rfl rfl)
theorem dX5_goesOn_175 : decode cX5_goesOn 175 = .ok (.invokevirtual 273, 3) := dk_182 1 17 (dk_at dksX5_goesOn_7 11 rfl rfl)
theorem dX5_goesOn_178 : decode cX5_goesOn 178 = .ok (.iinc 3 1, 3) := dk_132 3 1 (dk_at dksX5_goesOn_7 14 rfl rfl)
theorem dX5_goesOn_181 : decode cX5_goesOn 181 = .ok (.goto (-177), 3) := dk_167 255 79 (dk_at dksX5_goesOn_7 17 rfl rfl)
theorem dX5_goesOn_184 : decode cX5_goesOn 184 = .ok (.return_, 1) := dk_177 (dk_at dksX5_goesOn_7 20 rfl rfl)
abbrev cX5_goesX : ByteArray := prog_17_method_10_code
def yX5_goesX : MethodName := ⟨RX5, "goesX", "(I)I"⟩
def dkwX5_goesX_0 : List UInt8 := [26, 4, 160, 0, 7, 4, 167, 0, 13, 26, 6, 160, 0, 7, 2, 167, 0, 4, 3, 172]
abbrev dktX5_goesX_0 : List UInt8 := dkwX5_goesX_0 ++ []
theorem dksX5_goesX_0 : cX5_goesX.data.toList.drop 0 = dktX5_goesX_0 := by decide +kernel
theorem dX5_goesX_0 : decode cX5_goesX 0 = .ok (.iload_n 0, 1) := dk_26 (dk_at dksX5_goesX_0 0 rfl rfl)
theorem dX5_goesX_1 : decode cX5_goesX 1 = .ok (.iconst 1, 1) := dk_4 (dk_at dksX5_goesX_0 1 rfl rfl)
theorem dX5_goesX_2 : decode cX5_goesX 2 = .ok (.if_icmp .ne 7, 3) := dk_160 0 7 (dk_at dksX5_goesX_0 2 rfl rfl)
theorem dX5_goesX_5 : decode cX5_goesX 5 = .ok (.iconst 1, 1) := dk_4 (dk_at dksX5_goesX_0 5 rfl rfl)
theorem dX5_goesX_6 : decode cX5_goesX 6 = .ok (.goto 13, 3) := dk_167 0 13 (dk_at dksX5_goesX_0 6 rfl rfl)
theorem dX5_goesX_9 : decode cX5_goesX 9 = .ok (.iload_n 0, 1) := dk_26 (dk_at dksX5_goesX_0 9 rfl rfl)
theorem dX5_goesX_10 : decode cX5_goesX 10 = .ok (.iconst 3, 1) := dk_6 (dk_at dksX5_goesX_0 10 rfl rfl)
theorem dX5_goesX_11 : decode cX5_goesX 11 = .ok (.if_icmp .ne 7, 3) := dk_160 0 7 (dk_at dksX5_goesX_0 11 rfl rfl)
theorem dX5_goesX_14 : decode cX5_goesX 14 = .ok (.iconst (-1), 1) := dk_2 (dk_at dksX5_goesX_0 14 rfl rfl)
theorem dX5_goesX_15 : decode cX5_goesX 15 = .ok (.goto 4, 3) := dk_167 0 4 (dk_at dksX5_goesX_0 15 rfl rfl)
theorem dX5_goesX_18 : decode cX5_goesX 18 = .ok (.iconst 0, 1) := dk_3 (dk_at dksX5_goesX_0 18 rfl rfl)
theorem dX5_goesX_19 : decode cX5_goesX 19 = .ok (.ireturn, 1) := dk_172 (dk_at dksX5_goesX_0 19 rfl rfl)
abbrev cX5_goesY : ByteArray := prog_17_method_11_code
def yX5_goesY : MethodName := ⟨RX5, "goesY", "(I)I"⟩
def dkwX5_goesY_0 : List UInt8 := [26, 154, 0, 7, 4, 167, 0, 13, 26, 5, 160, 0, 7, 2, 167, 0, 4, 3, 172]
abbrev dktX5_goesY_0 : List UInt8 := dkwX5_goesY_0 ++ []
theorem dksX5_goesY_0 : cX5_goesY.data.toList.drop 0 = dktX5_goesY_0 := by decide +kernel
theorem dX5_goesY_0 : decode cX5_goesY 0 = .ok (.iload_n 0, 1) := dk_26 (dk_at dksX5_goesY_0 0 rfl rfl)
theorem dX5_goesY_1 : decode cX5_goesY 1 = .ok (.ifCond .ne 7, 3) := dk_154 0 7 (dk_at dksX5_goesY_0 1 rfl rfl)
theorem dX5_goesY_4 : decode cX5_goesY 4 = .ok (.iconst 1, 1) := dk_4 (dk_at dksX5_goesY_0 4 rfl rfl)
theorem dX5_goesY_5 : decode cX5_goesY 5 = .ok (.goto 13, 3) := dk_167 0 13 (dk_at dksX5_goesY_0 5 rfl rfl)
theorem dX5_goesY_8 : decode cX5_goesY 8 = .ok (.iload_n 0, 1) := dk_26 (dk_at dksX5_goesY_0 8 rfl rfl)
theorem dX5_goesY_9 : decode cX5_goesY 9 = .ok (.iconst 2, 1) := dk_5 (dk_at dksX5_goesY_0 9 rfl rfl)
theorem dX5_goesY_10 : decode cX5_goesY 10 = .ok (.if_icmp .ne 7, 3) := dk_160 0 7 (dk_at dksX5_goesY_0 10 rfl rfl)
theorem dX5_goesY_13 : decode cX5_goesY 13 = .ok (.iconst (-1), 1) := dk_2 (dk_at dksX5_goesY_0 13 rfl rfl)
theorem dX5_goesY_14 : decode cX5_goesY 14 = .ok (.goto 4, 3) := dk_167 0 4 (dk_at dksX5_goesY_0 14 rfl rfl)
theorem dX5_goesY_17 : decode cX5_goesY 17 = .ok (.iconst 0, 1) := dk_3 (dk_at dksX5_goesY_0 17 rfl rfl)
theorem dX5_goesY_18 : decode cX5_goesY 18 = .ok (.ireturn, 1) := dk_172 (dk_at dksX5_goesY_0 18 rfl rfl)
abbrev cX5_isIn : ByteArray := prog_17_method_9_code
def yX5_isIn : MethodName := ⟨RX5, "isIn", "(II)Z"⟩
def dkwX5_isIn_1 : List UInt8 := [3, 172]
abbrev dktX5_isIn_1 : List UInt8 := dkwX5_isIn_1 ++ []
def dkwX5_isIn_0 : List UInt8 := [26, 3, 16, 11, 184, 0, 100, 153, 0, 17, 27, 3, 16, 11, 184, 0, 100, 153, 0, 7, 4, 167, 0, 4]
abbrev dktX5_isIn_0 : List UInt8 := dkwX5_isIn_0 ++ dktX5_isIn_1
theorem dksX5_isIn_0 : cX5_isIn.data.toList.drop 0 = dktX5_isIn_0 := by decide +kernel
theorem dksX5_isIn_1 : cX5_isIn.data.toList.drop 24 = dktX5_isIn_1 := dk_seg dksX5_isIn_0 24 rfl rfl
theorem dX5_isIn_0 : decode cX5_isIn 0 = .ok (.iload_n 0, 1) := dk_26 (dk_at dksX5_isIn_0 0 rfl rfl)
theorem dX5_isIn_1 : decode cX5_isIn 1 = .ok (.iconst 0, 1) := dk_3 (dk_at dksX5_isIn_0 1 rfl rfl)
theorem dX5_isIn_2 : decode cX5_isIn 2 = .ok (.bipush 11, 2) := dk_16 11 (dk_at dksX5_isIn_0 2 rfl rfl)
theorem dX5_isIn_4 : decode cX5_isIn 4 = .ok (.invokestatic 100, 3) := dk_184 0 100 (dk_at dksX5_isIn_0 4 rfl rfl)
theorem dX5_isIn_7 : decode cX5_isIn 7 = .ok (.ifCond .eq 17, 3) := dk_153 0 17 (dk_at dksX5_isIn_0 7 rfl rfl)
theorem dX5_isIn_10 : decode cX5_isIn 10 = .ok (.iload_n 1, 1) := dk_27 (dk_at dksX5_isIn_0 10 rfl rfl)
theorem dX5_isIn_11 : decode cX5_isIn 11 = .ok (.iconst 0, 1) := dk_3 (dk_at dksX5_isIn_0 11 rfl rfl)
theorem dX5_isIn_12 : decode cX5_isIn 12 = .ok (.bipush 11, 2) := dk_16 11 (dk_at dksX5_isIn_0 12 rfl rfl)
theorem dX5_isIn_14 : decode cX5_isIn 14 = .ok (.invokestatic 100, 3) := dk_184 0 100 (dk_at dksX5_isIn_0 14 rfl rfl)
theorem dX5_isIn_17 : decode cX5_isIn 17 = .ok (.ifCond .eq 7, 3) := dk_153 0 7 (dk_at dksX5_isIn_0 17 rfl rfl)
theorem dX5_isIn_20 : decode cX5_isIn 20 = .ok (.iconst 1, 1) := dk_4 (dk_at dksX5_isIn_0 20 rfl rfl)
theorem dX5_isIn_21 : decode cX5_isIn 21 = .ok (.goto 4, 3) := dk_167 0 4 (dk_at dksX5_isIn_0 21 rfl rfl)
theorem dX5_isIn_24 : decode cX5_isIn 24 = .ok (.iconst 0, 1) := dk_3 (dk_at dksX5_isIn_1 0 rfl rfl)
theorem dX5_isIn_25 : decode cX5_isIn 25 = .ok (.ireturn, 1) := dk_172 (dk_at dksX5_isIn_1 1 rfl rfl)
abbrev cX5_goesOut : ByteArray := prog_17_method_66_code
def yX5_goesOut : MethodName := ⟨RX5, "goesOut", "(I)V"⟩
def dkwX5_goesOut_1 : List UInt8 := [182, 1, 26, 42, 27, 4, 3, 182, 1, 10, 177]
abbrev dktX5_goesOut_1 : List UInt8 := dkwX5_goesOut_1 ++ []
def dkwX5_goesOut_0 : List UInt8 := [42, 27, 7, 182, 0, 104, 5, 96, 7, 112, 42, 27, 16, 7, 182, 0, 104, 159, 0, 8, 42, 27]
abbrev dktX5_goesOut_0 : List UInt8 := dkwX5_goesOut_0 ++ dktX5_goesOut_1
theorem dksX5_goesOut_0 : cX5_goesOut.data.toList.drop 0 = dktX5_goesOut_0 := by decide +kernel
theorem dksX5_goesOut_1 : cX5_goesOut.data.toList.drop 22 = dktX5_goesOut_1 := dk_seg dksX5_goesOut_0 22 rfl rfl
theorem dX5_goesOut_0 : decode cX5_goesOut 0 = .ok (.aload_n 0, 1) := dk_42 (dk_at dksX5_goesOut_0 0 rfl rfl)
theorem dX5_goesOut_1 : decode cX5_goesOut 1 = .ok (.iload_n 1, 1) := dk_27 (dk_at dksX5_goesOut_0 1 rfl rfl)
theorem dX5_goesOut_2 : decode cX5_goesOut 2 = .ok (.iconst 4, 1) := dk_7 (dk_at dksX5_goesOut_0 2 rfl rfl)
theorem dX5_goesOut_3 : decode cX5_goesOut 3 = .ok (.invokevirtual 104, 3) := dk_182 0 104 (dk_at dksX5_goesOut_0 3 rfl rfl)
theorem dX5_goesOut_6 : decode cX5_goesOut 6 = .ok (.iconst 2, 1) := dk_5 (dk_at dksX5_goesOut_0 6 rfl rfl)
theorem dX5_goesOut_7 : decode cX5_goesOut 7 = .ok (.iadd, 1) := dk_96 (dk_at dksX5_goesOut_0 7 rfl rfl)
theorem dX5_goesOut_8 : decode cX5_goesOut 8 = .ok (.iconst 4, 1) := dk_7 (dk_at dksX5_goesOut_0 8 rfl rfl)
theorem dX5_goesOut_9 : decode cX5_goesOut 9 = .ok (.irem, 1) := dk_112 (dk_at dksX5_goesOut_0 9 rfl rfl)
theorem dX5_goesOut_10 : decode cX5_goesOut 10 = .ok (.aload_n 0, 1) := dk_42 (dk_at dksX5_goesOut_0 10 rfl rfl)
theorem dX5_goesOut_11 : decode cX5_goesOut 11 = .ok (.iload_n 1, 1) := dk_27 (dk_at dksX5_goesOut_0 11 rfl rfl)
theorem dX5_goesOut_12 : decode cX5_goesOut 12 = .ok (.bipush 7, 2) := dk_16 7 (dk_at dksX5_goesOut_0 12 rfl rfl)
theorem dX5_goesOut_14 : decode cX5_goesOut 14 = .ok (.invokevirtual 104, 3) := dk_182 0 104 (dk_at dksX5_goesOut_0 14 rfl rfl)
theorem dX5_goesOut_17 : decode cX5_goesOut 17 = .ok (.if_icmp .eq 8, 3) := dk_159 0 8 (dk_at dksX5_goesOut_0 17 rfl rfl)
theorem dX5_goesOut_20 : decode cX5_goesOut 20 = .ok (.aload_n 0, 1) := dk_42 (dk_at dksX5_goesOut_0 20 rfl rfl)
theorem dX5_goesOut_21 : decode cX5_goesOut 21 = .ok (.iload_n 1, 1) := dk_27 (dk_at dksX5_goesOut_0 21 rfl rfl)
theorem dX5_goesOut_22 : decode cX5_goesOut 22 = .ok (.invokevirtual 282, 3) := dk_182 1 26 (dk_at dksX5_goesOut_1 0 rfl rfl)
theorem dX5_goesOut_25 : decode cX5_goesOut 25 = .ok (.aload_n 0, 1) := dk_42 (dk_at dksX5_goesOut_1 3 rfl rfl)
theorem dX5_goesOut_26 : decode cX5_goesOut 26 = .ok (.iload_n 1, 1) := dk_27 (dk_at dksX5_goesOut_1 4 rfl rfl)
theorem dX5_goesOut_27 : decode cX5_goesOut 27 = .ok (.iconst 1, 1) := dk_4 (dk_at dksX5_goesOut_1 5 rfl rfl)
theorem dX5_goesOut_28 : decode cX5_goesOut 28 = .ok (.iconst 0, 1) := dk_3 (dk_at dksX5_goesOut_1 6 rfl rfl)
theorem dX5_goesOut_29 : decode cX5_goesOut 29 = .ok (.invokevirtual 266, 3) := dk_182 1 10 (dk_at dksX5_goesOut_1 7 rfl rfl)
theorem dX5_goesOut_32 : decode cX5_goesOut 32 = .ok (.return_, 1) := dk_177 (dk_at dksX5_goesOut_1 10 rfl rfl)
abbrev cX5_comesOver : ByteArray := prog_17_method_65_code
def yX5_comesOver : MethodName := ⟨RX5, "comesOver", "(I)V"⟩
def dkwX5_comesOver_3 : List UInt8 := [17, 3, 169, 92, 46, 16, 50, 96, 79, 42, 7, 27, 16, 50, 182, 1, 17, 177]
abbrev dktX5_comesOver_3 : List UInt8 := dkwX5_comesOver_3 ++ []
def dkwX5_comesOver_2 : List UInt8 := [4, 27, 182, 1, 20, 182, 1, 23, 153, 0, 32, 42, 27, 16, 10, 4, 182, 1, 14, 42, 180, 0, 13]
abbrev dktX5_comesOver_2 : List UInt8 := dkwX5_comesOver_2 ++ dktX5_comesOver_3
def dkwX5_comesOver_1 : List UInt8 := [79, 42, 6, 27, 42, 27, 8, 182, 0, 104, 182, 1, 17, 42, 27, 8, 182, 0, 104, 154, 0, 45, 42, 42]
abbrev dktX5_comesOver_1 : List UInt8 := dkwX5_comesOver_1 ++ dktX5_comesOver_2
def dkwX5_comesOver_0 : List UInt8 := [42, 27, 16, 9, 4, 182, 1, 14, 42, 180, 0, 13, 17, 3, 169, 92, 46, 42, 5, 27, 182, 1, 20, 96]
abbrev dktX5_comesOver_0 : List UInt8 := dkwX5_comesOver_0 ++ dktX5_comesOver_1
theorem dksX5_comesOver_0 : cX5_comesOver.data.toList.drop 0 = dktX5_comesOver_0 := by decide +kernel
theorem dksX5_comesOver_1 : cX5_comesOver.data.toList.drop 24 = dktX5_comesOver_1 := dk_seg dksX5_comesOver_0 24 rfl rfl
theorem dksX5_comesOver_2 : cX5_comesOver.data.toList.drop 48 = dktX5_comesOver_2 := dk_seg dksX5_comesOver_1 24 rfl rfl
theorem dksX5_comesOver_3 : cX5_comesOver.data.toList.drop 71 = dktX5_comesOver_3 := dk_seg dksX5_comesOver_2 23 rfl rfl
theorem dX5_comesOver_0 : decode cX5_comesOver 0 = .ok (.aload_n 0, 1) := dk_42 (dk_at dksX5_comesOver_0 0 rfl rfl)
theorem dX5_comesOver_1 : decode cX5_comesOver 1 = .ok (.iload_n 1, 1) := dk_27 (dk_at dksX5_comesOver_0 1 rfl rfl)
theorem dX5_comesOver_2 : decode cX5_comesOver 2 = .ok (.bipush 9, 2) := dk_16 9 (dk_at dksX5_comesOver_0 2 rfl rfl)
theorem dX5_comesOver_4 : decode cX5_comesOver 4 = .ok (.iconst 1, 1) := dk_4 (dk_at dksX5_comesOver_0 4 rfl rfl)
theorem dX5_comesOver_5 : decode cX5_comesOver 5 = .ok (.invokevirtual 270, 3) := dk_182 1 14 (dk_at dksX5_comesOver_0 5 rfl rfl)
theorem dX5_comesOver_8 : decode cX5_comesOver 8 = .ok (.aload_n 0, 1) := dk_42 (dk_at dksX5_comesOver_0 8 rfl rfl)
theorem dX5_comesOver_9 : decode cX5_comesOver 9 = .ok (.getfield 13, 3) := dk_180 0 13 (dk_at dksX5_comesOver_0 9 rfl rfl)
theorem dX5_comesOver_12 : decode cX5_comesOver 12 = .ok (.sipush 937, 3) := dk_17 3 169 (dk_at dksX5_comesOver_0 12 rfl rfl)
theorem dX5_comesOver_15 : decode cX5_comesOver 15 = .ok (.dup2, 1) := dk_92 (dk_at dksX5_comesOver_0 15 rfl rfl)
theorem dX5_comesOver_16 : decode cX5_comesOver 16 = .ok (.iaload, 1) := dk_46 (dk_at dksX5_comesOver_0 16 rfl rfl)
theorem dX5_comesOver_17 : decode cX5_comesOver 17 = .ok (.aload_n 0, 1) := dk_42 (dk_at dksX5_comesOver_0 17 rfl rfl)
theorem dX5_comesOver_18 : decode cX5_comesOver 18 = .ok (.iconst 2, 1) := dk_5 (dk_at dksX5_comesOver_0 18 rfl rfl)
theorem dX5_comesOver_19 : decode cX5_comesOver 19 = .ok (.iload_n 1, 1) := dk_27 (dk_at dksX5_comesOver_0 19 rfl rfl)
theorem dX5_comesOver_20 : decode cX5_comesOver 20 = .ok (.invokevirtual 276, 3) := dk_182 1 20 (dk_at dksX5_comesOver_0 20 rfl rfl)
theorem dX5_comesOver_23 : decode cX5_comesOver 23 = .ok (.iadd, 1) := dk_96 (dk_at dksX5_comesOver_0 23 rfl rfl)
theorem dX5_comesOver_24 : decode cX5_comesOver 24 = .ok (.iastore, 1) := dk_79 (dk_at dksX5_comesOver_1 0 rfl rfl)
theorem dX5_comesOver_25 : decode cX5_comesOver 25 = .ok (.aload_n 0, 1) := dk_42 (dk_at dksX5_comesOver_1 1 rfl rfl)
theorem dX5_comesOver_26 : decode cX5_comesOver 26 = .ok (.iconst 3, 1) := dk_6 (dk_at dksX5_comesOver_1 2 rfl rfl)
theorem dX5_comesOver_27 : decode cX5_comesOver 27 = .ok (.iload_n 1, 1) := dk_27 (dk_at dksX5_comesOver_1 3 rfl rfl)
theorem dX5_comesOver_28 : decode cX5_comesOver 28 = .ok (.aload_n 0, 1) := dk_42 (dk_at dksX5_comesOver_1 4 rfl rfl)
theorem dX5_comesOver_29 : decode cX5_comesOver 29 = .ok (.iload_n 1, 1) := dk_27 (dk_at dksX5_comesOver_1 5 rfl rfl)
theorem dX5_comesOver_30 : decode cX5_comesOver 30 = .ok (.iconst 5, 1) := dk_8 (dk_at dksX5_comesOver_1 6 rfl rfl)
theorem dX5_comesOver_31 : decode cX5_comesOver 31 = .ok (.invokevirtual 104, 3) := dk_182 0 104 (dk_at dksX5_comesOver_1 7 rfl rfl)
theorem dX5_comesOver_34 : decode cX5_comesOver 34 = .ok (.invokevirtual 273, 3) := dk_182 1 17 (dk_at dksX5_comesOver_1 10 rfl rfl)
theorem dX5_comesOver_37 : decode cX5_comesOver 37 = .ok (.aload_n 0, 1) := dk_42 (dk_at dksX5_comesOver_1 13 rfl rfl)
theorem dX5_comesOver_38 : decode cX5_comesOver 38 = .ok (.iload_n 1, 1) := dk_27 (dk_at dksX5_comesOver_1 14 rfl rfl)
theorem dX5_comesOver_39 : decode cX5_comesOver 39 = .ok (.iconst 5, 1) := dk_8 (dk_at dksX5_comesOver_1 15 rfl rfl)
theorem dX5_comesOver_40 : decode cX5_comesOver 40 = .ok (.invokevirtual 104, 3) := dk_182 0 104 (dk_at dksX5_comesOver_1 16 rfl rfl)
theorem dX5_comesOver_43 : decode cX5_comesOver 43 = .ok (.ifCond .ne 45, 3) := dk_154 0 45 (dk_at dksX5_comesOver_1 19 rfl rfl)
theorem dX5_comesOver_46 : decode cX5_comesOver 46 = .ok (.aload_n 0, 1) := dk_42 (dk_at dksX5_comesOver_1 22 rfl rfl)
theorem dX5_comesOver_47 : decode cX5_comesOver 47 = .ok (.aload_n 0, 1) := dk_42 (dk_at dksX5_comesOver_1 23 rfl rfl)
theorem dX5_comesOver_48 : decode cX5_comesOver 48 = .ok (.iconst 1, 1) := dk_4 (dk_at dksX5_comesOver_2 0 rfl rfl)
theorem dX5_comesOver_49 : decode cX5_comesOver 49 = .ok (.iload_n 1, 1) := dk_27 (dk_at dksX5_comesOver_2 1 rfl rfl)
theorem dX5_comesOver_50 : decode cX5_comesOver 50 = .ok (.invokevirtual 276, 3) := dk_182 1 20 (dk_at dksX5_comesOver_2 2 rfl rfl)
theorem dX5_comesOver_53 : decode cX5_comesOver 53 = .ok (.invokevirtual 279, 3) := dk_182 1 23 (dk_at dksX5_comesOver_2 5 rfl rfl)
theorem dX5_comesOver_56 : decode cX5_comesOver 56 = .ok (.ifCond .eq 32, 3) := dk_153 0 32 (dk_at dksX5_comesOver_2 8 rfl rfl)
theorem dX5_comesOver_59 : decode cX5_comesOver 59 = .ok (.aload_n 0, 1) := dk_42 (dk_at dksX5_comesOver_2 11 rfl rfl)
theorem dX5_comesOver_60 : decode cX5_comesOver 60 = .ok (.iload_n 1, 1) := dk_27 (dk_at dksX5_comesOver_2 12 rfl rfl)
theorem dX5_comesOver_61 : decode cX5_comesOver 61 = .ok (.bipush 10, 2) := dk_16 10 (dk_at dksX5_comesOver_2 13 rfl rfl)
theorem dX5_comesOver_63 : decode cX5_comesOver 63 = .ok (.iconst 1, 1) := dk_4 (dk_at dksX5_comesOver_2 15 rfl rfl)
theorem dX5_comesOver_64 : decode cX5_comesOver 64 = .ok (.invokevirtual 270, 3) := dk_182 1 14 (dk_at dksX5_comesOver_2 16 rfl rfl)
theorem dX5_comesOver_67 : decode cX5_comesOver 67 = .ok (.aload_n 0, 1) := dk_42 (dk_at dksX5_comesOver_2 19 rfl rfl)
theorem dX5_comesOver_68 : decode cX5_comesOver 68 = .ok (.getfield 13, 3) := dk_180 0 13 (dk_at dksX5_comesOver_2 20 rfl rfl)
theorem dX5_comesOver_71 : decode cX5_comesOver 71 = .ok (.sipush 937, 3) := dk_17 3 169 (dk_at dksX5_comesOver_3 0 rfl rfl)
theorem dX5_comesOver_74 : decode cX5_comesOver 74 = .ok (.dup2, 1) := dk_92 (dk_at dksX5_comesOver_3 3 rfl rfl)
theorem dX5_comesOver_75 : decode cX5_comesOver 75 = .ok (.iaload, 1) := dk_46 (dk_at dksX5_comesOver_3 4 rfl rfl)
theorem dX5_comesOver_76 : decode cX5_comesOver 76 = .ok (.bipush 50, 2) := dk_16 50 (dk_at dksX5_comesOver_3 5 rfl rfl)
theorem dX5_comesOver_78 : decode cX5_comesOver 78 = .ok (.iadd, 1) := dk_96 (dk_at dksX5_comesOver_3 7 rfl rfl)
theorem dX5_comesOver_79 : decode cX5_comesOver 79 = .ok (.iastore, 1) := dk_79 (dk_at dksX5_comesOver_3 8 rfl rfl)
theorem dX5_comesOver_80 : decode cX5_comesOver 80 = .ok (.aload_n 0, 1) := dk_42 (dk_at dksX5_comesOver_3 9 rfl rfl)
theorem dX5_comesOver_81 : decode cX5_comesOver 81 = .ok (.iconst 4, 1) := dk_7 (dk_at dksX5_comesOver_3 10 rfl rfl)
theorem dX5_comesOver_82 : decode cX5_comesOver 82 = .ok (.iload_n 1, 1) := dk_27 (dk_at dksX5_comesOver_3 11 rfl rfl)
theorem dX5_comesOver_83 : decode cX5_comesOver 83 = .ok (.bipush 50, 2) := dk_16 50 (dk_at dksX5_comesOver_3 12 rfl rfl)
theorem dX5_comesOver_85 : decode cX5_comesOver 85 = .ok (.invokevirtual 273, 3) := dk_182 1 17 (dk_at dksX5_comesOver_3 14 rfl rfl)
theorem dX5_comesOver_88 : decode cX5_comesOver 88 = .ok (.return_, 1) := dk_177 (dk_at dksX5_comesOver_3 17 rfl rfl)
abbrev cX5_tells : ByteArray := prog_17_method_61_code
def yX5_tells : MethodName := ⟨RX5, "tells", "(II)I"⟩
def dkwX5_tells_8 : List UInt8 := [156, 0, 7, 3, 167, 0, 15, 29, 21, 4, 164, 0, 8, 21, 4, 167, 0, 4, 29, 172]
abbrev dktX5_tells_8 : List UInt8 := dkwX5_tells_8 ++ []
def dkwX5_tells_7 : List UInt8 := [132, 4, 1, 167, 255, 152, 27, 5, 160, 0, 8, 16, 99, 167, 0, 6, 17, 3, 232, 54, 4, 29]
abbrev dktX5_tells_7 : List UInt8 := dkwX5_tells_7 ++ dktX5_tells_8
def dkwX5_tells_6 : List UInt8 := [180, 0, 13, 21, 5, 4, 96, 46, 42, 180, 0, 13, 21, 5, 5, 96, 46, 182, 1, 4, 62, 167, 0, 9]
abbrev dktX5_tells_6 : List UInt8 := dkwX5_tells_6 ++ dktX5_tells_7
def dkwX5_tells_5 : List UInt8 := [6, 96, 46, 42, 180, 0, 13, 21, 5, 7, 96, 46, 182, 1, 4, 154, 0, 6, 167, 0, 29, 42, 42]
abbrev dktX5_tells_5 : List UInt8 := dkwX5_tells_5 ++ dktX5_tells_6
def dkwX5_tells_4 : List UInt8 := [27, 160, 0, 70, 42, 180, 0, 13, 21, 5, 7, 96, 46, 2, 159, 0, 31, 42, 42, 180, 0, 13, 21, 5]
abbrev dktX5_tells_4 : List UInt8 := dkwX5_tells_4 ++ dktX5_tells_5
def dkwX5_tells_3 : List UInt8 := [17, 3, 173, 46, 162, 0, 97, 17, 3, 177, 8, 21, 4, 104, 96, 54, 5, 42, 180, 0, 13, 21, 5, 46]
abbrev dktX5_tells_3 : List UInt8 := dkwX5_tells_3 ++ dktX5_tells_4
def dkwX5_tells_2 : List UInt8 := [46, 104, 167, 0, 12, 16, 10, 42, 180, 0, 35, 4, 46, 100, 62, 3, 54, 4, 21, 4, 42, 180, 0, 13]
abbrev dktX5_tells_2 : List UInt8 := dkwX5_tells_2 ++ dktX5_tells_3
def dkwX5_tells_1 : List UInt8 := [180, 0, 35, 3, 46, 104, 96, 167, 0, 31, 27, 4, 160, 0, 17, 17, 0, 200, 42, 180, 0, 35, 16, 8]
abbrev dktX5_tells_1 : List UInt8 := dkwX5_tells_1 ++ dktX5_tells_2
def dkwX5_tells_0 : List UInt8 := [42, 28, 182, 1, 1, 27, 154, 0, 27, 17, 1, 44, 42, 180, 0, 35, 16, 6, 46, 104, 16, 20, 42]
abbrev dktX5_tells_0 : List UInt8 := dkwX5_tells_0 ++ dktX5_tells_1
theorem dksX5_tells_0 : cX5_tells.data.toList.drop 0 = dktX5_tells_0 := by decide +kernel
theorem dksX5_tells_1 : cX5_tells.data.toList.drop 23 = dktX5_tells_1 := dk_seg dksX5_tells_0 23 rfl rfl
theorem dksX5_tells_2 : cX5_tells.data.toList.drop 47 = dktX5_tells_2 := dk_seg dksX5_tells_1 24 rfl rfl
theorem dksX5_tells_3 : cX5_tells.data.toList.drop 71 = dktX5_tells_3 := dk_seg dksX5_tells_2 24 rfl rfl
theorem dksX5_tells_4 : cX5_tells.data.toList.drop 95 = dktX5_tells_4 := dk_seg dksX5_tells_3 24 rfl rfl
theorem dksX5_tells_5 : cX5_tells.data.toList.drop 119 = dktX5_tells_5 := dk_seg dksX5_tells_4 24 rfl rfl
theorem dksX5_tells_6 : cX5_tells.data.toList.drop 142 = dktX5_tells_6 := dk_seg dksX5_tells_5 23 rfl rfl
theorem dksX5_tells_7 : cX5_tells.data.toList.drop 166 = dktX5_tells_7 := dk_seg dksX5_tells_6 24 rfl rfl
theorem dksX5_tells_8 : cX5_tells.data.toList.drop 188 = dktX5_tells_8 := dk_seg dksX5_tells_7 22 rfl rfl
theorem dX5_tells_0 : decode cX5_tells 0 = .ok (.aload_n 0, 1) := dk_42 (dk_at dksX5_tells_0 0 rfl rfl)
theorem dX5_tells_1 : decode cX5_tells 1 = .ok (.iload_n 2, 1) := dk_28 (dk_at dksX5_tells_0 1 rfl rfl)
theorem dX5_tells_2 : decode cX5_tells 2 = .ok (.invokevirtual 257, 3) := dk_182 1 1 (dk_at dksX5_tells_0 2 rfl rfl)
theorem dX5_tells_5 : decode cX5_tells 5 = .ok (.iload_n 1, 1) := dk_27 (dk_at dksX5_tells_0 5 rfl rfl)
theorem dX5_tells_6 : decode cX5_tells 6 = .ok (.ifCond .ne 27, 3) := dk_154 0 27 (dk_at dksX5_tells_0 6 rfl rfl)
theorem dX5_tells_9 : decode cX5_tells 9 = .ok (.sipush 300, 3) := dk_17 1 44 (dk_at dksX5_tells_0 9 rfl rfl)
theorem dX5_tells_12 : decode cX5_tells 12 = .ok (.aload_n 0, 1) := dk_42 (dk_at dksX5_tells_0 12 rfl rfl)
theorem dX5_tells_13 : decode cX5_tells 13 = .ok (.getfield 35, 3) := dk_180 0 35 (dk_at dksX5_tells_0 13 rfl rfl)
theorem dX5_tells_16 : decode cX5_tells 16 = .ok (.bipush 6, 2) := dk_16 6 (dk_at dksX5_tells_0 16 rfl rfl)
theorem dX5_tells_18 : decode cX5_tells 18 = .ok (.iaload, 1) := dk_46 (dk_at dksX5_tells_0 18 rfl rfl)
theorem dX5_tells_19 : decode cX5_tells 19 = .ok (.imul, 1) := dk_104 (dk_at dksX5_tells_0 19 rfl rfl)
theorem dX5_tells_20 : decode cX5_tells 20 = .ok (.bipush 20, 2) := dk_16 20 (dk_at dksX5_tells_0 20 rfl rfl)
theorem dX5_tells_22 : decode cX5_tells 22 = .ok (.aload_n 0, 1) := dk_42 (dk_at dksX5_tells_0 22 rfl rfl)
theorem dX5_tells_23 : decode cX5_tells 23 = .ok (.getfield 35, 3) := dk_180 0 35 (dk_at dksX5_tells_1 0 rfl rfl)
theorem dX5_tells_26 : decode cX5_tells 26 = .ok (.iconst 0, 1) := dk_3 (dk_at dksX5_tells_1 3 rfl rfl)
theorem dX5_tells_27 : decode cX5_tells 27 = .ok (.iaload, 1) := dk_46 (dk_at dksX5_tells_1 4 rfl rfl)
theorem dX5_tells_28 : decode cX5_tells 28 = .ok (.imul, 1) := dk_104 (dk_at dksX5_tells_1 5 rfl rfl)
theorem dX5_tells_29 : decode cX5_tells 29 = .ok (.iadd, 1) := dk_96 (dk_at dksX5_tells_1 6 rfl rfl)
theorem dX5_tells_30 : decode cX5_tells 30 = .ok (.goto 31, 3) := dk_167 0 31 (dk_at dksX5_tells_1 7 rfl rfl)
theorem dX5_tells_33 : decode cX5_tells 33 = .ok (.iload_n 1, 1) := dk_27 (dk_at dksX5_tells_1 10 rfl rfl)
theorem dX5_tells_34 : decode cX5_tells 34 = .ok (.iconst 1, 1) := dk_4 (dk_at dksX5_tells_1 11 rfl rfl)
theorem dX5_tells_35 : decode cX5_tells 35 = .ok (.if_icmp .ne 17, 3) := dk_160 0 17 (dk_at dksX5_tells_1 12 rfl rfl)
theorem dX5_tells_38 : decode cX5_tells 38 = .ok (.sipush 200, 3) := dk_17 0 200 (dk_at dksX5_tells_1 15 rfl rfl)
theorem dX5_tells_41 : decode cX5_tells 41 = .ok (.aload_n 0, 1) := dk_42 (dk_at dksX5_tells_1 18 rfl rfl)
theorem dX5_tells_42 : decode cX5_tells 42 = .ok (.getfield 35, 3) := dk_180 0 35 (dk_at dksX5_tells_1 19 rfl rfl)
theorem dX5_tells_45 : decode cX5_tells 45 = .ok (.bipush 8, 2) := dk_16 8 (dk_at dksX5_tells_1 22 rfl rfl)
theorem dX5_tells_47 : decode cX5_tells 47 = .ok (.iaload, 1) := dk_46 (dk_at dksX5_tells_2 0 rfl rfl)
theorem dX5_tells_48 : decode cX5_tells 48 = .ok (.imul, 1) := dk_104 (dk_at dksX5_tells_2 1 rfl rfl)
theorem dX5_tells_49 : decode cX5_tells 49 = .ok (.goto 12, 3) := dk_167 0 12 (dk_at dksX5_tells_2 2 rfl rfl)
theorem dX5_tells_52 : decode cX5_tells 52 = .ok (.bipush 10, 2) := dk_16 10 (dk_at dksX5_tells_2 5 rfl rfl)
theorem dX5_tells_54 : decode cX5_tells 54 = .ok (.aload_n 0, 1) := dk_42 (dk_at dksX5_tells_2 7 rfl rfl)
theorem dX5_tells_55 : decode cX5_tells 55 = .ok (.getfield 35, 3) := dk_180 0 35 (dk_at dksX5_tells_2 8 rfl rfl)
theorem dX5_tells_58 : decode cX5_tells 58 = .ok (.iconst 1, 1) := dk_4 (dk_at dksX5_tells_2 11 rfl rfl)
theorem dX5_tells_59 : decode cX5_tells 59 = .ok (.iaload, 1) := dk_46 (dk_at dksX5_tells_2 12 rfl rfl)
theorem dX5_tells_60 : decode cX5_tells 60 = .ok (.isub, 1) := dk_100 (dk_at dksX5_tells_2 13 rfl rfl)
theorem dX5_tells_61 : decode cX5_tells 61 = .ok (.istore_n 3, 1) := dk_62 (dk_at dksX5_tells_2 14 rfl rfl)
theorem dX5_tells_62 : decode cX5_tells 62 = .ok (.iconst 0, 1) := dk_3 (dk_at dksX5_tells_2 15 rfl rfl)
theorem dX5_tells_63 : decode cX5_tells 63 = .ok (.istore 4, 2) := dk_54 4 (dk_at dksX5_tells_2 16 rfl rfl)
theorem dX5_tells_65 : decode cX5_tells 65 = .ok (.iload 4, 2) := dk_21 4 (dk_at dksX5_tells_2 18 rfl rfl)
theorem dX5_tells_67 : decode cX5_tells 67 = .ok (.aload_n 0, 1) := dk_42 (dk_at dksX5_tells_2 20 rfl rfl)
theorem dX5_tells_68 : decode cX5_tells 68 = .ok (.getfield 13, 3) := dk_180 0 13 (dk_at dksX5_tells_2 21 rfl rfl)
theorem dX5_tells_71 : decode cX5_tells 71 = .ok (.sipush 941, 3) := dk_17 3 173 (dk_at dksX5_tells_3 0 rfl rfl)
theorem dX5_tells_74 : decode cX5_tells 74 = .ok (.iaload, 1) := dk_46 (dk_at dksX5_tells_3 3 rfl rfl)
theorem dX5_tells_75 : decode cX5_tells 75 = .ok (.if_icmp .ge 97, 3) := dk_162 0 97 (dk_at dksX5_tells_3 4 rfl rfl)
theorem dX5_tells_78 : decode cX5_tells 78 = .ok (.sipush 945, 3) := dk_17 3 177 (dk_at dksX5_tells_3 7 rfl rfl)
theorem dX5_tells_81 : decode cX5_tells 81 = .ok (.iconst 5, 1) := dk_8 (dk_at dksX5_tells_3 10 rfl rfl)
theorem dX5_tells_82 : decode cX5_tells 82 = .ok (.iload 4, 2) := dk_21 4 (dk_at dksX5_tells_3 11 rfl rfl)
theorem dX5_tells_84 : decode cX5_tells 84 = .ok (.imul, 1) := dk_104 (dk_at dksX5_tells_3 13 rfl rfl)
theorem dX5_tells_85 : decode cX5_tells 85 = .ok (.iadd, 1) := dk_96 (dk_at dksX5_tells_3 14 rfl rfl)
theorem dX5_tells_86 : decode cX5_tells 86 = .ok (.istore 5, 2) := dk_54 5 (dk_at dksX5_tells_3 15 rfl rfl)
theorem dX5_tells_88 : decode cX5_tells 88 = .ok (.aload_n 0, 1) := dk_42 (dk_at dksX5_tells_3 17 rfl rfl)
theorem dX5_tells_89 : decode cX5_tells 89 = .ok (.getfield 13, 3) := dk_180 0 13 (dk_at dksX5_tells_3 18 rfl rfl)
theorem dX5_tells_92 : decode cX5_tells 92 = .ok (.iload 5, 2) := dk_21 5 (dk_at dksX5_tells_3 21 rfl rfl)
theorem dX5_tells_94 : decode cX5_tells 94 = .ok (.iaload, 1) := dk_46 (dk_at dksX5_tells_3 23 rfl rfl)
theorem dX5_tells_95 : decode cX5_tells 95 = .ok (.iload_n 1, 1) := dk_27 (dk_at dksX5_tells_4 0 rfl rfl)
theorem dX5_tells_96 : decode cX5_tells 96 = .ok (.if_icmp .ne 70, 3) := dk_160 0 70 (dk_at dksX5_tells_4 1 rfl rfl)
theorem dX5_tells_99 : decode cX5_tells 99 = .ok (.aload_n 0, 1) := dk_42 (dk_at dksX5_tells_4 4 rfl rfl)
theorem dX5_tells_100 : decode cX5_tells 100 = .ok (.getfield 13, 3) := dk_180 0 13 (dk_at dksX5_tells_4 5 rfl rfl)
theorem dX5_tells_103 : decode cX5_tells 103 = .ok (.iload 5, 2) := dk_21 5 (dk_at dksX5_tells_4 8 rfl rfl)
theorem dX5_tells_105 : decode cX5_tells 105 = .ok (.iconst 4, 1) := dk_7 (dk_at dksX5_tells_4 10 rfl rfl)
theorem dX5_tells_106 : decode cX5_tells 106 = .ok (.iadd, 1) := dk_96 (dk_at dksX5_tells_4 11 rfl rfl)
theorem dX5_tells_107 : decode cX5_tells 107 = .ok (.iaload, 1) := dk_46 (dk_at dksX5_tells_4 12 rfl rfl)
theorem dX5_tells_108 : decode cX5_tells 108 = .ok (.iconst (-1), 1) := dk_2 (dk_at dksX5_tells_4 13 rfl rfl)
theorem dX5_tells_109 : decode cX5_tells 109 = .ok (.if_icmp .eq 31, 3) := dk_159 0 31 (dk_at dksX5_tells_4 14 rfl rfl)
theorem dX5_tells_112 : decode cX5_tells 112 = .ok (.aload_n 0, 1) := dk_42 (dk_at dksX5_tells_4 17 rfl rfl)
theorem dX5_tells_113 : decode cX5_tells 113 = .ok (.aload_n 0, 1) := dk_42 (dk_at dksX5_tells_4 18 rfl rfl)
theorem dX5_tells_114 : decode cX5_tells 114 = .ok (.getfield 13, 3) := dk_180 0 13 (dk_at dksX5_tells_4 19 rfl rfl)
theorem dX5_tells_117 : decode cX5_tells 117 = .ok (.iload 5, 2) := dk_21 5 (dk_at dksX5_tells_4 22 rfl rfl)
theorem dX5_tells_119 : decode cX5_tells 119 = .ok (.iconst 3, 1) := dk_6 (dk_at dksX5_tells_5 0 rfl rfl)
theorem dX5_tells_120 : decode cX5_tells 120 = .ok (.iadd, 1) := dk_96 (dk_at dksX5_tells_5 1 rfl rfl)
theorem dX5_tells_121 : decode cX5_tells 121 = .ok (.iaload, 1) := dk_46 (dk_at dksX5_tells_5 2 rfl rfl)
theorem dX5_tells_122 : decode cX5_tells 122 = .ok (.aload_n 0, 1) := dk_42 (dk_at dksX5_tells_5 3 rfl rfl)
theorem dX5_tells_123 : decode cX5_tells 123 = .ok (.getfield 13, 3) := dk_180 0 13 (dk_at dksX5_tells_5 4 rfl rfl)
theorem dX5_tells_126 : decode cX5_tells 126 = .ok (.iload 5, 2) := dk_21 5 (dk_at dksX5_tells_5 7 rfl rfl)
theorem dX5_tells_128 : decode cX5_tells 128 = .ok (.iconst 4, 1) := dk_7 (dk_at dksX5_tells_5 9 rfl rfl)
theorem dX5_tells_129 : decode cX5_tells 129 = .ok (.iadd, 1) := dk_96 (dk_at dksX5_tells_5 10 rfl rfl)
theorem dX5_tells_130 : decode cX5_tells 130 = .ok (.iaload, 1) := dk_46 (dk_at dksX5_tells_5 11 rfl rfl)
theorem dX5_tells_131 : decode cX5_tells 131 = .ok (.invokevirtual 260, 3) := dk_182 1 4 (dk_at dksX5_tells_5 12 rfl rfl)
theorem dX5_tells_134 : decode cX5_tells 134 = .ok (.ifCond .ne 6, 3) := dk_154 0 6 (dk_at dksX5_tells_5 15 rfl rfl)
theorem dX5_tells_137 : decode cX5_tells 137 = .ok (.goto 29, 3) := dk_167 0 29 (dk_at dksX5_tells_5 18 rfl rfl)
theorem dX5_tells_140 : decode cX5_tells 140 = .ok (.aload_n 0, 1) := dk_42 (dk_at dksX5_tells_5 21 rfl rfl)
theorem dX5_tells_141 : decode cX5_tells 141 = .ok (.aload_n 0, 1) := dk_42 (dk_at dksX5_tells_5 22 rfl rfl)
theorem dX5_tells_142 : decode cX5_tells 142 = .ok (.getfield 13, 3) := dk_180 0 13 (dk_at dksX5_tells_6 0 rfl rfl)
theorem dX5_tells_145 : decode cX5_tells 145 = .ok (.iload 5, 2) := dk_21 5 (dk_at dksX5_tells_6 3 rfl rfl)
theorem dX5_tells_147 : decode cX5_tells 147 = .ok (.iconst 1, 1) := dk_4 (dk_at dksX5_tells_6 5 rfl rfl)
theorem dX5_tells_148 : decode cX5_tells 148 = .ok (.iadd, 1) := dk_96 (dk_at dksX5_tells_6 6 rfl rfl)
theorem dX5_tells_149 : decode cX5_tells 149 = .ok (.iaload, 1) := dk_46 (dk_at dksX5_tells_6 7 rfl rfl)
theorem dX5_tells_150 : decode cX5_tells 150 = .ok (.aload_n 0, 1) := dk_42 (dk_at dksX5_tells_6 8 rfl rfl)
theorem dX5_tells_151 : decode cX5_tells 151 = .ok (.getfield 13, 3) := dk_180 0 13 (dk_at dksX5_tells_6 9 rfl rfl)
theorem dX5_tells_154 : decode cX5_tells 154 = .ok (.iload 5, 2) := dk_21 5 (dk_at dksX5_tells_6 12 rfl rfl)
theorem dX5_tells_156 : decode cX5_tells 156 = .ok (.iconst 2, 1) := dk_5 (dk_at dksX5_tells_6 14 rfl rfl)
theorem dX5_tells_157 : decode cX5_tells 157 = .ok (.iadd, 1) := dk_96 (dk_at dksX5_tells_6 15 rfl rfl)
theorem dX5_tells_158 : decode cX5_tells 158 = .ok (.iaload, 1) := dk_46 (dk_at dksX5_tells_6 16 rfl rfl)
theorem dX5_tells_159 : decode cX5_tells 159 = .ok (.invokevirtual 260, 3) := dk_182 1 4 (dk_at dksX5_tells_6 17 rfl rfl)
theorem dX5_tells_162 : decode cX5_tells 162 = .ok (.istore_n 3, 1) := dk_62 (dk_at dksX5_tells_6 20 rfl rfl)
theorem dX5_tells_163 : decode cX5_tells 163 = .ok (.goto 9, 3) := dk_167 0 9 (dk_at dksX5_tells_6 21 rfl rfl)
theorem dX5_tells_166 : decode cX5_tells 166 = .ok (.iinc 4 1, 3) := dk_132 4 1 (dk_at dksX5_tells_7 0 rfl rfl)
theorem dX5_tells_169 : decode cX5_tells 169 = .ok (.goto (-104), 3) := dk_167 255 152 (dk_at dksX5_tells_7 3 rfl rfl)
theorem dX5_tells_172 : decode cX5_tells 172 = .ok (.iload_n 1, 1) := dk_27 (dk_at dksX5_tells_7 6 rfl rfl)
theorem dX5_tells_173 : decode cX5_tells 173 = .ok (.iconst 2, 1) := dk_5 (dk_at dksX5_tells_7 7 rfl rfl)
theorem dX5_tells_174 : decode cX5_tells 174 = .ok (.if_icmp .ne 8, 3) := dk_160 0 8 (dk_at dksX5_tells_7 8 rfl rfl)
theorem dX5_tells_177 : decode cX5_tells 177 = .ok (.bipush 99, 2) := dk_16 99 (dk_at dksX5_tells_7 11 rfl rfl)
theorem dX5_tells_179 : decode cX5_tells 179 = .ok (.goto 6, 3) := dk_167 0 6 (dk_at dksX5_tells_7 13 rfl rfl)
theorem dX5_tells_182 : decode cX5_tells 182 = .ok (.sipush 1000, 3) := dk_17 3 232 (dk_at dksX5_tells_7 16 rfl rfl)
theorem dX5_tells_185 : decode cX5_tells 185 = .ok (.istore 4, 2) := dk_54 4 (dk_at dksX5_tells_7 19 rfl rfl)
theorem dX5_tells_187 : decode cX5_tells 187 = .ok (.iload_n 3, 1) := dk_29 (dk_at dksX5_tells_7 21 rfl rfl)
theorem dX5_tells_188 : decode cX5_tells 188 = .ok (.ifCond .ge 7, 3) := dk_156 0 7 (dk_at dksX5_tells_8 0 rfl rfl)
theorem dX5_tells_191 : decode cX5_tells 191 = .ok (.iconst 0, 1) := dk_3 (dk_at dksX5_tells_8 3 rfl rfl)
theorem dX5_tells_192 : decode cX5_tells 192 = .ok (.goto 15, 3) := dk_167 0 15 (dk_at dksX5_tells_8 4 rfl rfl)
theorem dX5_tells_195 : decode cX5_tells 195 = .ok (.iload_n 3, 1) := dk_29 (dk_at dksX5_tells_8 7 rfl rfl)
theorem dX5_tells_196 : decode cX5_tells 196 = .ok (.iload 4, 2) := dk_21 4 (dk_at dksX5_tells_8 8 rfl rfl)
theorem dX5_tells_198 : decode cX5_tells 198 = .ok (.if_icmp .le 8, 3) := dk_164 0 8 (dk_at dksX5_tells_8 10 rfl rfl)
theorem dX5_tells_201 : decode cX5_tells 201 = .ok (.iload 4, 2) := dk_21 4 (dk_at dksX5_tells_8 13 rfl rfl)
theorem dX5_tells_203 : decode cX5_tells 203 = .ok (.goto 4, 3) := dk_167 0 4 (dk_at dksX5_tells_8 15 rfl rfl)
theorem dX5_tells_206 : decode cX5_tells 206 = .ok (.iload_n 3, 1) := dk_29 (dk_at dksX5_tells_8 18 rfl rfl)
theorem dX5_tells_207 : decode cX5_tells 207 = .ok (.ireturn, 1) := dk_172 (dk_at dksX5_tells_8 19 rfl rfl)
abbrev cX5_laysFacts : ByteArray := prog_17_method_57_code
def yX5_laysFacts : MethodName := ⟨RX5, "laysFacts", "(I)V"⟩
def dkwX5_laysFacts_6 : List UInt8 := [182, 0, 246, 79, 42, 180, 0, 35, 16, 9, 42, 180, 0, 13, 17, 3, 168, 46, 79, 177]
abbrev dktX5_laysFacts_6 : List UInt8 := dkwX5_laysFacts_6 ++ []
def dkwX5_laysFacts_5 : List UInt8 := [167, 0, 4, 3, 79, 42, 180, 0, 35, 16, 7, 42, 182, 0, 243, 79, 42, 180, 0, 35, 16, 8, 42]
abbrev dktX5_laysFacts_5 : List UInt8 := dkwX5_laysFacts_5 ++ dktX5_laysFacts_6
def dkwX5_laysFacts_4 : List UInt8 := [16, 6, 28, 4, 160, 0, 21, 42, 180, 0, 13, 42, 27, 182, 0, 111, 46, 5, 160, 0, 7, 4]
abbrev dktX5_laysFacts_4 : List UInt8 := dkwX5_laysFacts_4 ++ dktX5_laysFacts_5
def dkwX5_laysFacts_3 : List UInt8 := [182, 0, 104, 104, 79, 42, 180, 0, 35, 8, 28, 42, 27, 7, 182, 0, 104, 104, 79, 42, 180, 0, 35]
abbrev dktX5_laysFacts_3 : List UInt8 := dkwX5_laysFacts_3 ++ dktX5_laysFacts_4
def dkwX5_laysFacts_2 : List UInt8 := [42, 180, 0, 35, 6, 28, 42, 27, 5, 182, 0, 104, 104, 79, 42, 180, 0, 35, 7, 28, 42, 27, 6]
abbrev dktX5_laysFacts_2 : List UInt8 := dkwX5_laysFacts_2 ++ dktX5_laysFacts_3
def dkwX5_laysFacts_1 : List UInt8 := [28, 42, 27, 8, 182, 0, 104, 104, 79, 42, 180, 0, 35, 5, 28, 42, 27, 16, 6, 182, 0, 104, 104, 79]
abbrev dktX5_laysFacts_1 : List UInt8 := dkwX5_laysFacts_1 ++ dktX5_laysFacts_2
def dkwX5_laysFacts_0 : List UInt8 := [42, 27, 4, 182, 0, 104, 61, 42, 180, 0, 35, 3, 42, 27, 3, 182, 0, 104, 79, 42, 180, 0, 35, 4]
abbrev dktX5_laysFacts_0 : List UInt8 := dkwX5_laysFacts_0 ++ dktX5_laysFacts_1
theorem dksX5_laysFacts_0 : cX5_laysFacts.data.toList.drop 0 = dktX5_laysFacts_0 := by decide +kernel
theorem dksX5_laysFacts_1 : cX5_laysFacts.data.toList.drop 24 = dktX5_laysFacts_1 := dk_seg dksX5_laysFacts_0 24 rfl rfl
theorem dksX5_laysFacts_2 : cX5_laysFacts.data.toList.drop 48 = dktX5_laysFacts_2 := dk_seg dksX5_laysFacts_1 24 rfl rfl
theorem dksX5_laysFacts_3 : cX5_laysFacts.data.toList.drop 71 = dktX5_laysFacts_3 := dk_seg dksX5_laysFacts_2 23 rfl rfl
theorem dksX5_laysFacts_4 : cX5_laysFacts.data.toList.drop 94 = dktX5_laysFacts_4 := dk_seg dksX5_laysFacts_3 23 rfl rfl
theorem dksX5_laysFacts_5 : cX5_laysFacts.data.toList.drop 116 = dktX5_laysFacts_5 := dk_seg dksX5_laysFacts_4 22 rfl rfl
theorem dksX5_laysFacts_6 : cX5_laysFacts.data.toList.drop 139 = dktX5_laysFacts_6 := dk_seg dksX5_laysFacts_5 23 rfl rfl
theorem dX5_laysFacts_0 : decode cX5_laysFacts 0 = .ok (.aload_n 0, 1) := dk_42 (dk_at dksX5_laysFacts_0 0 rfl rfl)
theorem dX5_laysFacts_1 : decode cX5_laysFacts 1 = .ok (.iload_n 1, 1) := dk_27 (dk_at dksX5_laysFacts_0 1 rfl rfl)
theorem dX5_laysFacts_2 : decode cX5_laysFacts 2 = .ok (.iconst 1, 1) := dk_4 (dk_at dksX5_laysFacts_0 2 rfl rfl)
theorem dX5_laysFacts_3 : decode cX5_laysFacts 3 = .ok (.invokevirtual 104, 3) := dk_182 0 104 (dk_at dksX5_laysFacts_0 3 rfl rfl)
theorem dX5_laysFacts_6 : decode cX5_laysFacts 6 = .ok (.istore_n 2, 1) := dk_61 (dk_at dksX5_laysFacts_0 6 rfl rfl)
theorem dX5_laysFacts_7 : decode cX5_laysFacts 7 = .ok (.aload_n 0, 1) := dk_42 (dk_at dksX5_laysFacts_0 7 rfl rfl)
theorem dX5_laysFacts_8 : decode cX5_laysFacts 8 = .ok (.getfield 35, 3) := dk_180 0 35 (dk_at dksX5_laysFacts_0 8 rfl rfl)
theorem dX5_laysFacts_11 : decode cX5_laysFacts 11 = .ok (.iconst 0, 1) := dk_3 (dk_at dksX5_laysFacts_0 11 rfl rfl)
theorem dX5_laysFacts_12 : decode cX5_laysFacts 12 = .ok (.aload_n 0, 1) := dk_42 (dk_at dksX5_laysFacts_0 12 rfl rfl)
theorem dX5_laysFacts_13 : decode cX5_laysFacts 13 = .ok (.iload_n 1, 1) := dk_27 (dk_at dksX5_laysFacts_0 13 rfl rfl)
theorem dX5_laysFacts_14 : decode cX5_laysFacts 14 = .ok (.iconst 0, 1) := dk_3 (dk_at dksX5_laysFacts_0 14 rfl rfl)
theorem dX5_laysFacts_15 : decode cX5_laysFacts 15 = .ok (.invokevirtual 104, 3) := dk_182 0 104 (dk_at dksX5_laysFacts_0 15 rfl rfl)
theorem dX5_laysFacts_18 : decode cX5_laysFacts 18 = .ok (.iastore, 1) := dk_79 (dk_at dksX5_laysFacts_0 18 rfl rfl)
theorem dX5_laysFacts_19 : decode cX5_laysFacts 19 = .ok (.aload_n 0, 1) := dk_42 (dk_at dksX5_laysFacts_0 19 rfl rfl)
theorem dX5_laysFacts_20 : decode cX5_laysFacts 20 = .ok (.getfield 35, 3) := dk_180 0 35 (dk_at dksX5_laysFacts_0 20 rfl rfl)
theorem dX5_laysFacts_23 : decode cX5_laysFacts 23 = .ok (.iconst 1, 1) := dk_4 (dk_at dksX5_laysFacts_0 23 rfl rfl)
theorem dX5_laysFacts_24 : decode cX5_laysFacts 24 = .ok (.iload_n 2, 1) := dk_28 (dk_at dksX5_laysFacts_1 0 rfl rfl)
theorem dX5_laysFacts_25 : decode cX5_laysFacts 25 = .ok (.aload_n 0, 1) := dk_42 (dk_at dksX5_laysFacts_1 1 rfl rfl)
theorem dX5_laysFacts_26 : decode cX5_laysFacts 26 = .ok (.iload_n 1, 1) := dk_27 (dk_at dksX5_laysFacts_1 2 rfl rfl)
theorem dX5_laysFacts_27 : decode cX5_laysFacts 27 = .ok (.iconst 5, 1) := dk_8 (dk_at dksX5_laysFacts_1 3 rfl rfl)
theorem dX5_laysFacts_28 : decode cX5_laysFacts 28 = .ok (.invokevirtual 104, 3) := dk_182 0 104 (dk_at dksX5_laysFacts_1 4 rfl rfl)
theorem dX5_laysFacts_31 : decode cX5_laysFacts 31 = .ok (.imul, 1) := dk_104 (dk_at dksX5_laysFacts_1 7 rfl rfl)
theorem dX5_laysFacts_32 : decode cX5_laysFacts 32 = .ok (.iastore, 1) := dk_79 (dk_at dksX5_laysFacts_1 8 rfl rfl)
theorem dX5_laysFacts_33 : decode cX5_laysFacts 33 = .ok (.aload_n 0, 1) := dk_42 (dk_at dksX5_laysFacts_1 9 rfl rfl)
theorem dX5_laysFacts_34 : decode cX5_laysFacts 34 = .ok (.getfield 35, 3) := dk_180 0 35 (dk_at dksX5_laysFacts_1 10 rfl rfl)
theorem dX5_laysFacts_37 : decode cX5_laysFacts 37 = .ok (.iconst 2, 1) := dk_5 (dk_at dksX5_laysFacts_1 13 rfl rfl)
theorem dX5_laysFacts_38 : decode cX5_laysFacts 38 = .ok (.iload_n 2, 1) := dk_28 (dk_at dksX5_laysFacts_1 14 rfl rfl)
theorem dX5_laysFacts_39 : decode cX5_laysFacts 39 = .ok (.aload_n 0, 1) := dk_42 (dk_at dksX5_laysFacts_1 15 rfl rfl)
theorem dX5_laysFacts_40 : decode cX5_laysFacts 40 = .ok (.iload_n 1, 1) := dk_27 (dk_at dksX5_laysFacts_1 16 rfl rfl)
theorem dX5_laysFacts_41 : decode cX5_laysFacts 41 = .ok (.bipush 6, 2) := dk_16 6 (dk_at dksX5_laysFacts_1 17 rfl rfl)
theorem dX5_laysFacts_43 : decode cX5_laysFacts 43 = .ok (.invokevirtual 104, 3) := dk_182 0 104 (dk_at dksX5_laysFacts_1 19 rfl rfl)
theorem dX5_laysFacts_46 : decode cX5_laysFacts 46 = .ok (.imul, 1) := dk_104 (dk_at dksX5_laysFacts_1 22 rfl rfl)
theorem dX5_laysFacts_47 : decode cX5_laysFacts 47 = .ok (.iastore, 1) := dk_79 (dk_at dksX5_laysFacts_1 23 rfl rfl)
theorem dX5_laysFacts_48 : decode cX5_laysFacts 48 = .ok (.aload_n 0, 1) := dk_42 (dk_at dksX5_laysFacts_2 0 rfl rfl)
theorem dX5_laysFacts_49 : decode cX5_laysFacts 49 = .ok (.getfield 35, 3) := dk_180 0 35 (dk_at dksX5_laysFacts_2 1 rfl rfl)
theorem dX5_laysFacts_52 : decode cX5_laysFacts 52 = .ok (.iconst 3, 1) := dk_6 (dk_at dksX5_laysFacts_2 4 rfl rfl)
theorem dX5_laysFacts_53 : decode cX5_laysFacts 53 = .ok (.iload_n 2, 1) := dk_28 (dk_at dksX5_laysFacts_2 5 rfl rfl)
theorem dX5_laysFacts_54 : decode cX5_laysFacts 54 = .ok (.aload_n 0, 1) := dk_42 (dk_at dksX5_laysFacts_2 6 rfl rfl)
theorem dX5_laysFacts_55 : decode cX5_laysFacts 55 = .ok (.iload_n 1, 1) := dk_27 (dk_at dksX5_laysFacts_2 7 rfl rfl)
theorem dX5_laysFacts_56 : decode cX5_laysFacts 56 = .ok (.iconst 2, 1) := dk_5 (dk_at dksX5_laysFacts_2 8 rfl rfl)
theorem dX5_laysFacts_57 : decode cX5_laysFacts 57 = .ok (.invokevirtual 104, 3) := dk_182 0 104 (dk_at dksX5_laysFacts_2 9 rfl rfl)
theorem dX5_laysFacts_60 : decode cX5_laysFacts 60 = .ok (.imul, 1) := dk_104 (dk_at dksX5_laysFacts_2 12 rfl rfl)
theorem dX5_laysFacts_61 : decode cX5_laysFacts 61 = .ok (.iastore, 1) := dk_79 (dk_at dksX5_laysFacts_2 13 rfl rfl)
theorem dX5_laysFacts_62 : decode cX5_laysFacts 62 = .ok (.aload_n 0, 1) := dk_42 (dk_at dksX5_laysFacts_2 14 rfl rfl)
theorem dX5_laysFacts_63 : decode cX5_laysFacts 63 = .ok (.getfield 35, 3) := dk_180 0 35 (dk_at dksX5_laysFacts_2 15 rfl rfl)
theorem dX5_laysFacts_66 : decode cX5_laysFacts 66 = .ok (.iconst 4, 1) := dk_7 (dk_at dksX5_laysFacts_2 18 rfl rfl)
theorem dX5_laysFacts_67 : decode cX5_laysFacts 67 = .ok (.iload_n 2, 1) := dk_28 (dk_at dksX5_laysFacts_2 19 rfl rfl)
theorem dX5_laysFacts_68 : decode cX5_laysFacts 68 = .ok (.aload_n 0, 1) := dk_42 (dk_at dksX5_laysFacts_2 20 rfl rfl)
theorem dX5_laysFacts_69 : decode cX5_laysFacts 69 = .ok (.iload_n 1, 1) := dk_27 (dk_at dksX5_laysFacts_2 21 rfl rfl)
theorem dX5_laysFacts_70 : decode cX5_laysFacts 70 = .ok (.iconst 3, 1) := dk_6 (dk_at dksX5_laysFacts_2 22 rfl rfl)
theorem dX5_laysFacts_71 : decode cX5_laysFacts 71 = .ok (.invokevirtual 104, 3) := dk_182 0 104 (dk_at dksX5_laysFacts_3 0 rfl rfl)
theorem dX5_laysFacts_74 : decode cX5_laysFacts 74 = .ok (.imul, 1) := dk_104 (dk_at dksX5_laysFacts_3 3 rfl rfl)
theorem dX5_laysFacts_75 : decode cX5_laysFacts 75 = .ok (.iastore, 1) := dk_79 (dk_at dksX5_laysFacts_3 4 rfl rfl)
theorem dX5_laysFacts_76 : decode cX5_laysFacts 76 = .ok (.aload_n 0, 1) := dk_42 (dk_at dksX5_laysFacts_3 5 rfl rfl)
theorem dX5_laysFacts_77 : decode cX5_laysFacts 77 = .ok (.getfield 35, 3) := dk_180 0 35 (dk_at dksX5_laysFacts_3 6 rfl rfl)
theorem dX5_laysFacts_80 : decode cX5_laysFacts 80 = .ok (.iconst 5, 1) := dk_8 (dk_at dksX5_laysFacts_3 9 rfl rfl)
theorem dX5_laysFacts_81 : decode cX5_laysFacts 81 = .ok (.iload_n 2, 1) := dk_28 (dk_at dksX5_laysFacts_3 10 rfl rfl)
theorem dX5_laysFacts_82 : decode cX5_laysFacts 82 = .ok (.aload_n 0, 1) := dk_42 (dk_at dksX5_laysFacts_3 11 rfl rfl)
theorem dX5_laysFacts_83 : decode cX5_laysFacts 83 = .ok (.iload_n 1, 1) := dk_27 (dk_at dksX5_laysFacts_3 12 rfl rfl)
theorem dX5_laysFacts_84 : decode cX5_laysFacts 84 = .ok (.iconst 4, 1) := dk_7 (dk_at dksX5_laysFacts_3 13 rfl rfl)
theorem dX5_laysFacts_85 : decode cX5_laysFacts 85 = .ok (.invokevirtual 104, 3) := dk_182 0 104 (dk_at dksX5_laysFacts_3 14 rfl rfl)
theorem dX5_laysFacts_88 : decode cX5_laysFacts 88 = .ok (.imul, 1) := dk_104 (dk_at dksX5_laysFacts_3 17 rfl rfl)
theorem dX5_laysFacts_89 : decode cX5_laysFacts 89 = .ok (.iastore, 1) := dk_79 (dk_at dksX5_laysFacts_3 18 rfl rfl)
theorem dX5_laysFacts_90 : decode cX5_laysFacts 90 = .ok (.aload_n 0, 1) := dk_42 (dk_at dksX5_laysFacts_3 19 rfl rfl)
theorem dX5_laysFacts_91 : decode cX5_laysFacts 91 = .ok (.getfield 35, 3) := dk_180 0 35 (dk_at dksX5_laysFacts_3 20 rfl rfl)
theorem dX5_laysFacts_94 : decode cX5_laysFacts 94 = .ok (.bipush 6, 2) := dk_16 6 (dk_at dksX5_laysFacts_4 0 rfl rfl)
theorem dX5_laysFacts_96 : decode cX5_laysFacts 96 = .ok (.iload_n 2, 1) := dk_28 (dk_at dksX5_laysFacts_4 2 rfl rfl)
theorem dX5_laysFacts_97 : decode cX5_laysFacts 97 = .ok (.iconst 1, 1) := dk_4 (dk_at dksX5_laysFacts_4 3 rfl rfl)
theorem dX5_laysFacts_98 : decode cX5_laysFacts 98 = .ok (.if_icmp .ne 21, 3) := dk_160 0 21 (dk_at dksX5_laysFacts_4 4 rfl rfl)
theorem dX5_laysFacts_101 : decode cX5_laysFacts 101 = .ok (.aload_n 0, 1) := dk_42 (dk_at dksX5_laysFacts_4 7 rfl rfl)
theorem dX5_laysFacts_102 : decode cX5_laysFacts 102 = .ok (.getfield 13, 3) := dk_180 0 13 (dk_at dksX5_laysFacts_4 8 rfl rfl)
theorem dX5_laysFacts_105 : decode cX5_laysFacts 105 = .ok (.aload_n 0, 1) := dk_42 (dk_at dksX5_laysFacts_4 11 rfl rfl)
theorem dX5_laysFacts_106 : decode cX5_laysFacts 106 = .ok (.iload_n 1, 1) := dk_27 (dk_at dksX5_laysFacts_4 12 rfl rfl)
theorem dX5_laysFacts_107 : decode cX5_laysFacts 107 = .ok (.invokevirtual 111, 3) := dk_182 0 111 (dk_at dksX5_laysFacts_4 13 rfl rfl)
theorem dX5_laysFacts_110 : decode cX5_laysFacts 110 = .ok (.iaload, 1) := dk_46 (dk_at dksX5_laysFacts_4 16 rfl rfl)
theorem dX5_laysFacts_111 : decode cX5_laysFacts 111 = .ok (.iconst 2, 1) := dk_5 (dk_at dksX5_laysFacts_4 17 rfl rfl)
theorem dX5_laysFacts_112 : decode cX5_laysFacts 112 = .ok (.if_icmp .ne 7, 3) := dk_160 0 7 (dk_at dksX5_laysFacts_4 18 rfl rfl)
theorem dX5_laysFacts_115 : decode cX5_laysFacts 115 = .ok (.iconst 1, 1) := dk_4 (dk_at dksX5_laysFacts_4 21 rfl rfl)
theorem dX5_laysFacts_116 : decode cX5_laysFacts 116 = .ok (.goto 4, 3) := dk_167 0 4 (dk_at dksX5_laysFacts_5 0 rfl rfl)
theorem dX5_laysFacts_119 : decode cX5_laysFacts 119 = .ok (.iconst 0, 1) := dk_3 (dk_at dksX5_laysFacts_5 3 rfl rfl)
theorem dX5_laysFacts_120 : decode cX5_laysFacts 120 = .ok (.iastore, 1) := dk_79 (dk_at dksX5_laysFacts_5 4 rfl rfl)
theorem dX5_laysFacts_121 : decode cX5_laysFacts 121 = .ok (.aload_n 0, 1) := dk_42 (dk_at dksX5_laysFacts_5 5 rfl rfl)
theorem dX5_laysFacts_122 : decode cX5_laysFacts 122 = .ok (.getfield 35, 3) := dk_180 0 35 (dk_at dksX5_laysFacts_5 6 rfl rfl)
theorem dX5_laysFacts_125 : decode cX5_laysFacts 125 = .ok (.bipush 7, 2) := dk_16 7 (dk_at dksX5_laysFacts_5 9 rfl rfl)
theorem dX5_laysFacts_127 : decode cX5_laysFacts 127 = .ok (.aload_n 0, 1) := dk_42 (dk_at dksX5_laysFacts_5 11 rfl rfl)
theorem dX5_laysFacts_128 : decode cX5_laysFacts 128 = .ok (.invokevirtual 243, 3) := dk_182 0 243 (dk_at dksX5_laysFacts_5 12 rfl rfl)
theorem dX5_laysFacts_131 : decode cX5_laysFacts 131 = .ok (.iastore, 1) := dk_79 (dk_at dksX5_laysFacts_5 15 rfl rfl)
theorem dX5_laysFacts_132 : decode cX5_laysFacts 132 = .ok (.aload_n 0, 1) := dk_42 (dk_at dksX5_laysFacts_5 16 rfl rfl)
theorem dX5_laysFacts_133 : decode cX5_laysFacts 133 = .ok (.getfield 35, 3) := dk_180 0 35 (dk_at dksX5_laysFacts_5 17 rfl rfl)
theorem dX5_laysFacts_136 : decode cX5_laysFacts 136 = .ok (.bipush 8, 2) := dk_16 8 (dk_at dksX5_laysFacts_5 20 rfl rfl)
theorem dX5_laysFacts_138 : decode cX5_laysFacts 138 = .ok (.aload_n 0, 1) := dk_42 (dk_at dksX5_laysFacts_5 22 rfl rfl)
theorem dX5_laysFacts_139 : decode cX5_laysFacts 139 = .ok (.invokevirtual 246, 3) := dk_182 0 246 (dk_at dksX5_laysFacts_6 0 rfl rfl)
theorem dX5_laysFacts_142 : decode cX5_laysFacts 142 = .ok (.iastore, 1) := dk_79 (dk_at dksX5_laysFacts_6 3 rfl rfl)
theorem dX5_laysFacts_143 : decode cX5_laysFacts 143 = .ok (.aload_n 0, 1) := dk_42 (dk_at dksX5_laysFacts_6 4 rfl rfl)
theorem dX5_laysFacts_144 : decode cX5_laysFacts 144 = .ok (.getfield 35, 3) := dk_180 0 35 (dk_at dksX5_laysFacts_6 5 rfl rfl)
theorem dX5_laysFacts_147 : decode cX5_laysFacts 147 = .ok (.bipush 9, 2) := dk_16 9 (dk_at dksX5_laysFacts_6 8 rfl rfl)
theorem dX5_laysFacts_149 : decode cX5_laysFacts 149 = .ok (.aload_n 0, 1) := dk_42 (dk_at dksX5_laysFacts_6 10 rfl rfl)
theorem dX5_laysFacts_150 : decode cX5_laysFacts 150 = .ok (.getfield 13, 3) := dk_180 0 13 (dk_at dksX5_laysFacts_6 11 rfl rfl)
theorem dX5_laysFacts_153 : decode cX5_laysFacts 153 = .ok (.sipush 936, 3) := dk_17 3 168 (dk_at dksX5_laysFacts_6 14 rfl rfl)
theorem dX5_laysFacts_156 : decode cX5_laysFacts 156 = .ok (.iaload, 1) := dk_46 (dk_at dksX5_laysFacts_6 17 rfl rfl)
theorem dX5_laysFacts_157 : decode cX5_laysFacts 157 = .ok (.iastore, 1) := dk_79 (dk_at dksX5_laysFacts_6 18 rfl rfl)
theorem dX5_laysFacts_158 : decode cX5_laysFacts 158 = .ok (.return_, 1) := dk_177 (dk_at dksX5_laysFacts_6 19 rfl rfl)
abbrev cX5_inside : ByteArray := prog_17_method_56_code
def yX5_inside : MethodName := ⟨RX5, "inside", "()I"⟩
def dkwX5_inside_1 : List UInt8 := [60, 132, 2, 1, 167, 255, 232, 27, 172]
abbrev dktX5_inside_1 : List UInt8 := dkwX5_inside_1 ++ []
def dkwX5_inside_0 : List UInt8 := [3, 60, 3, 61, 28, 42, 180, 0, 13, 17, 3, 172, 46, 162, 0, 18, 27, 42, 28, 4, 182, 0, 104, 96]
abbrev dktX5_inside_0 : List UInt8 := dkwX5_inside_0 ++ dktX5_inside_1
theorem dksX5_inside_0 : cX5_inside.data.toList.drop 0 = dktX5_inside_0 := by decide +kernel
theorem dksX5_inside_1 : cX5_inside.data.toList.drop 24 = dktX5_inside_1 := dk_seg dksX5_inside_0 24 rfl rfl
theorem dX5_inside_0 : decode cX5_inside 0 = .ok (.iconst 0, 1) := dk_3 (dk_at dksX5_inside_0 0 rfl rfl)
theorem dX5_inside_1 : decode cX5_inside 1 = .ok (.istore_n 1, 1) := dk_60 (dk_at dksX5_inside_0 1 rfl rfl)
theorem dX5_inside_2 : decode cX5_inside 2 = .ok (.iconst 0, 1) := dk_3 (dk_at dksX5_inside_0 2 rfl rfl)
theorem dX5_inside_3 : decode cX5_inside 3 = .ok (.istore_n 2, 1) := dk_61 (dk_at dksX5_inside_0 3 rfl rfl)
theorem dX5_inside_4 : decode cX5_inside 4 = .ok (.iload_n 2, 1) := dk_28 (dk_at dksX5_inside_0 4 rfl rfl)
theorem dX5_inside_5 : decode cX5_inside 5 = .ok (.aload_n 0, 1) := dk_42 (dk_at dksX5_inside_0 5 rfl rfl)
theorem dX5_inside_6 : decode cX5_inside 6 = .ok (.getfield 13, 3) := dk_180 0 13 (dk_at dksX5_inside_0 6 rfl rfl)
theorem dX5_inside_9 : decode cX5_inside 9 = .ok (.sipush 940, 3) := dk_17 3 172 (dk_at dksX5_inside_0 9 rfl rfl)
theorem dX5_inside_12 : decode cX5_inside 12 = .ok (.iaload, 1) := dk_46 (dk_at dksX5_inside_0 12 rfl rfl)
theorem dX5_inside_13 : decode cX5_inside 13 = .ok (.if_icmp .ge 18, 3) := dk_162 0 18 (dk_at dksX5_inside_0 13 rfl rfl)
theorem dX5_inside_16 : decode cX5_inside 16 = .ok (.iload_n 1, 1) := dk_27 (dk_at dksX5_inside_0 16 rfl rfl)
theorem dX5_inside_17 : decode cX5_inside 17 = .ok (.aload_n 0, 1) := dk_42 (dk_at dksX5_inside_0 17 rfl rfl)
theorem dX5_inside_18 : decode cX5_inside 18 = .ok (.iload_n 2, 1) := dk_28 (dk_at dksX5_inside_0 18 rfl rfl)
theorem dX5_inside_19 : decode cX5_inside 19 = .ok (.iconst 1, 1) := dk_4 (dk_at dksX5_inside_0 19 rfl rfl)
theorem dX5_inside_20 : decode cX5_inside 20 = .ok (.invokevirtual 104, 3) := dk_182 0 104 (dk_at dksX5_inside_0 20 rfl rfl)
theorem dX5_inside_23 : decode cX5_inside 23 = .ok (.iadd, 1) := dk_96 (dk_at dksX5_inside_0 23 rfl rfl)
theorem dX5_inside_24 : decode cX5_inside 24 = .ok (.istore_n 1, 1) := dk_60 (dk_at dksX5_inside_1 0 rfl rfl)
theorem dX5_inside_25 : decode cX5_inside 25 = .ok (.iinc 2 1, 3) := dk_132 2 1 (dk_at dksX5_inside_1 1 rfl rfl)
theorem dX5_inside_28 : decode cX5_inside 28 = .ok (.goto (-24), 3) := dk_167 255 232 (dk_at dksX5_inside_1 4 rfl rfl)
theorem dX5_inside_31 : decode cX5_inside 31 = .ok (.iload_n 1, 1) := dk_27 (dk_at dksX5_inside_1 7 rfl rfl)
theorem dX5_inside_32 : decode cX5_inside 32 = .ok (.ireturn, 1) := dk_172 (dk_at dksX5_inside_1 8 rfl rfl)
abbrev cX5_watchNow : ByteArray := prog_17_method_55_code
def yX5_watchNow : MethodName := ⟨RX5, "watchNow", "()I"⟩
def dkwX5_watchNow_2 : List UInt8 := [104, 96, 4, 96, 46, 60, 132, 2, 1, 167, 255, 203, 27, 172]
abbrev dktX5_watchNow_2 : List UInt8 := dkwX5_watchNow_2 ++ []
def dkwX5_watchNow_1 : List UInt8 := [28, 104, 96, 46, 42, 180, 0, 13, 17, 3, 168, 46, 163, 0, 18, 42, 180, 0, 13, 17, 9, 21, 5, 28]
abbrev dktX5_watchNow_1 : List UInt8 := dkwX5_watchNow_1 ++ dktX5_watchNow_2
def dkwX5_watchNow_0 : List UInt8 := [3, 60, 3, 61, 28, 42, 180, 0, 13, 17, 3, 176, 46, 162, 0, 47, 42, 180, 0, 13, 17, 9, 21, 5]
abbrev dktX5_watchNow_0 : List UInt8 := dkwX5_watchNow_0 ++ dktX5_watchNow_1
theorem dksX5_watchNow_0 : cX5_watchNow.data.toList.drop 0 = dktX5_watchNow_0 := by decide +kernel
theorem dksX5_watchNow_1 : cX5_watchNow.data.toList.drop 24 = dktX5_watchNow_1 := dk_seg dksX5_watchNow_0 24 rfl rfl
theorem dksX5_watchNow_2 : cX5_watchNow.data.toList.drop 48 = dktX5_watchNow_2 := dk_seg dksX5_watchNow_1 24 rfl rfl
theorem dX5_watchNow_0 : decode cX5_watchNow 0 = .ok (.iconst 0, 1) := dk_3 (dk_at dksX5_watchNow_0 0 rfl rfl)
theorem dX5_watchNow_1 : decode cX5_watchNow 1 = .ok (.istore_n 1, 1) := dk_60 (dk_at dksX5_watchNow_0 1 rfl rfl)
theorem dX5_watchNow_2 : decode cX5_watchNow 2 = .ok (.iconst 0, 1) := dk_3 (dk_at dksX5_watchNow_0 2 rfl rfl)
theorem dX5_watchNow_3 : decode cX5_watchNow 3 = .ok (.istore_n 2, 1) := dk_61 (dk_at dksX5_watchNow_0 3 rfl rfl)
theorem dX5_watchNow_4 : decode cX5_watchNow 4 = .ok (.iload_n 2, 1) := dk_28 (dk_at dksX5_watchNow_0 4 rfl rfl)
theorem dX5_watchNow_5 : decode cX5_watchNow 5 = .ok (.aload_n 0, 1) := dk_42 (dk_at dksX5_watchNow_0 5 rfl rfl)
theorem dX5_watchNow_6 : decode cX5_watchNow 6 = .ok (.getfield 13, 3) := dk_180 0 13 (dk_at dksX5_watchNow_0 6 rfl rfl)
theorem dX5_watchNow_9 : decode cX5_watchNow 9 = .ok (.sipush 944, 3) := dk_17 3 176 (dk_at dksX5_watchNow_0 9 rfl rfl)
theorem dX5_watchNow_12 : decode cX5_watchNow 12 = .ok (.iaload, 1) := dk_46 (dk_at dksX5_watchNow_0 12 rfl rfl)
theorem dX5_watchNow_13 : decode cX5_watchNow 13 = .ok (.if_icmp .ge 47, 3) := dk_162 0 47 (dk_at dksX5_watchNow_0 13 rfl rfl)
theorem dX5_watchNow_16 : decode cX5_watchNow 16 = .ok (.aload_n 0, 1) := dk_42 (dk_at dksX5_watchNow_0 16 rfl rfl)
theorem dX5_watchNow_17 : decode cX5_watchNow 17 = .ok (.getfield 13, 3) := dk_180 0 13 (dk_at dksX5_watchNow_0 17 rfl rfl)
theorem dX5_watchNow_20 : decode cX5_watchNow 20 = .ok (.sipush 2325, 3) := dk_17 9 21 (dk_at dksX5_watchNow_0 20 rfl rfl)
theorem dX5_watchNow_23 : decode cX5_watchNow 23 = .ok (.iconst 2, 1) := dk_5 (dk_at dksX5_watchNow_0 23 rfl rfl)
theorem dX5_watchNow_24 : decode cX5_watchNow 24 = .ok (.iload_n 2, 1) := dk_28 (dk_at dksX5_watchNow_1 0 rfl rfl)
theorem dX5_watchNow_25 : decode cX5_watchNow 25 = .ok (.imul, 1) := dk_104 (dk_at dksX5_watchNow_1 1 rfl rfl)
theorem dX5_watchNow_26 : decode cX5_watchNow 26 = .ok (.iadd, 1) := dk_96 (dk_at dksX5_watchNow_1 2 rfl rfl)
theorem dX5_watchNow_27 : decode cX5_watchNow 27 = .ok (.iaload, 1) := dk_46 (dk_at dksX5_watchNow_1 3 rfl rfl)
theorem dX5_watchNow_28 : decode cX5_watchNow 28 = .ok (.aload_n 0, 1) := dk_42 (dk_at dksX5_watchNow_1 4 rfl rfl)
theorem dX5_watchNow_29 : decode cX5_watchNow 29 = .ok (.getfield 13, 3) := dk_180 0 13 (dk_at dksX5_watchNow_1 5 rfl rfl)
theorem dX5_watchNow_32 : decode cX5_watchNow 32 = .ok (.sipush 936, 3) := dk_17 3 168 (dk_at dksX5_watchNow_1 8 rfl rfl)
theorem dX5_watchNow_35 : decode cX5_watchNow 35 = .ok (.iaload, 1) := dk_46 (dk_at dksX5_watchNow_1 11 rfl rfl)
theorem dX5_watchNow_36 : decode cX5_watchNow 36 = .ok (.if_icmp .gt 18, 3) := dk_163 0 18 (dk_at dksX5_watchNow_1 12 rfl rfl)
theorem dX5_watchNow_39 : decode cX5_watchNow 39 = .ok (.aload_n 0, 1) := dk_42 (dk_at dksX5_watchNow_1 15 rfl rfl)
theorem dX5_watchNow_40 : decode cX5_watchNow 40 = .ok (.getfield 13, 3) := dk_180 0 13 (dk_at dksX5_watchNow_1 16 rfl rfl)
theorem dX5_watchNow_43 : decode cX5_watchNow 43 = .ok (.sipush 2325, 3) := dk_17 9 21 (dk_at dksX5_watchNow_1 19 rfl rfl)
theorem dX5_watchNow_46 : decode cX5_watchNow 46 = .ok (.iconst 2, 1) := dk_5 (dk_at dksX5_watchNow_1 22 rfl rfl)
theorem dX5_watchNow_47 : decode cX5_watchNow 47 = .ok (.iload_n 2, 1) := dk_28 (dk_at dksX5_watchNow_1 23 rfl rfl)
theorem dX5_watchNow_48 : decode cX5_watchNow 48 = .ok (.imul, 1) := dk_104 (dk_at dksX5_watchNow_2 0 rfl rfl)
theorem dX5_watchNow_49 : decode cX5_watchNow 49 = .ok (.iadd, 1) := dk_96 (dk_at dksX5_watchNow_2 1 rfl rfl)
theorem dX5_watchNow_50 : decode cX5_watchNow 50 = .ok (.iconst 1, 1) := dk_4 (dk_at dksX5_watchNow_2 2 rfl rfl)
theorem dX5_watchNow_51 : decode cX5_watchNow 51 = .ok (.iadd, 1) := dk_96 (dk_at dksX5_watchNow_2 3 rfl rfl)
theorem dX5_watchNow_52 : decode cX5_watchNow 52 = .ok (.iaload, 1) := dk_46 (dk_at dksX5_watchNow_2 4 rfl rfl)
theorem dX5_watchNow_53 : decode cX5_watchNow 53 = .ok (.istore_n 1, 1) := dk_60 (dk_at dksX5_watchNow_2 5 rfl rfl)
theorem dX5_watchNow_54 : decode cX5_watchNow 54 = .ok (.iinc 2 1, 3) := dk_132 2 1 (dk_at dksX5_watchNow_2 6 rfl rfl)
theorem dX5_watchNow_57 : decode cX5_watchNow 57 = .ok (.goto (-53), 3) := dk_167 255 203 (dk_at dksX5_watchNow_2 9 rfl rfl)
theorem dX5_watchNow_60 : decode cX5_watchNow 60 = .ok (.iload_n 1, 1) := dk_27 (dk_at dksX5_watchNow_2 12 rfl rfl)
theorem dX5_watchNow_61 : decode cX5_watchNow 61 = .ok (.ireturn, 1) := dk_172 (dk_at dksX5_watchNow_2 13 rfl rfl)
abbrev cX5_comesTo : ByteArray := prog_17_method_60_code
def yX5_comesTo : MethodName := ⟨RX5, "comesTo", "(II)I"⟩
def dkwX5_comesTo_7 : List UInt8 := [42, 180, 0, 38, 3, 46, 172]
abbrev dktX5_comesTo_7 : List UInt8 := dkwX5_comesTo_7 ++ []
def dkwX5_comesTo_6 : List UInt8 := [42, 180, 0, 38, 29, 4, 100, 46, 42, 180, 0, 38, 29, 46, 184, 0, 253, 79, 132, 4, 1, 167, 255, 100]
abbrev dktX5_comesTo_6 : List UInt8 := dkwX5_comesTo_6 ++ dktX5_comesTo_7
def dkwX5_comesTo_5 : List UInt8 := [180, 0, 38, 29, 4, 100, 46, 100, 79, 167, 0, 33, 132, 3, 255, 42, 180, 0, 38, 29, 4, 100, 21, 5]
abbrev dktX5_comesTo_5 : List UInt8 := dkwX5_comesTo_5 ++ dktX5_comesTo_6
def dkwX5_comesTo_4 : List UInt8 := [21, 6, 108, 79, 167, 0, 61, 21, 5, 16, 9, 160, 0, 24, 42, 180, 0, 38, 29, 4, 100, 4, 42]
abbrev dktX5_comesTo_4 : List UInt8 := dkwX5_comesTo_4 ++ dktX5_comesTo_5
def dkwX5_comesTo_3 : List UInt8 := [46, 79, 132, 3, 1, 167, 0, 83, 21, 5, 8, 160, 0, 19, 42, 180, 0, 38, 29, 4, 100, 92, 46]
abbrev dktX5_comesTo_3 : List UInt8 := dkwX5_comesTo_3 ++ dktX5_comesTo_4
def dkwX5_comesTo_2 : List UInt8 := [163, 0, 32, 42, 180, 0, 38, 29, 21, 5, 154, 0, 8, 21, 6, 167, 0, 10, 42, 180, 0, 35, 21, 6]
abbrev dktX5_comesTo_2 : List UInt8 := dkwX5_comesTo_2 ++ dktX5_comesTo_3
def dkwX5_comesTo_1 : List UInt8 := [54, 5, 42, 180, 0, 13, 17, 4, 1, 5, 21, 4, 104, 96, 4, 96, 46, 54, 6, 21, 5, 4]
abbrev dktX5_comesTo_1 : List UInt8 := dkwX5_comesTo_1 ++ dktX5_comesTo_2
def dkwX5_comesTo_0 : List UInt8 := [3, 62, 27, 54, 4, 21, 4, 28, 162, 0, 156, 42, 180, 0, 13, 17, 4, 1, 5, 21, 4, 104, 96, 46]
abbrev dktX5_comesTo_0 : List UInt8 := dkwX5_comesTo_0 ++ dktX5_comesTo_1
theorem dksX5_comesTo_0 : cX5_comesTo.data.toList.drop 0 = dktX5_comesTo_0 := by decide +kernel
theorem dksX5_comesTo_1 : cX5_comesTo.data.toList.drop 24 = dktX5_comesTo_1 := dk_seg dksX5_comesTo_0 24 rfl rfl
theorem dksX5_comesTo_2 : cX5_comesTo.data.toList.drop 46 = dktX5_comesTo_2 := dk_seg dksX5_comesTo_1 22 rfl rfl
theorem dksX5_comesTo_3 : cX5_comesTo.data.toList.drop 70 = dktX5_comesTo_3 := dk_seg dksX5_comesTo_2 24 rfl rfl
theorem dksX5_comesTo_4 : cX5_comesTo.data.toList.drop 93 = dktX5_comesTo_4 := dk_seg dksX5_comesTo_3 23 rfl rfl
theorem dksX5_comesTo_5 : cX5_comesTo.data.toList.drop 116 = dktX5_comesTo_5 := dk_seg dksX5_comesTo_4 23 rfl rfl
theorem dksX5_comesTo_6 : cX5_comesTo.data.toList.drop 140 = dktX5_comesTo_6 := dk_seg dksX5_comesTo_5 24 rfl rfl
theorem dksX5_comesTo_7 : cX5_comesTo.data.toList.drop 164 = dktX5_comesTo_7 := dk_seg dksX5_comesTo_6 24 rfl rfl
theorem dX5_comesTo_0 : decode cX5_comesTo 0 = .ok (.iconst 0, 1) := dk_3 (dk_at dksX5_comesTo_0 0 rfl rfl)
theorem dX5_comesTo_1 : decode cX5_comesTo 1 = .ok (.istore_n 3, 1) := dk_62 (dk_at dksX5_comesTo_0 1 rfl rfl)
theorem dX5_comesTo_2 : decode cX5_comesTo 2 = .ok (.iload_n 1, 1) := dk_27 (dk_at dksX5_comesTo_0 2 rfl rfl)
theorem dX5_comesTo_3 : decode cX5_comesTo 3 = .ok (.istore 4, 2) := dk_54 4 (dk_at dksX5_comesTo_0 3 rfl rfl)
theorem dX5_comesTo_5 : decode cX5_comesTo 5 = .ok (.iload 4, 2) := dk_21 4 (dk_at dksX5_comesTo_0 5 rfl rfl)
theorem dX5_comesTo_7 : decode cX5_comesTo 7 = .ok (.iload_n 2, 1) := dk_28 (dk_at dksX5_comesTo_0 7 rfl rfl)
theorem dX5_comesTo_8 : decode cX5_comesTo 8 = .ok (.if_icmp .ge 156, 3) := dk_162 0 156 (dk_at dksX5_comesTo_0 8 rfl rfl)
theorem dX5_comesTo_11 : decode cX5_comesTo 11 = .ok (.aload_n 0, 1) := dk_42 (dk_at dksX5_comesTo_0 11 rfl rfl)
theorem dX5_comesTo_12 : decode cX5_comesTo 12 = .ok (.getfield 13, 3) := dk_180 0 13 (dk_at dksX5_comesTo_0 12 rfl rfl)
theorem dX5_comesTo_15 : decode cX5_comesTo 15 = .ok (.sipush 1025, 3) := dk_17 4 1 (dk_at dksX5_comesTo_0 15 rfl rfl)
theorem dX5_comesTo_18 : decode cX5_comesTo 18 = .ok (.iconst 2, 1) := dk_5 (dk_at dksX5_comesTo_0 18 rfl rfl)
theorem dX5_comesTo_19 : decode cX5_comesTo 19 = .ok (.iload 4, 2) := dk_21 4 (dk_at dksX5_comesTo_0 19 rfl rfl)
theorem dX5_comesTo_21 : decode cX5_comesTo 21 = .ok (.imul, 1) := dk_104 (dk_at dksX5_comesTo_0 21 rfl rfl)
theorem dX5_comesTo_22 : decode cX5_comesTo 22 = .ok (.iadd, 1) := dk_96 (dk_at dksX5_comesTo_0 22 rfl rfl)
theorem dX5_comesTo_23 : decode cX5_comesTo 23 = .ok (.iaload, 1) := dk_46 (dk_at dksX5_comesTo_0 23 rfl rfl)
theorem dX5_comesTo_24 : decode cX5_comesTo 24 = .ok (.istore 5, 2) := dk_54 5 (dk_at dksX5_comesTo_1 0 rfl rfl)
theorem dX5_comesTo_26 : decode cX5_comesTo 26 = .ok (.aload_n 0, 1) := dk_42 (dk_at dksX5_comesTo_1 2 rfl rfl)
theorem dX5_comesTo_27 : decode cX5_comesTo 27 = .ok (.getfield 13, 3) := dk_180 0 13 (dk_at dksX5_comesTo_1 3 rfl rfl)
theorem dX5_comesTo_30 : decode cX5_comesTo 30 = .ok (.sipush 1025, 3) := dk_17 4 1 (dk_at dksX5_comesTo_1 6 rfl rfl)
theorem dX5_comesTo_33 : decode cX5_comesTo 33 = .ok (.iconst 2, 1) := dk_5 (dk_at dksX5_comesTo_1 9 rfl rfl)
theorem dX5_comesTo_34 : decode cX5_comesTo 34 = .ok (.iload 4, 2) := dk_21 4 (dk_at dksX5_comesTo_1 10 rfl rfl)
theorem dX5_comesTo_36 : decode cX5_comesTo 36 = .ok (.imul, 1) := dk_104 (dk_at dksX5_comesTo_1 12 rfl rfl)
theorem dX5_comesTo_37 : decode cX5_comesTo 37 = .ok (.iadd, 1) := dk_96 (dk_at dksX5_comesTo_1 13 rfl rfl)
theorem dX5_comesTo_38 : decode cX5_comesTo 38 = .ok (.iconst 1, 1) := dk_4 (dk_at dksX5_comesTo_1 14 rfl rfl)
theorem dX5_comesTo_39 : decode cX5_comesTo 39 = .ok (.iadd, 1) := dk_96 (dk_at dksX5_comesTo_1 15 rfl rfl)
theorem dX5_comesTo_40 : decode cX5_comesTo 40 = .ok (.iaload, 1) := dk_46 (dk_at dksX5_comesTo_1 16 rfl rfl)
theorem dX5_comesTo_41 : decode cX5_comesTo 41 = .ok (.istore 6, 2) := dk_54 6 (dk_at dksX5_comesTo_1 17 rfl rfl)
theorem dX5_comesTo_43 : decode cX5_comesTo 43 = .ok (.iload 5, 2) := dk_21 5 (dk_at dksX5_comesTo_1 19 rfl rfl)
theorem dX5_comesTo_45 : decode cX5_comesTo 45 = .ok (.iconst 1, 1) := dk_4 (dk_at dksX5_comesTo_1 21 rfl rfl)
theorem dX5_comesTo_46 : decode cX5_comesTo 46 = .ok (.if_icmp .gt 32, 3) := dk_163 0 32 (dk_at dksX5_comesTo_2 0 rfl rfl)
theorem dX5_comesTo_49 : decode cX5_comesTo 49 = .ok (.aload_n 0, 1) := dk_42 (dk_at dksX5_comesTo_2 3 rfl rfl)
theorem dX5_comesTo_50 : decode cX5_comesTo 50 = .ok (.getfield 38, 3) := dk_180 0 38 (dk_at dksX5_comesTo_2 4 rfl rfl)
theorem dX5_comesTo_53 : decode cX5_comesTo 53 = .ok (.iload_n 3, 1) := dk_29 (dk_at dksX5_comesTo_2 7 rfl rfl)
theorem dX5_comesTo_54 : decode cX5_comesTo 54 = .ok (.iload 5, 2) := dk_21 5 (dk_at dksX5_comesTo_2 8 rfl rfl)
theorem dX5_comesTo_56 : decode cX5_comesTo 56 = .ok (.ifCond .ne 8, 3) := dk_154 0 8 (dk_at dksX5_comesTo_2 10 rfl rfl)
theorem dX5_comesTo_59 : decode cX5_comesTo 59 = .ok (.iload 6, 2) := dk_21 6 (dk_at dksX5_comesTo_2 13 rfl rfl)
theorem dX5_comesTo_61 : decode cX5_comesTo 61 = .ok (.goto 10, 3) := dk_167 0 10 (dk_at dksX5_comesTo_2 15 rfl rfl)
theorem dX5_comesTo_64 : decode cX5_comesTo 64 = .ok (.aload_n 0, 1) := dk_42 (dk_at dksX5_comesTo_2 18 rfl rfl)
theorem dX5_comesTo_65 : decode cX5_comesTo 65 = .ok (.getfield 35, 3) := dk_180 0 35 (dk_at dksX5_comesTo_2 19 rfl rfl)
theorem dX5_comesTo_68 : decode cX5_comesTo 68 = .ok (.iload 6, 2) := dk_21 6 (dk_at dksX5_comesTo_2 22 rfl rfl)
theorem dX5_comesTo_70 : decode cX5_comesTo 70 = .ok (.iaload, 1) := dk_46 (dk_at dksX5_comesTo_3 0 rfl rfl)
theorem dX5_comesTo_71 : decode cX5_comesTo 71 = .ok (.iastore, 1) := dk_79 (dk_at dksX5_comesTo_3 1 rfl rfl)
theorem dX5_comesTo_72 : decode cX5_comesTo 72 = .ok (.iinc 3 1, 3) := dk_132 3 1 (dk_at dksX5_comesTo_3 2 rfl rfl)
theorem dX5_comesTo_75 : decode cX5_comesTo 75 = .ok (.goto 83, 3) := dk_167 0 83 (dk_at dksX5_comesTo_3 5 rfl rfl)
theorem dX5_comesTo_78 : decode cX5_comesTo 78 = .ok (.iload 5, 2) := dk_21 5 (dk_at dksX5_comesTo_3 8 rfl rfl)
theorem dX5_comesTo_80 : decode cX5_comesTo 80 = .ok (.iconst 5, 1) := dk_8 (dk_at dksX5_comesTo_3 10 rfl rfl)
theorem dX5_comesTo_81 : decode cX5_comesTo 81 = .ok (.if_icmp .ne 19, 3) := dk_160 0 19 (dk_at dksX5_comesTo_3 11 rfl rfl)
theorem dX5_comesTo_84 : decode cX5_comesTo 84 = .ok (.aload_n 0, 1) := dk_42 (dk_at dksX5_comesTo_3 14 rfl rfl)
theorem dX5_comesTo_85 : decode cX5_comesTo 85 = .ok (.getfield 38, 3) := dk_180 0 38 (dk_at dksX5_comesTo_3 15 rfl rfl)
theorem dX5_comesTo_88 : decode cX5_comesTo 88 = .ok (.iload_n 3, 1) := dk_29 (dk_at dksX5_comesTo_3 18 rfl rfl)
theorem dX5_comesTo_89 : decode cX5_comesTo 89 = .ok (.iconst 1, 1) := dk_4 (dk_at dksX5_comesTo_3 19 rfl rfl)
theorem dX5_comesTo_90 : decode cX5_comesTo 90 = .ok (.isub, 1) := dk_100 (dk_at dksX5_comesTo_3 20 rfl rfl)
theorem dX5_comesTo_91 : decode cX5_comesTo 91 = .ok (.dup2, 1) := dk_92 (dk_at dksX5_comesTo_3 21 rfl rfl)
theorem dX5_comesTo_92 : decode cX5_comesTo 92 = .ok (.iaload, 1) := dk_46 (dk_at dksX5_comesTo_3 22 rfl rfl)
theorem dX5_comesTo_93 : decode cX5_comesTo 93 = .ok (.iload 6, 2) := dk_21 6 (dk_at dksX5_comesTo_4 0 rfl rfl)
theorem dX5_comesTo_95 : decode cX5_comesTo 95 = .ok (.idiv, 1) := dk_108 (dk_at dksX5_comesTo_4 2 rfl rfl)
theorem dX5_comesTo_96 : decode cX5_comesTo 96 = .ok (.iastore, 1) := dk_79 (dk_at dksX5_comesTo_4 3 rfl rfl)
theorem dX5_comesTo_97 : decode cX5_comesTo 97 = .ok (.goto 61, 3) := dk_167 0 61 (dk_at dksX5_comesTo_4 4 rfl rfl)
theorem dX5_comesTo_100 : decode cX5_comesTo 100 = .ok (.iload 5, 2) := dk_21 5 (dk_at dksX5_comesTo_4 7 rfl rfl)
theorem dX5_comesTo_102 : decode cX5_comesTo 102 = .ok (.bipush 9, 2) := dk_16 9 (dk_at dksX5_comesTo_4 9 rfl rfl)
theorem dX5_comesTo_104 : decode cX5_comesTo 104 = .ok (.if_icmp .ne 24, 3) := dk_160 0 24 (dk_at dksX5_comesTo_4 11 rfl rfl)
theorem dX5_comesTo_107 : decode cX5_comesTo 107 = .ok (.aload_n 0, 1) := dk_42 (dk_at dksX5_comesTo_4 14 rfl rfl)
theorem dX5_comesTo_108 : decode cX5_comesTo 108 = .ok (.getfield 38, 3) := dk_180 0 38 (dk_at dksX5_comesTo_4 15 rfl rfl)
theorem dX5_comesTo_111 : decode cX5_comesTo 111 = .ok (.iload_n 3, 1) := dk_29 (dk_at dksX5_comesTo_4 18 rfl rfl)
theorem dX5_comesTo_112 : decode cX5_comesTo 112 = .ok (.iconst 1, 1) := dk_4 (dk_at dksX5_comesTo_4 19 rfl rfl)
theorem dX5_comesTo_113 : decode cX5_comesTo 113 = .ok (.isub, 1) := dk_100 (dk_at dksX5_comesTo_4 20 rfl rfl)
theorem dX5_comesTo_114 : decode cX5_comesTo 114 = .ok (.iconst 1, 1) := dk_4 (dk_at dksX5_comesTo_4 21 rfl rfl)
theorem dX5_comesTo_115 : decode cX5_comesTo 115 = .ok (.aload_n 0, 1) := dk_42 (dk_at dksX5_comesTo_4 22 rfl rfl)
theorem dX5_comesTo_116 : decode cX5_comesTo 116 = .ok (.getfield 38, 3) := dk_180 0 38 (dk_at dksX5_comesTo_5 0 rfl rfl)
theorem dX5_comesTo_119 : decode cX5_comesTo 119 = .ok (.iload_n 3, 1) := dk_29 (dk_at dksX5_comesTo_5 3 rfl rfl)
theorem dX5_comesTo_120 : decode cX5_comesTo 120 = .ok (.iconst 1, 1) := dk_4 (dk_at dksX5_comesTo_5 4 rfl rfl)
theorem dX5_comesTo_121 : decode cX5_comesTo 121 = .ok (.isub, 1) := dk_100 (dk_at dksX5_comesTo_5 5 rfl rfl)
theorem dX5_comesTo_122 : decode cX5_comesTo 122 = .ok (.iaload, 1) := dk_46 (dk_at dksX5_comesTo_5 6 rfl rfl)
theorem dX5_comesTo_123 : decode cX5_comesTo 123 = .ok (.isub, 1) := dk_100 (dk_at dksX5_comesTo_5 7 rfl rfl)
theorem dX5_comesTo_124 : decode cX5_comesTo 124 = .ok (.iastore, 1) := dk_79 (dk_at dksX5_comesTo_5 8 rfl rfl)
theorem dX5_comesTo_125 : decode cX5_comesTo 125 = .ok (.goto 33, 3) := dk_167 0 33 (dk_at dksX5_comesTo_5 9 rfl rfl)
theorem dX5_comesTo_128 : decode cX5_comesTo 128 = .ok (.iinc 3 (-1), 3) := dk_132 3 255 (dk_at dksX5_comesTo_5 12 rfl rfl)
theorem dX5_comesTo_131 : decode cX5_comesTo 131 = .ok (.aload_n 0, 1) := dk_42 (dk_at dksX5_comesTo_5 15 rfl rfl)
theorem dX5_comesTo_132 : decode cX5_comesTo 132 = .ok (.getfield 38, 3) := dk_180 0 38 (dk_at dksX5_comesTo_5 16 rfl rfl)
theorem dX5_comesTo_135 : decode cX5_comesTo 135 = .ok (.iload_n 3, 1) := dk_29 (dk_at dksX5_comesTo_5 19 rfl rfl)
theorem dX5_comesTo_136 : decode cX5_comesTo 136 = .ok (.iconst 1, 1) := dk_4 (dk_at dksX5_comesTo_5 20 rfl rfl)
theorem dX5_comesTo_137 : decode cX5_comesTo 137 = .ok (.isub, 1) := dk_100 (dk_at dksX5_comesTo_5 21 rfl rfl)
theorem dX5_comesTo_138 : decode cX5_comesTo 138 = .ok (.iload 5, 2) := dk_21 5 (dk_at dksX5_comesTo_5 22 rfl rfl)
theorem dX5_comesTo_140 : decode cX5_comesTo 140 = .ok (.aload_n 0, 1) := dk_42 (dk_at dksX5_comesTo_6 0 rfl rfl)
theorem dX5_comesTo_141 : decode cX5_comesTo 141 = .ok (.getfield 38, 3) := dk_180 0 38 (dk_at dksX5_comesTo_6 1 rfl rfl)
theorem dX5_comesTo_144 : decode cX5_comesTo 144 = .ok (.iload_n 3, 1) := dk_29 (dk_at dksX5_comesTo_6 4 rfl rfl)
theorem dX5_comesTo_145 : decode cX5_comesTo 145 = .ok (.iconst 1, 1) := dk_4 (dk_at dksX5_comesTo_6 5 rfl rfl)
theorem dX5_comesTo_146 : decode cX5_comesTo 146 = .ok (.isub, 1) := dk_100 (dk_at dksX5_comesTo_6 6 rfl rfl)
theorem dX5_comesTo_147 : decode cX5_comesTo 147 = .ok (.iaload, 1) := dk_46 (dk_at dksX5_comesTo_6 7 rfl rfl)
theorem dX5_comesTo_148 : decode cX5_comesTo 148 = .ok (.aload_n 0, 1) := dk_42 (dk_at dksX5_comesTo_6 8 rfl rfl)
theorem dX5_comesTo_149 : decode cX5_comesTo 149 = .ok (.getfield 38, 3) := dk_180 0 38 (dk_at dksX5_comesTo_6 9 rfl rfl)
theorem dX5_comesTo_152 : decode cX5_comesTo 152 = .ok (.iload_n 3, 1) := dk_29 (dk_at dksX5_comesTo_6 12 rfl rfl)
theorem dX5_comesTo_153 : decode cX5_comesTo 153 = .ok (.iaload, 1) := dk_46 (dk_at dksX5_comesTo_6 13 rfl rfl)
theorem dX5_comesTo_154 : decode cX5_comesTo 154 = .ok (.invokestatic 253, 3) := dk_184 0 253 (dk_at dksX5_comesTo_6 14 rfl rfl)
theorem dX5_comesTo_157 : decode cX5_comesTo 157 = .ok (.iastore, 1) := dk_79 (dk_at dksX5_comesTo_6 17 rfl rfl)
theorem dX5_comesTo_158 : decode cX5_comesTo 158 = .ok (.iinc 4 1, 3) := dk_132 4 1 (dk_at dksX5_comesTo_6 18 rfl rfl)
theorem dX5_comesTo_161 : decode cX5_comesTo 161 = .ok (.goto (-156), 3) := dk_167 255 100 (dk_at dksX5_comesTo_6 21 rfl rfl)
theorem dX5_comesTo_164 : decode cX5_comesTo 164 = .ok (.aload_n 0, 1) := dk_42 (dk_at dksX5_comesTo_7 0 rfl rfl)
theorem dX5_comesTo_165 : decode cX5_comesTo 165 = .ok (.getfield 38, 3) := dk_180 0 38 (dk_at dksX5_comesTo_7 1 rfl rfl)
theorem dX5_comesTo_168 : decode cX5_comesTo 168 = .ok (.iconst 0, 1) := dk_3 (dk_at dksX5_comesTo_7 4 rfl rfl)
theorem dX5_comesTo_169 : decode cX5_comesTo 169 = .ok (.iaload, 1) := dk_46 (dk_at dksX5_comesTo_7 5 rfl rfl)
theorem dX5_comesTo_170 : decode cX5_comesTo 170 = .ok (.ireturn, 1) := dk_172 (dk_at dksX5_comesTo_7 6 rfl rfl)
abbrev cX5_both : ByteArray := prog_17_method_59_code
def yX5_both : MethodName := ⟨RX5, "both", "(III)I"⟩
def dkwX5_both_5 : List UInt8 := [4, 167, 0, 4, 3, 184, 0, 249, 172]
abbrev dktX5_both_5 : List UInt8 := dkwX5_both_5 ++ []
def dkwX5_both_4 : List UInt8 := [160, 0, 18, 27, 28, 96, 5, 160, 0, 7, 4, 167, 0, 18, 3, 167, 0, 14, 27, 28, 96, 158, 0, 7]
abbrev dktX5_both_4 : List UInt8 := dkwX5_both_4 ++ dktX5_both_5
def dkwX5_both_3 : List UInt8 := [167, 0, 17, 3, 167, 0, 13, 27, 28, 164, 0, 7, 4, 167, 0, 4, 3, 184, 0, 249, 172, 26, 16, 10]
abbrev dktX5_both_3 : List UInt8 := dkwX5_both_3 ++ dktX5_both_4
def dkwX5_both_2 : List UInt8 := [162, 0, 7, 4, 167, 0, 36, 3, 167, 0, 32, 26, 16, 7, 160, 0, 16, 27, 28, 160, 0, 7, 4]
abbrev dktX5_both_2 : List UInt8 := dkwX5_both_2 ++ dktX5_both_3
def dkwX5_both_1 : List UInt8 := [100, 167, 0, 6, 27, 28, 104, 172, 26, 16, 9, 162, 0, 55, 26, 16, 6, 160, 0, 16, 27, 28]
abbrev dktX5_both_1 : List UInt8 := dkwX5_both_1 ++ dktX5_both_2
def dkwX5_both_0 : List UInt8 := [26, 16, 6, 162, 0, 29, 26, 5, 160, 0, 9, 27, 28, 96, 167, 0, 17, 26, 6, 160, 0, 9, 27, 28]
abbrev dktX5_both_0 : List UInt8 := dkwX5_both_0 ++ dktX5_both_1
theorem dksX5_both_0 : cX5_both.data.toList.drop 0 = dktX5_both_0 := by decide +kernel
theorem dksX5_both_1 : cX5_both.data.toList.drop 24 = dktX5_both_1 := dk_seg dksX5_both_0 24 rfl rfl
theorem dksX5_both_2 : cX5_both.data.toList.drop 46 = dktX5_both_2 := dk_seg dksX5_both_1 22 rfl rfl
theorem dksX5_both_3 : cX5_both.data.toList.drop 69 = dktX5_both_3 := dk_seg dksX5_both_2 23 rfl rfl
theorem dksX5_both_4 : cX5_both.data.toList.drop 93 = dktX5_both_4 := dk_seg dksX5_both_3 24 rfl rfl
theorem dksX5_both_5 : cX5_both.data.toList.drop 117 = dktX5_both_5 := dk_seg dksX5_both_4 24 rfl rfl
theorem dX5_both_0 : decode cX5_both 0 = .ok (.iload_n 0, 1) := dk_26 (dk_at dksX5_both_0 0 rfl rfl)
theorem dX5_both_1 : decode cX5_both 1 = .ok (.bipush 6, 2) := dk_16 6 (dk_at dksX5_both_0 1 rfl rfl)
theorem dX5_both_3 : decode cX5_both 3 = .ok (.if_icmp .ge 29, 3) := dk_162 0 29 (dk_at dksX5_both_0 3 rfl rfl)
theorem dX5_both_6 : decode cX5_both 6 = .ok (.iload_n 0, 1) := dk_26 (dk_at dksX5_both_0 6 rfl rfl)
theorem dX5_both_7 : decode cX5_both 7 = .ok (.iconst 2, 1) := dk_5 (dk_at dksX5_both_0 7 rfl rfl)
theorem dX5_both_8 : decode cX5_both 8 = .ok (.if_icmp .ne 9, 3) := dk_160 0 9 (dk_at dksX5_both_0 8 rfl rfl)
theorem dX5_both_11 : decode cX5_both 11 = .ok (.iload_n 1, 1) := dk_27 (dk_at dksX5_both_0 11 rfl rfl)
theorem dX5_both_12 : decode cX5_both 12 = .ok (.iload_n 2, 1) := dk_28 (dk_at dksX5_both_0 12 rfl rfl)
theorem dX5_both_13 : decode cX5_both 13 = .ok (.iadd, 1) := dk_96 (dk_at dksX5_both_0 13 rfl rfl)
theorem dX5_both_14 : decode cX5_both 14 = .ok (.goto 17, 3) := dk_167 0 17 (dk_at dksX5_both_0 14 rfl rfl)
theorem dX5_both_17 : decode cX5_both 17 = .ok (.iload_n 0, 1) := dk_26 (dk_at dksX5_both_0 17 rfl rfl)
theorem dX5_both_18 : decode cX5_both 18 = .ok (.iconst 3, 1) := dk_6 (dk_at dksX5_both_0 18 rfl rfl)
theorem dX5_both_19 : decode cX5_both 19 = .ok (.if_icmp .ne 9, 3) := dk_160 0 9 (dk_at dksX5_both_0 19 rfl rfl)
theorem dX5_both_22 : decode cX5_both 22 = .ok (.iload_n 1, 1) := dk_27 (dk_at dksX5_both_0 22 rfl rfl)
theorem dX5_both_23 : decode cX5_both 23 = .ok (.iload_n 2, 1) := dk_28 (dk_at dksX5_both_0 23 rfl rfl)
theorem dX5_both_24 : decode cX5_both 24 = .ok (.isub, 1) := dk_100 (dk_at dksX5_both_1 0 rfl rfl)
theorem dX5_both_25 : decode cX5_both 25 = .ok (.goto 6, 3) := dk_167 0 6 (dk_at dksX5_both_1 1 rfl rfl)
theorem dX5_both_28 : decode cX5_both 28 = .ok (.iload_n 1, 1) := dk_27 (dk_at dksX5_both_1 4 rfl rfl)
theorem dX5_both_29 : decode cX5_both 29 = .ok (.iload_n 2, 1) := dk_28 (dk_at dksX5_both_1 5 rfl rfl)
theorem dX5_both_30 : decode cX5_both 30 = .ok (.imul, 1) := dk_104 (dk_at dksX5_both_1 6 rfl rfl)
theorem dX5_both_31 : decode cX5_both 31 = .ok (.ireturn, 1) := dk_172 (dk_at dksX5_both_1 7 rfl rfl)
theorem dX5_both_32 : decode cX5_both 32 = .ok (.iload_n 0, 1) := dk_26 (dk_at dksX5_both_1 8 rfl rfl)
theorem dX5_both_33 : decode cX5_both 33 = .ok (.bipush 9, 2) := dk_16 9 (dk_at dksX5_both_1 9 rfl rfl)
theorem dX5_both_35 : decode cX5_both 35 = .ok (.if_icmp .ge 55, 3) := dk_162 0 55 (dk_at dksX5_both_1 11 rfl rfl)
theorem dX5_both_38 : decode cX5_both 38 = .ok (.iload_n 0, 1) := dk_26 (dk_at dksX5_both_1 14 rfl rfl)
theorem dX5_both_39 : decode cX5_both 39 = .ok (.bipush 6, 2) := dk_16 6 (dk_at dksX5_both_1 15 rfl rfl)
theorem dX5_both_41 : decode cX5_both 41 = .ok (.if_icmp .ne 16, 3) := dk_160 0 16 (dk_at dksX5_both_1 17 rfl rfl)
theorem dX5_both_44 : decode cX5_both 44 = .ok (.iload_n 1, 1) := dk_27 (dk_at dksX5_both_1 20 rfl rfl)
theorem dX5_both_45 : decode cX5_both 45 = .ok (.iload_n 2, 1) := dk_28 (dk_at dksX5_both_1 21 rfl rfl)
theorem dX5_both_46 : decode cX5_both 46 = .ok (.if_icmp .ge 7, 3) := dk_162 0 7 (dk_at dksX5_both_2 0 rfl rfl)
theorem dX5_both_49 : decode cX5_both 49 = .ok (.iconst 1, 1) := dk_4 (dk_at dksX5_both_2 3 rfl rfl)
theorem dX5_both_50 : decode cX5_both 50 = .ok (.goto 36, 3) := dk_167 0 36 (dk_at dksX5_both_2 4 rfl rfl)
theorem dX5_both_53 : decode cX5_both 53 = .ok (.iconst 0, 1) := dk_3 (dk_at dksX5_both_2 7 rfl rfl)
theorem dX5_both_54 : decode cX5_both 54 = .ok (.goto 32, 3) := dk_167 0 32 (dk_at dksX5_both_2 8 rfl rfl)
theorem dX5_both_57 : decode cX5_both 57 = .ok (.iload_n 0, 1) := dk_26 (dk_at dksX5_both_2 11 rfl rfl)
theorem dX5_both_58 : decode cX5_both 58 = .ok (.bipush 7, 2) := dk_16 7 (dk_at dksX5_both_2 12 rfl rfl)
theorem dX5_both_60 : decode cX5_both 60 = .ok (.if_icmp .ne 16, 3) := dk_160 0 16 (dk_at dksX5_both_2 14 rfl rfl)
theorem dX5_both_63 : decode cX5_both 63 = .ok (.iload_n 1, 1) := dk_27 (dk_at dksX5_both_2 17 rfl rfl)
theorem dX5_both_64 : decode cX5_both 64 = .ok (.iload_n 2, 1) := dk_28 (dk_at dksX5_both_2 18 rfl rfl)
theorem dX5_both_65 : decode cX5_both 65 = .ok (.if_icmp .ne 7, 3) := dk_160 0 7 (dk_at dksX5_both_2 19 rfl rfl)
theorem dX5_both_68 : decode cX5_both 68 = .ok (.iconst 1, 1) := dk_4 (dk_at dksX5_both_2 22 rfl rfl)
theorem dX5_both_69 : decode cX5_both 69 = .ok (.goto 17, 3) := dk_167 0 17 (dk_at dksX5_both_3 0 rfl rfl)
theorem dX5_both_72 : decode cX5_both 72 = .ok (.iconst 0, 1) := dk_3 (dk_at dksX5_both_3 3 rfl rfl)
theorem dX5_both_73 : decode cX5_both 73 = .ok (.goto 13, 3) := dk_167 0 13 (dk_at dksX5_both_3 4 rfl rfl)
theorem dX5_both_76 : decode cX5_both 76 = .ok (.iload_n 1, 1) := dk_27 (dk_at dksX5_both_3 7 rfl rfl)
theorem dX5_both_77 : decode cX5_both 77 = .ok (.iload_n 2, 1) := dk_28 (dk_at dksX5_both_3 8 rfl rfl)
theorem dX5_both_78 : decode cX5_both 78 = .ok (.if_icmp .le 7, 3) := dk_164 0 7 (dk_at dksX5_both_3 9 rfl rfl)
theorem dX5_both_81 : decode cX5_both 81 = .ok (.iconst 1, 1) := dk_4 (dk_at dksX5_both_3 12 rfl rfl)
theorem dX5_both_82 : decode cX5_both 82 = .ok (.goto 4, 3) := dk_167 0 4 (dk_at dksX5_both_3 13 rfl rfl)
theorem dX5_both_85 : decode cX5_both 85 = .ok (.iconst 0, 1) := dk_3 (dk_at dksX5_both_3 16 rfl rfl)
theorem dX5_both_86 : decode cX5_both 86 = .ok (.invokestatic 249, 3) := dk_184 0 249 (dk_at dksX5_both_3 17 rfl rfl)
theorem dX5_both_89 : decode cX5_both 89 = .ok (.ireturn, 1) := dk_172 (dk_at dksX5_both_3 20 rfl rfl)
theorem dX5_both_90 : decode cX5_both 90 = .ok (.iload_n 0, 1) := dk_26 (dk_at dksX5_both_3 21 rfl rfl)
theorem dX5_both_91 : decode cX5_both 91 = .ok (.bipush 10, 2) := dk_16 10 (dk_at dksX5_both_3 22 rfl rfl)
theorem dX5_both_93 : decode cX5_both 93 = .ok (.if_icmp .ne 18, 3) := dk_160 0 18 (dk_at dksX5_both_4 0 rfl rfl)
theorem dX5_both_96 : decode cX5_both 96 = .ok (.iload_n 1, 1) := dk_27 (dk_at dksX5_both_4 3 rfl rfl)
theorem dX5_both_97 : decode cX5_both 97 = .ok (.iload_n 2, 1) := dk_28 (dk_at dksX5_both_4 4 rfl rfl)
theorem dX5_both_98 : decode cX5_both 98 = .ok (.iadd, 1) := dk_96 (dk_at dksX5_both_4 5 rfl rfl)
theorem dX5_both_99 : decode cX5_both 99 = .ok (.iconst 2, 1) := dk_5 (dk_at dksX5_both_4 6 rfl rfl)
theorem dX5_both_100 : decode cX5_both 100 = .ok (.if_icmp .ne 7, 3) := dk_160 0 7 (dk_at dksX5_both_4 7 rfl rfl)
theorem dX5_both_103 : decode cX5_both 103 = .ok (.iconst 1, 1) := dk_4 (dk_at dksX5_both_4 10 rfl rfl)
theorem dX5_both_104 : decode cX5_both 104 = .ok (.goto 18, 3) := dk_167 0 18 (dk_at dksX5_both_4 11 rfl rfl)
theorem dX5_both_107 : decode cX5_both 107 = .ok (.iconst 0, 1) := dk_3 (dk_at dksX5_both_4 14 rfl rfl)
theorem dX5_both_108 : decode cX5_both 108 = .ok (.goto 14, 3) := dk_167 0 14 (dk_at dksX5_both_4 15 rfl rfl)
theorem dX5_both_111 : decode cX5_both 111 = .ok (.iload_n 1, 1) := dk_27 (dk_at dksX5_both_4 18 rfl rfl)
theorem dX5_both_112 : decode cX5_both 112 = .ok (.iload_n 2, 1) := dk_28 (dk_at dksX5_both_4 19 rfl rfl)
theorem dX5_both_113 : decode cX5_both 113 = .ok (.iadd, 1) := dk_96 (dk_at dksX5_both_4 20 rfl rfl)
theorem dX5_both_114 : decode cX5_both 114 = .ok (.ifCond .le 7, 3) := dk_158 0 7 (dk_at dksX5_both_4 21 rfl rfl)
theorem dX5_both_117 : decode cX5_both 117 = .ok (.iconst 1, 1) := dk_4 (dk_at dksX5_both_5 0 rfl rfl)
theorem dX5_both_118 : decode cX5_both 118 = .ok (.goto 4, 3) := dk_167 0 4 (dk_at dksX5_both_5 1 rfl rfl)
theorem dX5_both_121 : decode cX5_both 121 = .ok (.iconst 0, 1) := dk_3 (dk_at dksX5_both_5 4 rfl rfl)
theorem dX5_both_122 : decode cX5_both 122 = .ok (.invokestatic 249, 3) := dk_184 0 249 (dk_at dksX5_both_5 5 rfl rfl)
theorem dX5_both_125 : decode cX5_both 125 = .ok (.ireturn, 1) := dk_172 (dk_at dksX5_both_5 8 rfl rfl)
abbrev cX5_asInt : ByteArray := prog_17_method_58_code
def yX5_asInt : MethodName := ⟨RX5, "asInt", "(Z)I"⟩
def dkwX5_asInt_0 : List UInt8 := [26, 153, 0, 7, 4, 167, 0, 4, 3, 172]
abbrev dktX5_asInt_0 : List UInt8 := dkwX5_asInt_0 ++ []
theorem dksX5_asInt_0 : cX5_asInt.data.toList.drop 0 = dktX5_asInt_0 := by decide +kernel
theorem dX5_asInt_0 : decode cX5_asInt 0 = .ok (.iload_n 0, 1) := dk_26 (dk_at dksX5_asInt_0 0 rfl rfl)
theorem dX5_asInt_1 : decode cX5_asInt 1 = .ok (.ifCond .eq 7, 3) := dk_153 0 7 (dk_at dksX5_asInt_0 1 rfl rfl)
theorem dX5_asInt_4 : decode cX5_asInt 4 = .ok (.iconst 1, 1) := dk_4 (dk_at dksX5_asInt_0 4 rfl rfl)
theorem dX5_asInt_5 : decode cX5_asInt 5 = .ok (.goto 4, 3) := dk_167 0 4 (dk_at dksX5_asInt_0 5 rfl rfl)
theorem dX5_asInt_8 : decode cX5_asInt 8 = .ok (.iconst 0, 1) := dk_3 (dk_at dksX5_asInt_0 8 rfl rfl)
theorem dX5_asInt_9 : decode cX5_asInt 9 = .ok (.ireturn, 1) := dk_172 (dk_at dksX5_asInt_0 9 rfl rfl)
abbrev cX5_falls : ByteArray := prog_17_method_20_code
def yX5_falls : MethodName := ⟨RX5, "falls", "(I)Z"⟩
def dkwX5_falls_1 : List UInt8 := [17, 3, 232, 182, 0, 120, 27, 162, 0, 7, 4, 167, 0, 4, 3, 172]
abbrev dktX5_falls_1 : List UInt8 := dkwX5_falls_1 ++ []
def dkwX5_falls_0 : List UInt8 := [27, 158, 0, 35, 42, 180, 0, 90, 153, 0, 13, 27, 17, 1, 244, 161, 0, 21, 167, 0, 14, 42]
abbrev dktX5_falls_0 : List UInt8 := dkwX5_falls_0 ++ dktX5_falls_1
theorem dksX5_falls_0 : cX5_falls.data.toList.drop 0 = dktX5_falls_0 := by decide +kernel
theorem dksX5_falls_1 : cX5_falls.data.toList.drop 22 = dktX5_falls_1 := dk_seg dksX5_falls_0 22 rfl rfl
theorem dX5_falls_0 : decode cX5_falls 0 = .ok (.iload_n 1, 1) := dk_27 (dk_at dksX5_falls_0 0 rfl rfl)
theorem dX5_falls_1 : decode cX5_falls 1 = .ok (.ifCond .le 35, 3) := dk_158 0 35 (dk_at dksX5_falls_0 1 rfl rfl)
theorem dX5_falls_4 : decode cX5_falls 4 = .ok (.aload_n 0, 1) := dk_42 (dk_at dksX5_falls_0 4 rfl rfl)
theorem dX5_falls_5 : decode cX5_falls 5 = .ok (.getfield 90, 3) := dk_180 0 90 (dk_at dksX5_falls_0 5 rfl rfl)
theorem dX5_falls_8 : decode cX5_falls 8 = .ok (.ifCond .eq 13, 3) := dk_153 0 13 (dk_at dksX5_falls_0 8 rfl rfl)
theorem dX5_falls_11 : decode cX5_falls 11 = .ok (.iload_n 1, 1) := dk_27 (dk_at dksX5_falls_0 11 rfl rfl)
theorem dX5_falls_12 : decode cX5_falls 12 = .ok (.sipush 500, 3) := dk_17 1 244 (dk_at dksX5_falls_0 12 rfl rfl)
theorem dX5_falls_15 : decode cX5_falls 15 = .ok (.if_icmp .lt 21, 3) := dk_161 0 21 (dk_at dksX5_falls_0 15 rfl rfl)
theorem dX5_falls_18 : decode cX5_falls 18 = .ok (.goto 14, 3) := dk_167 0 14 (dk_at dksX5_falls_0 18 rfl rfl)
theorem dX5_falls_21 : decode cX5_falls 21 = .ok (.aload_n 0, 1) := dk_42 (dk_at dksX5_falls_0 21 rfl rfl)
theorem dX5_falls_22 : decode cX5_falls 22 = .ok (.sipush 1000, 3) := dk_17 3 232 (dk_at dksX5_falls_1 0 rfl rfl)
theorem dX5_falls_25 : decode cX5_falls 25 = .ok (.invokevirtual 120, 3) := dk_182 0 120 (dk_at dksX5_falls_1 3 rfl rfl)
theorem dX5_falls_28 : decode cX5_falls 28 = .ok (.iload_n 1, 1) := dk_27 (dk_at dksX5_falls_1 6 rfl rfl)
theorem dX5_falls_29 : decode cX5_falls 29 = .ok (.if_icmp .ge 7, 3) := dk_162 0 7 (dk_at dksX5_falls_1 7 rfl rfl)
theorem dX5_falls_32 : decode cX5_falls 32 = .ok (.iconst 1, 1) := dk_4 (dk_at dksX5_falls_1 10 rfl rfl)
theorem dX5_falls_33 : decode cX5_falls 33 = .ok (.goto 4, 3) := dk_167 0 4 (dk_at dksX5_falls_1 11 rfl rfl)
theorem dX5_falls_36 : decode cX5_falls 36 = .ok (.iconst 0, 1) := dk_3 (dk_at dksX5_falls_1 14 rfl rfl)
theorem dX5_falls_37 : decode cX5_falls 37 = .ok (.ireturn, 1) := dk_172 (dk_at dksX5_falls_1 15 rfl rfl)
abbrev cX5_draws : ByteArray := prog_17_method_19_code
def yX5_draws : MethodName := ⟨RX5, "draws", "(I)I"⟩
def dkwX5_draws_1 : List UInt8 := [180, 0, 13, 17, 3, 170, 46, 16, 8, 124, 27, 112, 172]
abbrev dktX5_draws_1 : List UInt8 := dkwX5_draws_1 ++ []
def dkwX5_draws_0 : List UInt8 := [42, 180, 0, 13, 17, 3, 170, 18, 118, 42, 180, 0, 13, 17, 3, 170, 46, 104, 18, 119, 96, 79, 42]
abbrev dktX5_draws_0 : List UInt8 := dkwX5_draws_0 ++ dktX5_draws_1
theorem dksX5_draws_0 : cX5_draws.data.toList.drop 0 = dktX5_draws_0 := by decide +kernel
theorem dksX5_draws_1 : cX5_draws.data.toList.drop 23 = dktX5_draws_1 := dk_seg dksX5_draws_0 23 rfl rfl
theorem dX5_draws_0 : decode cX5_draws 0 = .ok (.aload_n 0, 1) := dk_42 (dk_at dksX5_draws_0 0 rfl rfl)
theorem dX5_draws_1 : decode cX5_draws 1 = .ok (.getfield 13, 3) := dk_180 0 13 (dk_at dksX5_draws_0 1 rfl rfl)
theorem dX5_draws_4 : decode cX5_draws 4 = .ok (.sipush 938, 3) := dk_17 3 170 (dk_at dksX5_draws_0 4 rfl rfl)
theorem dX5_draws_7 : decode cX5_draws 7 = .ok (.ldc 118, 2) := dk_18 118 (dk_at dksX5_draws_0 7 rfl rfl)
theorem dX5_draws_9 : decode cX5_draws 9 = .ok (.aload_n 0, 1) := dk_42 (dk_at dksX5_draws_0 9 rfl rfl)
theorem dX5_draws_10 : decode cX5_draws 10 = .ok (.getfield 13, 3) := dk_180 0 13 (dk_at dksX5_draws_0 10 rfl rfl)
theorem dX5_draws_13 : decode cX5_draws 13 = .ok (.sipush 938, 3) := dk_17 3 170 (dk_at dksX5_draws_0 13 rfl rfl)
theorem dX5_draws_16 : decode cX5_draws 16 = .ok (.iaload, 1) := dk_46 (dk_at dksX5_draws_0 16 rfl rfl)
theorem dX5_draws_17 : decode cX5_draws 17 = .ok (.imul, 1) := dk_104 (dk_at dksX5_draws_0 17 rfl rfl)
theorem dX5_draws_18 : decode cX5_draws 18 = .ok (.ldc 119, 2) := dk_18 119 (dk_at dksX5_draws_0 18 rfl rfl)
theorem dX5_draws_20 : decode cX5_draws 20 = .ok (.iadd, 1) := dk_96 (dk_at dksX5_draws_0 20 rfl rfl)
theorem dX5_draws_21 : decode cX5_draws 21 = .ok (.iastore, 1) := dk_79 (dk_at dksX5_draws_0 21 rfl rfl)
theorem dX5_draws_22 : decode cX5_draws 22 = .ok (.aload_n 0, 1) := dk_42 (dk_at dksX5_draws_0 22 rfl rfl)
theorem dX5_draws_23 : decode cX5_draws 23 = .ok (.getfield 13, 3) := dk_180 0 13 (dk_at dksX5_draws_1 0 rfl rfl)
theorem dX5_draws_26 : decode cX5_draws 26 = .ok (.sipush 938, 3) := dk_17 3 170 (dk_at dksX5_draws_1 3 rfl rfl)
theorem dX5_draws_29 : decode cX5_draws 29 = .ok (.iaload, 1) := dk_46 (dk_at dksX5_draws_1 6 rfl rfl)
theorem dX5_draws_30 : decode cX5_draws 30 = .ok (.bipush 8, 2) := dk_16 8 (dk_at dksX5_draws_1 7 rfl rfl)
theorem dX5_draws_32 : decode cX5_draws 32 = .ok (.iushr, 1) := dk_124 (dk_at dksX5_draws_1 9 rfl rfl)
theorem dX5_draws_33 : decode cX5_draws 33 = .ok (.iload_n 1, 1) := dk_27 (dk_at dksX5_draws_1 10 rfl rfl)
theorem dX5_draws_34 : decode cX5_draws 34 = .ok (.irem, 1) := dk_112 (dk_at dksX5_draws_1 11 rfl rfl)
theorem dX5_draws_35 : decode cX5_draws 35 = .ok (.ireturn, 1) := dk_172 (dk_at dksX5_draws_1 12 rfl rfl)
abbrev cX5_isFree : ByteArray := prog_17_method_17_code
def yX5_isFree : MethodName := ⟨RX5, "isFree", "(I)Z"⟩
def dkwX5_isFree_1 : List UInt8 := [172]
abbrev dktX5_isFree_1 : List UInt8 := dkwX5_isFree_1 ++ []
def dkwX5_isFree_0 : List UInt8 := [42, 180, 0, 13, 27, 46, 4, 159, 0, 16, 42, 27, 182, 0, 115, 2, 160, 0, 7, 4, 167, 0, 4, 3]
abbrev dktX5_isFree_0 : List UInt8 := dkwX5_isFree_0 ++ dktX5_isFree_1
theorem dksX5_isFree_0 : cX5_isFree.data.toList.drop 0 = dktX5_isFree_0 := by decide +kernel
theorem dksX5_isFree_1 : cX5_isFree.data.toList.drop 24 = dktX5_isFree_1 := dk_seg dksX5_isFree_0 24 rfl rfl
theorem dX5_isFree_0 : decode cX5_isFree 0 = .ok (.aload_n 0, 1) := dk_42 (dk_at dksX5_isFree_0 0 rfl rfl)
theorem dX5_isFree_1 : decode cX5_isFree 1 = .ok (.getfield 13, 3) := dk_180 0 13 (dk_at dksX5_isFree_0 1 rfl rfl)
theorem dX5_isFree_4 : decode cX5_isFree 4 = .ok (.iload_n 1, 1) := dk_27 (dk_at dksX5_isFree_0 4 rfl rfl)
theorem dX5_isFree_5 : decode cX5_isFree 5 = .ok (.iaload, 1) := dk_46 (dk_at dksX5_isFree_0 5 rfl rfl)
theorem dX5_isFree_6 : decode cX5_isFree 6 = .ok (.iconst 1, 1) := dk_4 (dk_at dksX5_isFree_0 6 rfl rfl)
theorem dX5_isFree_7 : decode cX5_isFree 7 = .ok (.if_icmp .eq 16, 3) := dk_159 0 16 (dk_at dksX5_isFree_0 7 rfl rfl)
theorem dX5_isFree_10 : decode cX5_isFree 10 = .ok (.aload_n 0, 1) := dk_42 (dk_at dksX5_isFree_0 10 rfl rfl)
theorem dX5_isFree_11 : decode cX5_isFree 11 = .ok (.iload_n 1, 1) := dk_27 (dk_at dksX5_isFree_0 11 rfl rfl)
theorem dX5_isFree_12 : decode cX5_isFree 12 = .ok (.invokevirtual 115, 3) := dk_182 0 115 (dk_at dksX5_isFree_0 12 rfl rfl)
theorem dX5_isFree_15 : decode cX5_isFree 15 = .ok (.iconst (-1), 1) := dk_2 (dk_at dksX5_isFree_0 15 rfl rfl)
theorem dX5_isFree_16 : decode cX5_isFree 16 = .ok (.if_icmp .ne 7, 3) := dk_160 0 7 (dk_at dksX5_isFree_0 16 rfl rfl)
theorem dX5_isFree_19 : decode cX5_isFree 19 = .ok (.iconst 1, 1) := dk_4 (dk_at dksX5_isFree_0 19 rfl rfl)
theorem dX5_isFree_20 : decode cX5_isFree 20 = .ok (.goto 4, 3) := dk_167 0 4 (dk_at dksX5_isFree_0 20 rfl rfl)
theorem dX5_isFree_23 : decode cX5_isFree 23 = .ok (.iconst 0, 1) := dk_3 (dk_at dksX5_isFree_0 23 rfl rfl)
theorem dX5_isFree_24 : decode cX5_isFree 24 = .ok (.ireturn, 1) := dk_172 (dk_at dksX5_isFree_1 0 rfl rfl)
abbrev cX5_whoIsAt : ByteArray := prog_17_method_16_code
def yX5_whoIsAt : MethodName := ⟨RX5, "whoIsAt", "(I)I"⟩
def dkwX5_whoIsAt_1 : List UInt8 := [42, 28, 182, 0, 111, 27, 160, 0, 5, 28, 172, 132, 2, 1, 167, 255, 220, 2, 172]
abbrev dktX5_whoIsAt_1 : List UInt8 := dkwX5_whoIsAt_1 ++ []
def dkwX5_whoIsAt_0 : List UInt8 := [3, 61, 28, 42, 180, 0, 13, 17, 3, 172, 46, 162, 0, 30, 42, 28, 4, 182, 0, 104, 4, 160, 0, 14]
abbrev dktX5_whoIsAt_0 : List UInt8 := dkwX5_whoIsAt_0 ++ dktX5_whoIsAt_1
theorem dksX5_whoIsAt_0 : cX5_whoIsAt.data.toList.drop 0 = dktX5_whoIsAt_0 := by decide +kernel
theorem dksX5_whoIsAt_1 : cX5_whoIsAt.data.toList.drop 24 = dktX5_whoIsAt_1 := dk_seg dksX5_whoIsAt_0 24 rfl rfl
theorem dX5_whoIsAt_0 : decode cX5_whoIsAt 0 = .ok (.iconst 0, 1) := dk_3 (dk_at dksX5_whoIsAt_0 0 rfl rfl)
theorem dX5_whoIsAt_1 : decode cX5_whoIsAt 1 = .ok (.istore_n 2, 1) := dk_61 (dk_at dksX5_whoIsAt_0 1 rfl rfl)
theorem dX5_whoIsAt_2 : decode cX5_whoIsAt 2 = .ok (.iload_n 2, 1) := dk_28 (dk_at dksX5_whoIsAt_0 2 rfl rfl)
theorem dX5_whoIsAt_3 : decode cX5_whoIsAt 3 = .ok (.aload_n 0, 1) := dk_42 (dk_at dksX5_whoIsAt_0 3 rfl rfl)
theorem dX5_whoIsAt_4 : decode cX5_whoIsAt 4 = .ok (.getfield 13, 3) := dk_180 0 13 (dk_at dksX5_whoIsAt_0 4 rfl rfl)
theorem dX5_whoIsAt_7 : decode cX5_whoIsAt 7 = .ok (.sipush 940, 3) := dk_17 3 172 (dk_at dksX5_whoIsAt_0 7 rfl rfl)
theorem dX5_whoIsAt_10 : decode cX5_whoIsAt 10 = .ok (.iaload, 1) := dk_46 (dk_at dksX5_whoIsAt_0 10 rfl rfl)
theorem dX5_whoIsAt_11 : decode cX5_whoIsAt 11 = .ok (.if_icmp .ge 30, 3) := dk_162 0 30 (dk_at dksX5_whoIsAt_0 11 rfl rfl)
theorem dX5_whoIsAt_14 : decode cX5_whoIsAt 14 = .ok (.aload_n 0, 1) := dk_42 (dk_at dksX5_whoIsAt_0 14 rfl rfl)
theorem dX5_whoIsAt_15 : decode cX5_whoIsAt 15 = .ok (.iload_n 2, 1) := dk_28 (dk_at dksX5_whoIsAt_0 15 rfl rfl)
theorem dX5_whoIsAt_16 : decode cX5_whoIsAt 16 = .ok (.iconst 1, 1) := dk_4 (dk_at dksX5_whoIsAt_0 16 rfl rfl)
theorem dX5_whoIsAt_17 : decode cX5_whoIsAt 17 = .ok (.invokevirtual 104, 3) := dk_182 0 104 (dk_at dksX5_whoIsAt_0 17 rfl rfl)
theorem dX5_whoIsAt_20 : decode cX5_whoIsAt 20 = .ok (.iconst 1, 1) := dk_4 (dk_at dksX5_whoIsAt_0 20 rfl rfl)
theorem dX5_whoIsAt_21 : decode cX5_whoIsAt 21 = .ok (.if_icmp .ne 14, 3) := dk_160 0 14 (dk_at dksX5_whoIsAt_0 21 rfl rfl)
theorem dX5_whoIsAt_24 : decode cX5_whoIsAt 24 = .ok (.aload_n 0, 1) := dk_42 (dk_at dksX5_whoIsAt_1 0 rfl rfl)
theorem dX5_whoIsAt_25 : decode cX5_whoIsAt 25 = .ok (.iload_n 2, 1) := dk_28 (dk_at dksX5_whoIsAt_1 1 rfl rfl)
theorem dX5_whoIsAt_26 : decode cX5_whoIsAt 26 = .ok (.invokevirtual 111, 3) := dk_182 0 111 (dk_at dksX5_whoIsAt_1 2 rfl rfl)
theorem dX5_whoIsAt_29 : decode cX5_whoIsAt 29 = .ok (.iload_n 1, 1) := dk_27 (dk_at dksX5_whoIsAt_1 5 rfl rfl)
theorem dX5_whoIsAt_30 : decode cX5_whoIsAt 30 = .ok (.if_icmp .ne 5, 3) := dk_160 0 5 (dk_at dksX5_whoIsAt_1 6 rfl rfl)
theorem dX5_whoIsAt_33 : decode cX5_whoIsAt 33 = .ok (.iload_n 2, 1) := dk_28 (dk_at dksX5_whoIsAt_1 9 rfl rfl)
theorem dX5_whoIsAt_34 : decode cX5_whoIsAt 34 = .ok (.ireturn, 1) := dk_172 (dk_at dksX5_whoIsAt_1 10 rfl rfl)
theorem dX5_whoIsAt_35 : decode cX5_whoIsAt 35 = .ok (.iinc 2 1, 3) := dk_132 2 1 (dk_at dksX5_whoIsAt_1 11 rfl rfl)
theorem dX5_whoIsAt_38 : decode cX5_whoIsAt 38 = .ok (.goto (-36), 3) := dk_167 255 220 (dk_at dksX5_whoIsAt_1 14 rfl rfl)
theorem dX5_whoIsAt_41 : decode cX5_whoIsAt 41 = .ok (.iconst (-1), 1) := dk_2 (dk_at dksX5_whoIsAt_1 17 rfl rfl)
theorem dX5_whoIsAt_42 : decode cX5_whoIsAt 42 = .ok (.ireturn, 1) := dk_172 (dk_at dksX5_whoIsAt_1 18 rfl rfl)
abbrev cX5_ends : ByteArray := prog_17_method_7_code
def yX5_ends : MethodName := ⟨RX5, "ends", "()V"⟩
def dkwX5_ends_0 : List UInt8 := [42, 182, 0, 97, 42, 180, 0, 13, 42, 180, 0, 9, 17, 9, 121, 184, 0, 86, 177]
abbrev dktX5_ends_0 : List UInt8 := dkwX5_ends_0 ++ []
theorem dksX5_ends_0 : cX5_ends.data.toList.drop 0 = dktX5_ends_0 := by decide +kernel
theorem dX5_ends_0 : decode cX5_ends 0 = .ok (.aload_n 0, 1) := dk_42 (dk_at dksX5_ends_0 0 rfl rfl)
theorem dX5_ends_1 : decode cX5_ends 1 = .ok (.invokevirtual 97, 3) := dk_182 0 97 (dk_at dksX5_ends_0 1 rfl rfl)
theorem dX5_ends_4 : decode cX5_ends 4 = .ok (.aload_n 0, 1) := dk_42 (dk_at dksX5_ends_0 4 rfl rfl)
theorem dX5_ends_5 : decode cX5_ends 5 = .ok (.getfield 13, 3) := dk_180 0 13 (dk_at dksX5_ends_0 5 rfl rfl)
theorem dX5_ends_8 : decode cX5_ends 8 = .ok (.aload_n 0, 1) := dk_42 (dk_at dksX5_ends_0 8 rfl rfl)
theorem dX5_ends_9 : decode cX5_ends 9 = .ok (.getfield 9, 3) := dk_180 0 9 (dk_at dksX5_ends_0 9 rfl rfl)
theorem dX5_ends_12 : decode cX5_ends 12 = .ok (.sipush 2425, 3) := dk_17 9 121 (dk_at dksX5_ends_0 12 rfl rfl)
theorem dX5_ends_15 : decode cX5_ends 15 = .ok (.invokestatic 86, 3) := dk_184 0 86 (dk_at dksX5_ends_0 15 rfl rfl)
theorem dX5_ends_18 : decode cX5_ends 18 = .ok (.return_, 1) := dk_177 (dk_at dksX5_ends_0 18 rfl rfl)
abbrev cX5_keepsPast : ByteArray := prog_17_method_5_code
def yX5_keepsPast : MethodName := ⟨RX5, "keepsPast", "()V"⟩
def dkwX5_keepsPast_4 : List UInt8 := [180, 0, 94, 4, 96, 181, 0, 94, 177]
abbrev dktX5_keepsPast_4 : List UInt8 := dkwX5_keepsPast_4 ++ []
def dkwX5_keepsPast_3 : List UInt8 := [42, 180, 0, 94, 104, 27, 96, 42, 180, 0, 9, 27, 46, 79, 132, 1, 1, 167, 255, 225, 42, 89]
abbrev dktX5_keepsPast_3 : List UInt8 := dkwX5_keepsPast_3 ++ dktX5_keepsPast_4
def dkwX5_keepsPast_2 : List UInt8 := [160, 0, 8, 42, 8, 181, 0, 94, 3, 60, 27, 17, 3, 172, 162, 0, 30, 42, 180, 0, 19, 17, 3, 172]
abbrev dktX5_keepsPast_2 : List UInt8 := dkwX5_keepsPast_2 ++ dktX5_keepsPast_3
def dkwX5_keepsPast_1 : List UInt8 := [180, 0, 19, 27, 17, 3, 172, 96, 46, 79, 132, 1, 1, 167, 255, 230, 42, 180, 0, 94, 16, 6]
abbrev dktX5_keepsPast_1 : List UInt8 := dkwX5_keepsPast_1 ++ dktX5_keepsPast_2
def dkwX5_keepsPast_0 : List UInt8 := [42, 180, 0, 94, 16, 6, 160, 0, 34, 3, 60, 27, 17, 18, 92, 162, 0, 25, 42, 180, 0, 19, 27, 42]
abbrev dktX5_keepsPast_0 : List UInt8 := dkwX5_keepsPast_0 ++ dktX5_keepsPast_1
theorem dksX5_keepsPast_0 : cX5_keepsPast.data.toList.drop 0 = dktX5_keepsPast_0 := by decide +kernel
theorem dksX5_keepsPast_1 : cX5_keepsPast.data.toList.drop 24 = dktX5_keepsPast_1 := dk_seg dksX5_keepsPast_0 24 rfl rfl
theorem dksX5_keepsPast_2 : cX5_keepsPast.data.toList.drop 46 = dktX5_keepsPast_2 := dk_seg dksX5_keepsPast_1 22 rfl rfl
theorem dksX5_keepsPast_3 : cX5_keepsPast.data.toList.drop 70 = dktX5_keepsPast_3 := dk_seg dksX5_keepsPast_2 24 rfl rfl
theorem dksX5_keepsPast_4 : cX5_keepsPast.data.toList.drop 92 = dktX5_keepsPast_4 := dk_seg dksX5_keepsPast_3 22 rfl rfl
theorem dX5_keepsPast_0 : decode cX5_keepsPast 0 = .ok (.aload_n 0, 1) := dk_42 (dk_at dksX5_keepsPast_0 0 rfl rfl)
theorem dX5_keepsPast_1 : decode cX5_keepsPast 1 = .ok (.getfield 94, 3) := dk_180 0 94 (dk_at dksX5_keepsPast_0 1 rfl rfl)
theorem dX5_keepsPast_4 : decode cX5_keepsPast 4 = .ok (.bipush 6, 2) := dk_16 6 (dk_at dksX5_keepsPast_0 4 rfl rfl)
theorem dX5_keepsPast_6 : decode cX5_keepsPast 6 = .ok (.if_icmp .ne 34, 3) := dk_160 0 34 (dk_at dksX5_keepsPast_0 6 rfl rfl)
theorem dX5_keepsPast_9 : decode cX5_keepsPast 9 = .ok (.iconst 0, 1) := dk_3 (dk_at dksX5_keepsPast_0 9 rfl rfl)
theorem dX5_keepsPast_10 : decode cX5_keepsPast 10 = .ok (.istore_n 1, 1) := dk_60 (dk_at dksX5_keepsPast_0 10 rfl rfl)
theorem dX5_keepsPast_11 : decode cX5_keepsPast 11 = .ok (.iload_n 1, 1) := dk_27 (dk_at dksX5_keepsPast_0 11 rfl rfl)
theorem dX5_keepsPast_12 : decode cX5_keepsPast 12 = .ok (.sipush 4700, 3) := dk_17 18 92 (dk_at dksX5_keepsPast_0 12 rfl rfl)
theorem dX5_keepsPast_15 : decode cX5_keepsPast 15 = .ok (.if_icmp .ge 25, 3) := dk_162 0 25 (dk_at dksX5_keepsPast_0 15 rfl rfl)
theorem dX5_keepsPast_18 : decode cX5_keepsPast 18 = .ok (.aload_n 0, 1) := dk_42 (dk_at dksX5_keepsPast_0 18 rfl rfl)
theorem dX5_keepsPast_19 : decode cX5_keepsPast 19 = .ok (.getfield 19, 3) := dk_180 0 19 (dk_at dksX5_keepsPast_0 19 rfl rfl)
theorem dX5_keepsPast_22 : decode cX5_keepsPast 22 = .ok (.iload_n 1, 1) := dk_27 (dk_at dksX5_keepsPast_0 22 rfl rfl)
theorem dX5_keepsPast_23 : decode cX5_keepsPast 23 = .ok (.aload_n 0, 1) := dk_42 (dk_at dksX5_keepsPast_0 23 rfl rfl)
theorem dX5_keepsPast_24 : decode cX5_keepsPast 24 = .ok (.getfield 19, 3) := dk_180 0 19 (dk_at dksX5_keepsPast_1 0 rfl rfl)
theorem dX5_keepsPast_27 : decode cX5_keepsPast 27 = .ok (.iload_n 1, 1) := dk_27 (dk_at dksX5_keepsPast_1 3 rfl rfl)
theorem dX5_keepsPast_28 : decode cX5_keepsPast 28 = .ok (.sipush 940, 3) := dk_17 3 172 (dk_at dksX5_keepsPast_1 4 rfl rfl)
theorem dX5_keepsPast_31 : decode cX5_keepsPast 31 = .ok (.iadd, 1) := dk_96 (dk_at dksX5_keepsPast_1 7 rfl rfl)
theorem dX5_keepsPast_32 : decode cX5_keepsPast 32 = .ok (.iaload, 1) := dk_46 (dk_at dksX5_keepsPast_1 8 rfl rfl)
theorem dX5_keepsPast_33 : decode cX5_keepsPast 33 = .ok (.iastore, 1) := dk_79 (dk_at dksX5_keepsPast_1 9 rfl rfl)
theorem dX5_keepsPast_34 : decode cX5_keepsPast 34 = .ok (.iinc 1 1, 3) := dk_132 1 1 (dk_at dksX5_keepsPast_1 10 rfl rfl)
theorem dX5_keepsPast_37 : decode cX5_keepsPast 37 = .ok (.goto (-26), 3) := dk_167 255 230 (dk_at dksX5_keepsPast_1 13 rfl rfl)
theorem dX5_keepsPast_40 : decode cX5_keepsPast 40 = .ok (.aload_n 0, 1) := dk_42 (dk_at dksX5_keepsPast_1 16 rfl rfl)
theorem dX5_keepsPast_41 : decode cX5_keepsPast 41 = .ok (.getfield 94, 3) := dk_180 0 94 (dk_at dksX5_keepsPast_1 17 rfl rfl)
theorem dX5_keepsPast_44 : decode cX5_keepsPast 44 = .ok (.bipush 6, 2) := dk_16 6 (dk_at dksX5_keepsPast_1 20 rfl rfl)
theorem dX5_keepsPast_46 : decode cX5_keepsPast 46 = .ok (.if_icmp .ne 8, 3) := dk_160 0 8 (dk_at dksX5_keepsPast_2 0 rfl rfl)
theorem dX5_keepsPast_49 : decode cX5_keepsPast 49 = .ok (.aload_n 0, 1) := dk_42 (dk_at dksX5_keepsPast_2 3 rfl rfl)
theorem dX5_keepsPast_50 : decode cX5_keepsPast 50 = .ok (.iconst 5, 1) := dk_8 (dk_at dksX5_keepsPast_2 4 rfl rfl)
theorem dX5_keepsPast_51 : decode cX5_keepsPast 51 = .ok (.putfield 94, 3) := dk_181 0 94 (dk_at dksX5_keepsPast_2 5 rfl rfl)
theorem dX5_keepsPast_54 : decode cX5_keepsPast 54 = .ok (.iconst 0, 1) := dk_3 (dk_at dksX5_keepsPast_2 8 rfl rfl)
theorem dX5_keepsPast_55 : decode cX5_keepsPast 55 = .ok (.istore_n 1, 1) := dk_60 (dk_at dksX5_keepsPast_2 9 rfl rfl)
theorem dX5_keepsPast_56 : decode cX5_keepsPast 56 = .ok (.iload_n 1, 1) := dk_27 (dk_at dksX5_keepsPast_2 10 rfl rfl)
theorem dX5_keepsPast_57 : decode cX5_keepsPast 57 = .ok (.sipush 940, 3) := dk_17 3 172 (dk_at dksX5_keepsPast_2 11 rfl rfl)
theorem dX5_keepsPast_60 : decode cX5_keepsPast 60 = .ok (.if_icmp .ge 30, 3) := dk_162 0 30 (dk_at dksX5_keepsPast_2 14 rfl rfl)
theorem dX5_keepsPast_63 : decode cX5_keepsPast 63 = .ok (.aload_n 0, 1) := dk_42 (dk_at dksX5_keepsPast_2 17 rfl rfl)
theorem dX5_keepsPast_64 : decode cX5_keepsPast 64 = .ok (.getfield 19, 3) := dk_180 0 19 (dk_at dksX5_keepsPast_2 18 rfl rfl)
theorem dX5_keepsPast_67 : decode cX5_keepsPast 67 = .ok (.sipush 940, 3) := dk_17 3 172 (dk_at dksX5_keepsPast_2 21 rfl rfl)
theorem dX5_keepsPast_70 : decode cX5_keepsPast 70 = .ok (.aload_n 0, 1) := dk_42 (dk_at dksX5_keepsPast_3 0 rfl rfl)
theorem dX5_keepsPast_71 : decode cX5_keepsPast 71 = .ok (.getfield 94, 3) := dk_180 0 94 (dk_at dksX5_keepsPast_3 1 rfl rfl)
theorem dX5_keepsPast_74 : decode cX5_keepsPast 74 = .ok (.imul, 1) := dk_104 (dk_at dksX5_keepsPast_3 4 rfl rfl)
theorem dX5_keepsPast_75 : decode cX5_keepsPast 75 = .ok (.iload_n 1, 1) := dk_27 (dk_at dksX5_keepsPast_3 5 rfl rfl)
theorem dX5_keepsPast_76 : decode cX5_keepsPast 76 = .ok (.iadd, 1) := dk_96 (dk_at dksX5_keepsPast_3 6 rfl rfl)
theorem dX5_keepsPast_77 : decode cX5_keepsPast 77 = .ok (.aload_n 0, 1) := dk_42 (dk_at dksX5_keepsPast_3 7 rfl rfl)
theorem dX5_keepsPast_78 : decode cX5_keepsPast 78 = .ok (.getfield 9, 3) := dk_180 0 9 (dk_at dksX5_keepsPast_3 8 rfl rfl)
theorem dX5_keepsPast_81 : decode cX5_keepsPast 81 = .ok (.iload_n 1, 1) := dk_27 (dk_at dksX5_keepsPast_3 11 rfl rfl)
theorem dX5_keepsPast_82 : decode cX5_keepsPast 82 = .ok (.iaload, 1) := dk_46 (dk_at dksX5_keepsPast_3 12 rfl rfl)
theorem dX5_keepsPast_83 : decode cX5_keepsPast 83 = .ok (.iastore, 1) := dk_79 (dk_at dksX5_keepsPast_3 13 rfl rfl)
theorem dX5_keepsPast_84 : decode cX5_keepsPast 84 = .ok (.iinc 1 1, 3) := dk_132 1 1 (dk_at dksX5_keepsPast_3 14 rfl rfl)
theorem dX5_keepsPast_87 : decode cX5_keepsPast 87 = .ok (.goto (-31), 3) := dk_167 255 225 (dk_at dksX5_keepsPast_3 17 rfl rfl)
theorem dX5_keepsPast_90 : decode cX5_keepsPast 90 = .ok (.aload_n 0, 1) := dk_42 (dk_at dksX5_keepsPast_3 20 rfl rfl)
theorem dX5_keepsPast_91 : decode cX5_keepsPast 91 = .ok (.dup, 1) := dk_89 (dk_at dksX5_keepsPast_3 21 rfl rfl)
theorem dX5_keepsPast_92 : decode cX5_keepsPast 92 = .ok (.getfield 94, 3) := dk_180 0 94 (dk_at dksX5_keepsPast_4 0 rfl rfl)
theorem dX5_keepsPast_95 : decode cX5_keepsPast 95 = .ok (.iconst 1, 1) := dk_4 (dk_at dksX5_keepsPast_4 3 rfl rfl)
theorem dX5_keepsPast_96 : decode cX5_keepsPast 96 = .ok (.iadd, 1) := dk_96 (dk_at dksX5_keepsPast_4 4 rfl rfl)
theorem dX5_keepsPast_97 : decode cX5_keepsPast 97 = .ok (.putfield 94, 3) := dk_181 0 94 (dk_at dksX5_keepsPast_4 5 rfl rfl)
theorem dX5_keepsPast_100 : decode cX5_keepsPast 100 = .ok (.return_, 1) := dk_177 (dk_at dksX5_keepsPast_4 8 rfl rfl)
abbrev cX5_sumOf : ByteArray := prog_17_method_69_code
def yX5_sumOf : MethodName := ⟨RX5, "sumOf", "(I)I"⟩
def dkwX5_sumOf_1 : List UInt8 := [61, 132, 3, 1, 167, 255, 232, 28, 172]
abbrev dktX5_sumOf_1 : List UInt8 := dkwX5_sumOf_1 ++ []
def dkwX5_sumOf_0 : List UInt8 := [3, 61, 3, 62, 29, 42, 180, 0, 13, 17, 3, 172, 46, 162, 0, 18, 28, 42, 29, 27, 182, 0, 104, 96]
abbrev dktX5_sumOf_0 : List UInt8 := dkwX5_sumOf_0 ++ dktX5_sumOf_1
theorem dksX5_sumOf_0 : cX5_sumOf.data.toList.drop 0 = dktX5_sumOf_0 := by decide +kernel
theorem dksX5_sumOf_1 : cX5_sumOf.data.toList.drop 24 = dktX5_sumOf_1 := dk_seg dksX5_sumOf_0 24 rfl rfl
theorem dX5_sumOf_0 : decode cX5_sumOf 0 = .ok (.iconst 0, 1) := dk_3 (dk_at dksX5_sumOf_0 0 rfl rfl)
theorem dX5_sumOf_1 : decode cX5_sumOf 1 = .ok (.istore_n 2, 1) := dk_61 (dk_at dksX5_sumOf_0 1 rfl rfl)
theorem dX5_sumOf_2 : decode cX5_sumOf 2 = .ok (.iconst 0, 1) := dk_3 (dk_at dksX5_sumOf_0 2 rfl rfl)
theorem dX5_sumOf_3 : decode cX5_sumOf 3 = .ok (.istore_n 3, 1) := dk_62 (dk_at dksX5_sumOf_0 3 rfl rfl)
theorem dX5_sumOf_4 : decode cX5_sumOf 4 = .ok (.iload_n 3, 1) := dk_29 (dk_at dksX5_sumOf_0 4 rfl rfl)
theorem dX5_sumOf_5 : decode cX5_sumOf 5 = .ok (.aload_n 0, 1) := dk_42 (dk_at dksX5_sumOf_0 5 rfl rfl)
theorem dX5_sumOf_6 : decode cX5_sumOf 6 = .ok (.getfield 13, 3) := dk_180 0 13 (dk_at dksX5_sumOf_0 6 rfl rfl)
theorem dX5_sumOf_9 : decode cX5_sumOf 9 = .ok (.sipush 940, 3) := dk_17 3 172 (dk_at dksX5_sumOf_0 9 rfl rfl)
theorem dX5_sumOf_12 : decode cX5_sumOf 12 = .ok (.iaload, 1) := dk_46 (dk_at dksX5_sumOf_0 12 rfl rfl)
theorem dX5_sumOf_13 : decode cX5_sumOf 13 = .ok (.if_icmp .ge 18, 3) := dk_162 0 18 (dk_at dksX5_sumOf_0 13 rfl rfl)
theorem dX5_sumOf_16 : decode cX5_sumOf 16 = .ok (.iload_n 2, 1) := dk_28 (dk_at dksX5_sumOf_0 16 rfl rfl)
theorem dX5_sumOf_17 : decode cX5_sumOf 17 = .ok (.aload_n 0, 1) := dk_42 (dk_at dksX5_sumOf_0 17 rfl rfl)
theorem dX5_sumOf_18 : decode cX5_sumOf 18 = .ok (.iload_n 3, 1) := dk_29 (dk_at dksX5_sumOf_0 18 rfl rfl)
theorem dX5_sumOf_19 : decode cX5_sumOf 19 = .ok (.iload_n 1, 1) := dk_27 (dk_at dksX5_sumOf_0 19 rfl rfl)
theorem dX5_sumOf_20 : decode cX5_sumOf 20 = .ok (.invokevirtual 104, 3) := dk_182 0 104 (dk_at dksX5_sumOf_0 20 rfl rfl)
theorem dX5_sumOf_23 : decode cX5_sumOf 23 = .ok (.iadd, 1) := dk_96 (dk_at dksX5_sumOf_0 23 rfl rfl)
theorem dX5_sumOf_24 : decode cX5_sumOf 24 = .ok (.istore_n 2, 1) := dk_61 (dk_at dksX5_sumOf_1 0 rfl rfl)
theorem dX5_sumOf_25 : decode cX5_sumOf 25 = .ok (.iinc 3 1, 3) := dk_132 3 1 (dk_at dksX5_sumOf_1 1 rfl rfl)
theorem dX5_sumOf_28 : decode cX5_sumOf 28 = .ok (.goto (-24), 3) := dk_167 255 232 (dk_at dksX5_sumOf_1 4 rfl rfl)
theorem dX5_sumOf_31 : decode cX5_sumOf 31 = .ok (.iload_n 2, 1) := dk_28 (dk_at dksX5_sumOf_1 7 rfl rfl)
theorem dX5_sumOf_32 : decode cX5_sumOf 32 = .ok (.ireturn, 1) := dk_172 (dk_at dksX5_sumOf_1 8 rfl rfl)
abbrev cX5_state : ByteArray := prog_17_method_71_code
def yX5_state : MethodName := ⟨RX5, "state", "(I)I"⟩
def dkwX5_state_1 : List UInt8 := [172]
abbrev dktX5_state_1 : List UInt8 := dkwX5_state_1 ++ []
def dkwX5_state_0 : List UInt8 := [42, 180, 0, 9, 17, 3, 170, 46, 61, 42, 180, 0, 9, 17, 3, 170, 27, 79, 42, 3, 181, 0, 94, 28]
abbrev dktX5_state_0 : List UInt8 := dkwX5_state_0 ++ dktX5_state_1
theorem dksX5_state_0 : cX5_state.data.toList.drop 0 = dktX5_state_0 := by decide +kernel
theorem dksX5_state_1 : cX5_state.data.toList.drop 24 = dktX5_state_1 := dk_seg dksX5_state_0 24 rfl rfl
theorem dX5_state_0 : decode cX5_state 0 = .ok (.aload_n 0, 1) := dk_42 (dk_at dksX5_state_0 0 rfl rfl)
theorem dX5_state_1 : decode cX5_state 1 = .ok (.getfield 9, 3) := dk_180 0 9 (dk_at dksX5_state_0 1 rfl rfl)
theorem dX5_state_4 : decode cX5_state 4 = .ok (.sipush 938, 3) := dk_17 3 170 (dk_at dksX5_state_0 4 rfl rfl)
theorem dX5_state_7 : decode cX5_state 7 = .ok (.iaload, 1) := dk_46 (dk_at dksX5_state_0 7 rfl rfl)
theorem dX5_state_8 : decode cX5_state 8 = .ok (.istore_n 2, 1) := dk_61 (dk_at dksX5_state_0 8 rfl rfl)
theorem dX5_state_9 : decode cX5_state 9 = .ok (.aload_n 0, 1) := dk_42 (dk_at dksX5_state_0 9 rfl rfl)
theorem dX5_state_10 : decode cX5_state 10 = .ok (.getfield 9, 3) := dk_180 0 9 (dk_at dksX5_state_0 10 rfl rfl)
theorem dX5_state_13 : decode cX5_state 13 = .ok (.sipush 938, 3) := dk_17 3 170 (dk_at dksX5_state_0 13 rfl rfl)
theorem dX5_state_16 : decode cX5_state 16 = .ok (.iload_n 1, 1) := dk_27 (dk_at dksX5_state_0 16 rfl rfl)
theorem dX5_state_17 : decode cX5_state 17 = .ok (.iastore, 1) := dk_79 (dk_at dksX5_state_0 17 rfl rfl)
theorem dX5_state_18 : decode cX5_state 18 = .ok (.aload_n 0, 1) := dk_42 (dk_at dksX5_state_0 18 rfl rfl)
theorem dX5_state_19 : decode cX5_state 19 = .ok (.iconst 0, 1) := dk_3 (dk_at dksX5_state_0 19 rfl rfl)
theorem dX5_state_20 : decode cX5_state 20 = .ok (.putfield 94, 3) := dk_181 0 94 (dk_at dksX5_state_0 20 rfl rfl)
theorem dX5_state_23 : decode cX5_state 23 = .ok (.iload_n 2, 1) := dk_28 (dk_at dksX5_state_0 23 rfl rfl)
theorem dX5_state_24 : decode cX5_state 24 = .ok (.ireturn, 1) := dk_172 (dk_at dksX5_state_1 0 rfl rfl)
abbrev cX5_walker : ByteArray := prog_17_method_72_code
def yX5_walker : MethodName := ⟨RX5, "walker", "(I)I"⟩
def dkwX5_walker_3 : List UInt8 := [46, 4, 100, 172]
abbrev dktX5_walker_3 : List UInt8 := dkwX5_walker_3 ++ []
def dkwX5_walker_2 : List UInt8 := [42, 180, 0, 9, 17, 3, 172, 92, 46, 4, 96, 79, 42, 3, 181, 0, 94, 42, 180, 0, 9, 17, 3, 172]
abbrev dktX5_walker_2 : List UInt8 := dkwX5_walker_2 ++ dktX5_walker_3
def dkwX5_walker_1 : List UInt8 := [172, 42, 180, 0, 9, 17, 0, 144, 16, 12, 42, 180, 0, 9, 17, 3, 172, 46, 104, 96, 3, 96, 27, 79]
abbrev dktX5_walker_1 : List UInt8 := dkwX5_walker_1 ++ dktX5_walker_2
def dkwX5_walker_0 : List UInt8 := [27, 3, 16, 9, 184, 0, 100, 153, 0, 16, 42, 180, 0, 9, 17, 3, 172, 46, 16, 16, 160, 0, 5, 2]
abbrev dktX5_walker_0 : List UInt8 := dkwX5_walker_0 ++ dktX5_walker_1
theorem dksX5_walker_0 : cX5_walker.data.toList.drop 0 = dktX5_walker_0 := by decide +kernel
theorem dksX5_walker_1 : cX5_walker.data.toList.drop 24 = dktX5_walker_1 := dk_seg dksX5_walker_0 24 rfl rfl
theorem dksX5_walker_2 : cX5_walker.data.toList.drop 48 = dktX5_walker_2 := dk_seg dksX5_walker_1 24 rfl rfl
theorem dksX5_walker_3 : cX5_walker.data.toList.drop 72 = dktX5_walker_3 := dk_seg dksX5_walker_2 24 rfl rfl
theorem dX5_walker_0 : decode cX5_walker 0 = .ok (.iload_n 1, 1) := dk_27 (dk_at dksX5_walker_0 0 rfl rfl)
theorem dX5_walker_1 : decode cX5_walker 1 = .ok (.iconst 0, 1) := dk_3 (dk_at dksX5_walker_0 1 rfl rfl)
theorem dX5_walker_2 : decode cX5_walker 2 = .ok (.bipush 9, 2) := dk_16 9 (dk_at dksX5_walker_0 2 rfl rfl)
theorem dX5_walker_4 : decode cX5_walker 4 = .ok (.invokestatic 100, 3) := dk_184 0 100 (dk_at dksX5_walker_0 4 rfl rfl)
theorem dX5_walker_7 : decode cX5_walker 7 = .ok (.ifCond .eq 16, 3) := dk_153 0 16 (dk_at dksX5_walker_0 7 rfl rfl)
theorem dX5_walker_10 : decode cX5_walker 10 = .ok (.aload_n 0, 1) := dk_42 (dk_at dksX5_walker_0 10 rfl rfl)
theorem dX5_walker_11 : decode cX5_walker 11 = .ok (.getfield 9, 3) := dk_180 0 9 (dk_at dksX5_walker_0 11 rfl rfl)
theorem dX5_walker_14 : decode cX5_walker 14 = .ok (.sipush 940, 3) := dk_17 3 172 (dk_at dksX5_walker_0 14 rfl rfl)
theorem dX5_walker_17 : decode cX5_walker 17 = .ok (.iaload, 1) := dk_46 (dk_at dksX5_walker_0 17 rfl rfl)
theorem dX5_walker_18 : decode cX5_walker 18 = .ok (.bipush 16, 2) := dk_16 16 (dk_at dksX5_walker_0 18 rfl rfl)
theorem dX5_walker_20 : decode cX5_walker 20 = .ok (.if_icmp .ne 5, 3) := dk_160 0 5 (dk_at dksX5_walker_0 20 rfl rfl)
theorem dX5_walker_23 : decode cX5_walker 23 = .ok (.iconst (-1), 1) := dk_2 (dk_at dksX5_walker_0 23 rfl rfl)
theorem dX5_walker_24 : decode cX5_walker 24 = .ok (.ireturn, 1) := dk_172 (dk_at dksX5_walker_1 0 rfl rfl)
theorem dX5_walker_25 : decode cX5_walker 25 = .ok (.aload_n 0, 1) := dk_42 (dk_at dksX5_walker_1 1 rfl rfl)
theorem dX5_walker_26 : decode cX5_walker 26 = .ok (.getfield 9, 3) := dk_180 0 9 (dk_at dksX5_walker_1 2 rfl rfl)
theorem dX5_walker_29 : decode cX5_walker 29 = .ok (.sipush 144, 3) := dk_17 0 144 (dk_at dksX5_walker_1 5 rfl rfl)
theorem dX5_walker_32 : decode cX5_walker 32 = .ok (.bipush 12, 2) := dk_16 12 (dk_at dksX5_walker_1 8 rfl rfl)
theorem dX5_walker_34 : decode cX5_walker 34 = .ok (.aload_n 0, 1) := dk_42 (dk_at dksX5_walker_1 10 rfl rfl)
theorem dX5_walker_35 : decode cX5_walker 35 = .ok (.getfield 9, 3) := dk_180 0 9 (dk_at dksX5_walker_1 11 rfl rfl)
theorem dX5_walker_38 : decode cX5_walker 38 = .ok (.sipush 940, 3) := dk_17 3 172 (dk_at dksX5_walker_1 14 rfl rfl)
theorem dX5_walker_41 : decode cX5_walker 41 = .ok (.iaload, 1) := dk_46 (dk_at dksX5_walker_1 17 rfl rfl)
theorem dX5_walker_42 : decode cX5_walker 42 = .ok (.imul, 1) := dk_104 (dk_at dksX5_walker_1 18 rfl rfl)
theorem dX5_walker_43 : decode cX5_walker 43 = .ok (.iadd, 1) := dk_96 (dk_at dksX5_walker_1 19 rfl rfl)
theorem dX5_walker_44 : decode cX5_walker 44 = .ok (.iconst 0, 1) := dk_3 (dk_at dksX5_walker_1 20 rfl rfl)
theorem dX5_walker_45 : decode cX5_walker 45 = .ok (.iadd, 1) := dk_96 (dk_at dksX5_walker_1 21 rfl rfl)
theorem dX5_walker_46 : decode cX5_walker 46 = .ok (.iload_n 1, 1) := dk_27 (dk_at dksX5_walker_1 22 rfl rfl)
theorem dX5_walker_47 : decode cX5_walker 47 = .ok (.iastore, 1) := dk_79 (dk_at dksX5_walker_1 23 rfl rfl)
theorem dX5_walker_48 : decode cX5_walker 48 = .ok (.aload_n 0, 1) := dk_42 (dk_at dksX5_walker_2 0 rfl rfl)
theorem dX5_walker_49 : decode cX5_walker 49 = .ok (.getfield 9, 3) := dk_180 0 9 (dk_at dksX5_walker_2 1 rfl rfl)
theorem dX5_walker_52 : decode cX5_walker 52 = .ok (.sipush 940, 3) := dk_17 3 172 (dk_at dksX5_walker_2 4 rfl rfl)
theorem dX5_walker_55 : decode cX5_walker 55 = .ok (.dup2, 1) := dk_92 (dk_at dksX5_walker_2 7 rfl rfl)
theorem dX5_walker_56 : decode cX5_walker 56 = .ok (.iaload, 1) := dk_46 (dk_at dksX5_walker_2 8 rfl rfl)
theorem dX5_walker_57 : decode cX5_walker 57 = .ok (.iconst 1, 1) := dk_4 (dk_at dksX5_walker_2 9 rfl rfl)
theorem dX5_walker_58 : decode cX5_walker 58 = .ok (.iadd, 1) := dk_96 (dk_at dksX5_walker_2 10 rfl rfl)
theorem dX5_walker_59 : decode cX5_walker 59 = .ok (.iastore, 1) := dk_79 (dk_at dksX5_walker_2 11 rfl rfl)
theorem dX5_walker_60 : decode cX5_walker 60 = .ok (.aload_n 0, 1) := dk_42 (dk_at dksX5_walker_2 12 rfl rfl)
theorem dX5_walker_61 : decode cX5_walker 61 = .ok (.iconst 0, 1) := dk_3 (dk_at dksX5_walker_2 13 rfl rfl)
theorem dX5_walker_62 : decode cX5_walker 62 = .ok (.putfield 94, 3) := dk_181 0 94 (dk_at dksX5_walker_2 14 rfl rfl)
theorem dX5_walker_65 : decode cX5_walker 65 = .ok (.aload_n 0, 1) := dk_42 (dk_at dksX5_walker_2 17 rfl rfl)
theorem dX5_walker_66 : decode cX5_walker 66 = .ok (.getfield 9, 3) := dk_180 0 9 (dk_at dksX5_walker_2 18 rfl rfl)
theorem dX5_walker_69 : decode cX5_walker 69 = .ok (.sipush 940, 3) := dk_17 3 172 (dk_at dksX5_walker_2 21 rfl rfl)
theorem dX5_walker_72 : decode cX5_walker 72 = .ok (.iaload, 1) := dk_46 (dk_at dksX5_walker_3 0 rfl rfl)
theorem dX5_walker_73 : decode cX5_walker 73 = .ok (.iconst 1, 1) := dk_4 (dk_at dksX5_walker_3 1 rfl rfl)
theorem dX5_walker_74 : decode cX5_walker 74 = .ok (.isub, 1) := dk_100 (dk_at dksX5_walker_3 2 rfl rfl)
theorem dX5_walker_75 : decode cX5_walker 75 = .ok (.ireturn, 1) := dk_172 (dk_at dksX5_walker_3 3 rfl rfl)
abbrev cX5_comes : ByteArray := prog_17_method_74_code
def yX5_comes : MethodName := ⟨RX5, "comes", "(III)Z"⟩
def dkwX5_comes_7 : List UInt8 := [132, 6, 1, 167, 255, 231, 42, 3, 27, 42, 27, 182, 0, 111, 182, 1, 17, 42, 182, 1, 60, 4, 172]
abbrev dktX5_comes_7 : List UInt8 := dkwX5_comes_7 ++ []
def dkwX5_comes_6 : List UInt8 := [54, 6, 21, 6, 16, 8, 163, 0, 24, 21, 6, 16, 7, 159, 0, 11, 42, 27, 21, 6, 3, 182, 1, 10]
abbrev dktX5_comes_6 : List UInt8 := dkwX5_comes_6 ++ dktX5_comes_7
def dkwX5_comes_5 : List UInt8 := [27, 6, 21, 5, 182, 1, 10, 42, 27, 7, 28, 182, 1, 10, 42, 27, 16, 7, 28, 182, 1, 10, 8]
abbrev dktX5_comes_5 : List UInt8 := dkwX5_comes_5 ++ dktX5_comes_6
def dkwX5_comes_4 : List UInt8 := [182, 1, 42, 154, 0, 5, 3, 172, 42, 27, 4, 4, 182, 1, 10, 42, 27, 5, 21, 4, 182, 1, 10, 42]
abbrev dktX5_comes_4 : List UInt8 := dkwX5_comes_4 ++ dktX5_comes_5
def dkwX5_comes_3 : List UInt8 := [167, 0, 4, 29, 54, 5, 42, 27, 4, 182, 0, 104, 4, 159, 0, 17, 42, 21, 4, 21, 5, 184, 0, 108]
abbrev dktX5_comes_3 : List UInt8 := dkwX5_comes_3 ++ dktX5_comes_4
def dkwX5_comes_2 : List UInt8 := [16, 11, 167, 0, 4, 29, 54, 4, 28, 154, 0, 7, 3, 167, 0, 14, 28, 5, 160, 0, 8, 16, 11]
abbrev dktX5_comes_2 : List UInt8 := dkwX5_comes_2 ++ dktX5_comes_3
def dkwX5_comes_1 : List UInt8 := [154, 0, 5, 3, 172, 42, 182, 1, 54, 28, 4, 160, 0, 7, 3, 167, 0, 14, 28, 6, 160, 0, 8]
abbrev dktX5_comes_1 : List UInt8 := dkwX5_comes_1 ++ dktX5_comes_2
def dkwX5_comes_0 : List UInt8 := [42, 27, 182, 1, 66, 153, 0, 22, 28, 3, 6, 184, 0, 100, 153, 0, 13, 29, 3, 16, 11, 184, 0, 100]
abbrev dktX5_comes_0 : List UInt8 := dkwX5_comes_0 ++ dktX5_comes_1
theorem dksX5_comes_0 : cX5_comes.data.toList.drop 0 = dktX5_comes_0 := by decide +kernel
theorem dksX5_comes_1 : cX5_comes.data.toList.drop 24 = dktX5_comes_1 := dk_seg dksX5_comes_0 24 rfl rfl
theorem dksX5_comes_2 : cX5_comes.data.toList.drop 47 = dktX5_comes_2 := dk_seg dksX5_comes_1 23 rfl rfl
theorem dksX5_comes_3 : cX5_comes.data.toList.drop 70 = dktX5_comes_3 := dk_seg dksX5_comes_2 23 rfl rfl
theorem dksX5_comes_4 : cX5_comes.data.toList.drop 94 = dktX5_comes_4 := dk_seg dksX5_comes_3 24 rfl rfl
theorem dksX5_comes_5 : cX5_comes.data.toList.drop 118 = dktX5_comes_5 := dk_seg dksX5_comes_4 24 rfl rfl
theorem dksX5_comes_6 : cX5_comes.data.toList.drop 141 = dktX5_comes_6 := dk_seg dksX5_comes_5 23 rfl rfl
theorem dksX5_comes_7 : cX5_comes.data.toList.drop 165 = dktX5_comes_7 := dk_seg dksX5_comes_6 24 rfl rfl
theorem dX5_comes_0 : decode cX5_comes 0 = .ok (.aload_n 0, 1) := dk_42 (dk_at dksX5_comes_0 0 rfl rfl)
theorem dX5_comes_1 : decode cX5_comes 1 = .ok (.iload_n 1, 1) := dk_27 (dk_at dksX5_comes_0 1 rfl rfl)
theorem dX5_comes_2 : decode cX5_comes 2 = .ok (.invokevirtual 322, 3) := dk_182 1 66 (dk_at dksX5_comes_0 2 rfl rfl)
theorem dX5_comes_5 : decode cX5_comes 5 = .ok (.ifCond .eq 22, 3) := dk_153 0 22 (dk_at dksX5_comes_0 5 rfl rfl)
theorem dX5_comes_8 : decode cX5_comes 8 = .ok (.iload_n 2, 1) := dk_28 (dk_at dksX5_comes_0 8 rfl rfl)
theorem dX5_comes_9 : decode cX5_comes 9 = .ok (.iconst 0, 1) := dk_3 (dk_at dksX5_comes_0 9 rfl rfl)
theorem dX5_comes_10 : decode cX5_comes 10 = .ok (.iconst 3, 1) := dk_6 (dk_at dksX5_comes_0 10 rfl rfl)
theorem dX5_comes_11 : decode cX5_comes 11 = .ok (.invokestatic 100, 3) := dk_184 0 100 (dk_at dksX5_comes_0 11 rfl rfl)
theorem dX5_comes_14 : decode cX5_comes 14 = .ok (.ifCond .eq 13, 3) := dk_153 0 13 (dk_at dksX5_comes_0 14 rfl rfl)
theorem dX5_comes_17 : decode cX5_comes 17 = .ok (.iload_n 3, 1) := dk_29 (dk_at dksX5_comes_0 17 rfl rfl)
theorem dX5_comes_18 : decode cX5_comes 18 = .ok (.iconst 0, 1) := dk_3 (dk_at dksX5_comes_0 18 rfl rfl)
theorem dX5_comes_19 : decode cX5_comes 19 = .ok (.bipush 11, 2) := dk_16 11 (dk_at dksX5_comes_0 19 rfl rfl)
theorem dX5_comes_21 : decode cX5_comes 21 = .ok (.invokestatic 100, 3) := dk_184 0 100 (dk_at dksX5_comes_0 21 rfl rfl)
theorem dX5_comes_24 : decode cX5_comes 24 = .ok (.ifCond .ne 5, 3) := dk_154 0 5 (dk_at dksX5_comes_1 0 rfl rfl)
theorem dX5_comes_27 : decode cX5_comes 27 = .ok (.iconst 0, 1) := dk_3 (dk_at dksX5_comes_1 3 rfl rfl)
theorem dX5_comes_28 : decode cX5_comes 28 = .ok (.ireturn, 1) := dk_172 (dk_at dksX5_comes_1 4 rfl rfl)
theorem dX5_comes_29 : decode cX5_comes 29 = .ok (.aload_n 0, 1) := dk_42 (dk_at dksX5_comes_1 5 rfl rfl)
theorem dX5_comes_30 : decode cX5_comes 30 = .ok (.invokevirtual 310, 3) := dk_182 1 54 (dk_at dksX5_comes_1 6 rfl rfl)
theorem dX5_comes_33 : decode cX5_comes 33 = .ok (.iload_n 2, 1) := dk_28 (dk_at dksX5_comes_1 9 rfl rfl)
theorem dX5_comes_34 : decode cX5_comes 34 = .ok (.iconst 1, 1) := dk_4 (dk_at dksX5_comes_1 10 rfl rfl)
theorem dX5_comes_35 : decode cX5_comes 35 = .ok (.if_icmp .ne 7, 3) := dk_160 0 7 (dk_at dksX5_comes_1 11 rfl rfl)
theorem dX5_comes_38 : decode cX5_comes 38 = .ok (.iconst 0, 1) := dk_3 (dk_at dksX5_comes_1 14 rfl rfl)
theorem dX5_comes_39 : decode cX5_comes 39 = .ok (.goto 14, 3) := dk_167 0 14 (dk_at dksX5_comes_1 15 rfl rfl)
theorem dX5_comes_42 : decode cX5_comes 42 = .ok (.iload_n 2, 1) := dk_28 (dk_at dksX5_comes_1 18 rfl rfl)
theorem dX5_comes_43 : decode cX5_comes 43 = .ok (.iconst 3, 1) := dk_6 (dk_at dksX5_comes_1 19 rfl rfl)
theorem dX5_comes_44 : decode cX5_comes 44 = .ok (.if_icmp .ne 8, 3) := dk_160 0 8 (dk_at dksX5_comes_1 20 rfl rfl)
theorem dX5_comes_47 : decode cX5_comes 47 = .ok (.bipush 11, 2) := dk_16 11 (dk_at dksX5_comes_2 0 rfl rfl)
theorem dX5_comes_49 : decode cX5_comes 49 = .ok (.goto 4, 3) := dk_167 0 4 (dk_at dksX5_comes_2 2 rfl rfl)
theorem dX5_comes_52 : decode cX5_comes 52 = .ok (.iload_n 3, 1) := dk_29 (dk_at dksX5_comes_2 5 rfl rfl)
theorem dX5_comes_53 : decode cX5_comes 53 = .ok (.istore 4, 2) := dk_54 4 (dk_at dksX5_comes_2 6 rfl rfl)
theorem dX5_comes_55 : decode cX5_comes 55 = .ok (.iload_n 2, 1) := dk_28 (dk_at dksX5_comes_2 8 rfl rfl)
theorem dX5_comes_56 : decode cX5_comes 56 = .ok (.ifCond .ne 7, 3) := dk_154 0 7 (dk_at dksX5_comes_2 9 rfl rfl)
theorem dX5_comes_59 : decode cX5_comes 59 = .ok (.iconst 0, 1) := dk_3 (dk_at dksX5_comes_2 12 rfl rfl)
theorem dX5_comes_60 : decode cX5_comes 60 = .ok (.goto 14, 3) := dk_167 0 14 (dk_at dksX5_comes_2 13 rfl rfl)
theorem dX5_comes_63 : decode cX5_comes 63 = .ok (.iload_n 2, 1) := dk_28 (dk_at dksX5_comes_2 16 rfl rfl)
theorem dX5_comes_64 : decode cX5_comes 64 = .ok (.iconst 2, 1) := dk_5 (dk_at dksX5_comes_2 17 rfl rfl)
theorem dX5_comes_65 : decode cX5_comes 65 = .ok (.if_icmp .ne 8, 3) := dk_160 0 8 (dk_at dksX5_comes_2 18 rfl rfl)
theorem dX5_comes_68 : decode cX5_comes 68 = .ok (.bipush 11, 2) := dk_16 11 (dk_at dksX5_comes_2 21 rfl rfl)
theorem dX5_comes_70 : decode cX5_comes 70 = .ok (.goto 4, 3) := dk_167 0 4 (dk_at dksX5_comes_3 0 rfl rfl)
theorem dX5_comes_73 : decode cX5_comes 73 = .ok (.iload_n 3, 1) := dk_29 (dk_at dksX5_comes_3 3 rfl rfl)
theorem dX5_comes_74 : decode cX5_comes 74 = .ok (.istore 5, 2) := dk_54 5 (dk_at dksX5_comes_3 4 rfl rfl)
theorem dX5_comes_76 : decode cX5_comes 76 = .ok (.aload_n 0, 1) := dk_42 (dk_at dksX5_comes_3 6 rfl rfl)
theorem dX5_comes_77 : decode cX5_comes 77 = .ok (.iload_n 1, 1) := dk_27 (dk_at dksX5_comes_3 7 rfl rfl)
theorem dX5_comes_78 : decode cX5_comes 78 = .ok (.iconst 1, 1) := dk_4 (dk_at dksX5_comes_3 8 rfl rfl)
theorem dX5_comes_79 : decode cX5_comes 79 = .ok (.invokevirtual 104, 3) := dk_182 0 104 (dk_at dksX5_comes_3 9 rfl rfl)
theorem dX5_comes_82 : decode cX5_comes 82 = .ok (.iconst 1, 1) := dk_4 (dk_at dksX5_comes_3 12 rfl rfl)
theorem dX5_comes_83 : decode cX5_comes 83 = .ok (.if_icmp .eq 17, 3) := dk_159 0 17 (dk_at dksX5_comes_3 13 rfl rfl)
theorem dX5_comes_86 : decode cX5_comes 86 = .ok (.aload_n 0, 1) := dk_42 (dk_at dksX5_comes_3 16 rfl rfl)
theorem dX5_comes_87 : decode cX5_comes 87 = .ok (.iload 4, 2) := dk_21 4 (dk_at dksX5_comes_3 17 rfl rfl)
theorem dX5_comes_89 : decode cX5_comes 89 = .ok (.iload 5, 2) := dk_21 5 (dk_at dksX5_comes_3 19 rfl rfl)
theorem dX5_comes_91 : decode cX5_comes 91 = .ok (.invokestatic 108, 3) := dk_184 0 108 (dk_at dksX5_comes_3 21 rfl rfl)
theorem dX5_comes_94 : decode cX5_comes 94 = .ok (.invokevirtual 298, 3) := dk_182 1 42 (dk_at dksX5_comes_4 0 rfl rfl)
theorem dX5_comes_97 : decode cX5_comes 97 = .ok (.ifCond .ne 5, 3) := dk_154 0 5 (dk_at dksX5_comes_4 3 rfl rfl)
theorem dX5_comes_100 : decode cX5_comes 100 = .ok (.iconst 0, 1) := dk_3 (dk_at dksX5_comes_4 6 rfl rfl)
theorem dX5_comes_101 : decode cX5_comes 101 = .ok (.ireturn, 1) := dk_172 (dk_at dksX5_comes_4 7 rfl rfl)
theorem dX5_comes_102 : decode cX5_comes 102 = .ok (.aload_n 0, 1) := dk_42 (dk_at dksX5_comes_4 8 rfl rfl)
theorem dX5_comes_103 : decode cX5_comes 103 = .ok (.iload_n 1, 1) := dk_27 (dk_at dksX5_comes_4 9 rfl rfl)
theorem dX5_comes_104 : decode cX5_comes 104 = .ok (.iconst 1, 1) := dk_4 (dk_at dksX5_comes_4 10 rfl rfl)
theorem dX5_comes_105 : decode cX5_comes 105 = .ok (.iconst 1, 1) := dk_4 (dk_at dksX5_comes_4 11 rfl rfl)
theorem dX5_comes_106 : decode cX5_comes 106 = .ok (.invokevirtual 266, 3) := dk_182 1 10 (dk_at dksX5_comes_4 12 rfl rfl)
theorem dX5_comes_109 : decode cX5_comes 109 = .ok (.aload_n 0, 1) := dk_42 (dk_at dksX5_comes_4 15 rfl rfl)
theorem dX5_comes_110 : decode cX5_comes 110 = .ok (.iload_n 1, 1) := dk_27 (dk_at dksX5_comes_4 16 rfl rfl)
theorem dX5_comes_111 : decode cX5_comes 111 = .ok (.iconst 2, 1) := dk_5 (dk_at dksX5_comes_4 17 rfl rfl)
theorem dX5_comes_112 : decode cX5_comes 112 = .ok (.iload 4, 2) := dk_21 4 (dk_at dksX5_comes_4 18 rfl rfl)
theorem dX5_comes_114 : decode cX5_comes 114 = .ok (.invokevirtual 266, 3) := dk_182 1 10 (dk_at dksX5_comes_4 20 rfl rfl)
theorem dX5_comes_117 : decode cX5_comes 117 = .ok (.aload_n 0, 1) := dk_42 (dk_at dksX5_comes_4 23 rfl rfl)
theorem dX5_comes_118 : decode cX5_comes 118 = .ok (.iload_n 1, 1) := dk_27 (dk_at dksX5_comes_5 0 rfl rfl)
theorem dX5_comes_119 : decode cX5_comes 119 = .ok (.iconst 3, 1) := dk_6 (dk_at dksX5_comes_5 1 rfl rfl)
theorem dX5_comes_120 : decode cX5_comes 120 = .ok (.iload 5, 2) := dk_21 5 (dk_at dksX5_comes_5 2 rfl rfl)
theorem dX5_comes_122 : decode cX5_comes 122 = .ok (.invokevirtual 266, 3) := dk_182 1 10 (dk_at dksX5_comes_5 4 rfl rfl)
theorem dX5_comes_125 : decode cX5_comes 125 = .ok (.aload_n 0, 1) := dk_42 (dk_at dksX5_comes_5 7 rfl rfl)
theorem dX5_comes_126 : decode cX5_comes 126 = .ok (.iload_n 1, 1) := dk_27 (dk_at dksX5_comes_5 8 rfl rfl)
theorem dX5_comes_127 : decode cX5_comes 127 = .ok (.iconst 4, 1) := dk_7 (dk_at dksX5_comes_5 9 rfl rfl)
theorem dX5_comes_128 : decode cX5_comes 128 = .ok (.iload_n 2, 1) := dk_28 (dk_at dksX5_comes_5 10 rfl rfl)
theorem dX5_comes_129 : decode cX5_comes 129 = .ok (.invokevirtual 266, 3) := dk_182 1 10 (dk_at dksX5_comes_5 11 rfl rfl)
theorem dX5_comes_132 : decode cX5_comes 132 = .ok (.aload_n 0, 1) := dk_42 (dk_at dksX5_comes_5 14 rfl rfl)
theorem dX5_comes_133 : decode cX5_comes 133 = .ok (.iload_n 1, 1) := dk_27 (dk_at dksX5_comes_5 15 rfl rfl)
theorem dX5_comes_134 : decode cX5_comes 134 = .ok (.bipush 7, 2) := dk_16 7 (dk_at dksX5_comes_5 16 rfl rfl)
theorem dX5_comes_136 : decode cX5_comes 136 = .ok (.iload_n 2, 1) := dk_28 (dk_at dksX5_comes_5 18 rfl rfl)
theorem dX5_comes_137 : decode cX5_comes 137 = .ok (.invokevirtual 266, 3) := dk_182 1 10 (dk_at dksX5_comes_5 19 rfl rfl)
theorem dX5_comes_140 : decode cX5_comes 140 = .ok (.iconst 5, 1) := dk_8 (dk_at dksX5_comes_5 22 rfl rfl)
theorem dX5_comes_141 : decode cX5_comes 141 = .ok (.istore 6, 2) := dk_54 6 (dk_at dksX5_comes_6 0 rfl rfl)
theorem dX5_comes_143 : decode cX5_comes 143 = .ok (.iload 6, 2) := dk_21 6 (dk_at dksX5_comes_6 2 rfl rfl)
theorem dX5_comes_145 : decode cX5_comes 145 = .ok (.bipush 8, 2) := dk_16 8 (dk_at dksX5_comes_6 4 rfl rfl)
theorem dX5_comes_147 : decode cX5_comes 147 = .ok (.if_icmp .gt 24, 3) := dk_163 0 24 (dk_at dksX5_comes_6 6 rfl rfl)
theorem dX5_comes_150 : decode cX5_comes 150 = .ok (.iload 6, 2) := dk_21 6 (dk_at dksX5_comes_6 9 rfl rfl)
theorem dX5_comes_152 : decode cX5_comes 152 = .ok (.bipush 7, 2) := dk_16 7 (dk_at dksX5_comes_6 11 rfl rfl)
theorem dX5_comes_154 : decode cX5_comes 154 = .ok (.if_icmp .eq 11, 3) := dk_159 0 11 (dk_at dksX5_comes_6 13 rfl rfl)
theorem dX5_comes_157 : decode cX5_comes 157 = .ok (.aload_n 0, 1) := dk_42 (dk_at dksX5_comes_6 16 rfl rfl)
theorem dX5_comes_158 : decode cX5_comes 158 = .ok (.iload_n 1, 1) := dk_27 (dk_at dksX5_comes_6 17 rfl rfl)
theorem dX5_comes_159 : decode cX5_comes 159 = .ok (.iload 6, 2) := dk_21 6 (dk_at dksX5_comes_6 18 rfl rfl)
theorem dX5_comes_161 : decode cX5_comes 161 = .ok (.iconst 0, 1) := dk_3 (dk_at dksX5_comes_6 20 rfl rfl)
theorem dX5_comes_162 : decode cX5_comes 162 = .ok (.invokevirtual 266, 3) := dk_182 1 10 (dk_at dksX5_comes_6 21 rfl rfl)
theorem dX5_comes_165 : decode cX5_comes 165 = .ok (.iinc 6 1, 3) := dk_132 6 1 (dk_at dksX5_comes_7 0 rfl rfl)
theorem dX5_comes_168 : decode cX5_comes 168 = .ok (.goto (-25), 3) := dk_167 255 231 (dk_at dksX5_comes_7 3 rfl rfl)
theorem dX5_comes_171 : decode cX5_comes 171 = .ok (.aload_n 0, 1) := dk_42 (dk_at dksX5_comes_7 6 rfl rfl)
theorem dX5_comes_172 : decode cX5_comes 172 = .ok (.iconst 0, 1) := dk_3 (dk_at dksX5_comes_7 7 rfl rfl)
theorem dX5_comes_173 : decode cX5_comes 173 = .ok (.iload_n 1, 1) := dk_27 (dk_at dksX5_comes_7 8 rfl rfl)
theorem dX5_comes_174 : decode cX5_comes 174 = .ok (.aload_n 0, 1) := dk_42 (dk_at dksX5_comes_7 9 rfl rfl)
theorem dX5_comes_175 : decode cX5_comes 175 = .ok (.iload_n 1, 1) := dk_27 (dk_at dksX5_comes_7 10 rfl rfl)
theorem dX5_comes_176 : decode cX5_comes 176 = .ok (.invokevirtual 111, 3) := dk_182 0 111 (dk_at dksX5_comes_7 11 rfl rfl)
theorem dX5_comes_179 : decode cX5_comes 179 = .ok (.invokevirtual 273, 3) := dk_182 1 17 (dk_at dksX5_comes_7 14 rfl rfl)
theorem dX5_comes_182 : decode cX5_comes 182 = .ok (.aload_n 0, 1) := dk_42 (dk_at dksX5_comes_7 17 rfl rfl)
theorem dX5_comes_183 : decode cX5_comes 183 = .ok (.invokevirtual 316, 3) := dk_182 1 60 (dk_at dksX5_comes_7 18 rfl rfl)
theorem dX5_comes_186 : decode cX5_comes 186 = .ok (.iconst 1, 1) := dk_4 (dk_at dksX5_comes_7 21 rfl rfl)
theorem dX5_comes_187 : decode cX5_comes 187 = .ok (.ireturn, 1) := dk_172 (dk_at dksX5_comes_7 22 rfl rfl)
abbrev cX5_isWalker : ByteArray := prog_17_method_73_code
def yX5_isWalker : MethodName := ⟨RX5, "isWalker", "(I)Z"⟩
def dkwX5_isWalker_0 : List UInt8 := [27, 3, 42, 180, 0, 9, 17, 3, 172, 46, 4, 100, 184, 0, 100, 172]
abbrev dktX5_isWalker_0 : List UInt8 := dkwX5_isWalker_0 ++ []
theorem dksX5_isWalker_0 : cX5_isWalker.data.toList.drop 0 = dktX5_isWalker_0 := by decide +kernel
theorem dX5_isWalker_0 : decode cX5_isWalker 0 = .ok (.iload_n 1, 1) := dk_27 (dk_at dksX5_isWalker_0 0 rfl rfl)
theorem dX5_isWalker_1 : decode cX5_isWalker 1 = .ok (.iconst 0, 1) := dk_3 (dk_at dksX5_isWalker_0 1 rfl rfl)
theorem dX5_isWalker_2 : decode cX5_isWalker 2 = .ok (.aload_n 0, 1) := dk_42 (dk_at dksX5_isWalker_0 2 rfl rfl)
theorem dX5_isWalker_3 : decode cX5_isWalker 3 = .ok (.getfield 9, 3) := dk_180 0 9 (dk_at dksX5_isWalker_0 3 rfl rfl)
theorem dX5_isWalker_6 : decode cX5_isWalker 6 = .ok (.sipush 940, 3) := dk_17 3 172 (dk_at dksX5_isWalker_0 6 rfl rfl)
theorem dX5_isWalker_9 : decode cX5_isWalker 9 = .ok (.iaload, 1) := dk_46 (dk_at dksX5_isWalker_0 9 rfl rfl)
theorem dX5_isWalker_10 : decode cX5_isWalker 10 = .ok (.iconst 1, 1) := dk_4 (dk_at dksX5_isWalker_0 10 rfl rfl)
theorem dX5_isWalker_11 : decode cX5_isWalker 11 = .ok (.isub, 1) := dk_100 (dk_at dksX5_isWalker_0 11 rfl rfl)
theorem dX5_isWalker_12 : decode cX5_isWalker 12 = .ok (.invokestatic 100, 3) := dk_184 0 100 (dk_at dksX5_isWalker_0 12 rfl rfl)
theorem dX5_isWalker_15 : decode cX5_isWalker 15 = .ok (.ireturn, 1) := dk_172 (dk_at dksX5_isWalker_0 15 rfl rfl)
abbrev cX5_turn : ByteArray := prog_17_method_75_code
def yX5_turn : MethodName := ⟨RX5, "turn", "(II)Z"⟩
def dkwX5_turn_1 : List UInt8 := [27, 4, 182, 0, 104, 154, 0, 5, 3, 172, 42, 27, 28, 182, 1, 48, 42, 182, 1, 60, 4, 172]
abbrev dktX5_turn_1 : List UInt8 := dkwX5_turn_1 ++ []
def dkwX5_turn_0 : List UInt8 := [42, 27, 182, 1, 66, 153, 0, 12, 28, 3, 5, 184, 0, 100, 154, 0, 5, 3, 172, 42, 182, 1, 54, 42]
abbrev dktX5_turn_0 : List UInt8 := dkwX5_turn_0 ++ dktX5_turn_1
theorem dksX5_turn_0 : cX5_turn.data.toList.drop 0 = dktX5_turn_0 := by decide +kernel
theorem dksX5_turn_1 : cX5_turn.data.toList.drop 24 = dktX5_turn_1 := dk_seg dksX5_turn_0 24 rfl rfl
theorem dX5_turn_0 : decode cX5_turn 0 = .ok (.aload_n 0, 1) := dk_42 (dk_at dksX5_turn_0 0 rfl rfl)
theorem dX5_turn_1 : decode cX5_turn 1 = .ok (.iload_n 1, 1) := dk_27 (dk_at dksX5_turn_0 1 rfl rfl)
theorem dX5_turn_2 : decode cX5_turn 2 = .ok (.invokevirtual 322, 3) := dk_182 1 66 (dk_at dksX5_turn_0 2 rfl rfl)
theorem dX5_turn_5 : decode cX5_turn 5 = .ok (.ifCond .eq 12, 3) := dk_153 0 12 (dk_at dksX5_turn_0 5 rfl rfl)
theorem dX5_turn_8 : decode cX5_turn 8 = .ok (.iload_n 2, 1) := dk_28 (dk_at dksX5_turn_0 8 rfl rfl)
theorem dX5_turn_9 : decode cX5_turn 9 = .ok (.iconst 0, 1) := dk_3 (dk_at dksX5_turn_0 9 rfl rfl)
theorem dX5_turn_10 : decode cX5_turn 10 = .ok (.iconst 2, 1) := dk_5 (dk_at dksX5_turn_0 10 rfl rfl)
theorem dX5_turn_11 : decode cX5_turn 11 = .ok (.invokestatic 100, 3) := dk_184 0 100 (dk_at dksX5_turn_0 11 rfl rfl)
theorem dX5_turn_14 : decode cX5_turn 14 = .ok (.ifCond .ne 5, 3) := dk_154 0 5 (dk_at dksX5_turn_0 14 rfl rfl)
theorem dX5_turn_17 : decode cX5_turn 17 = .ok (.iconst 0, 1) := dk_3 (dk_at dksX5_turn_0 17 rfl rfl)
theorem dX5_turn_18 : decode cX5_turn 18 = .ok (.ireturn, 1) := dk_172 (dk_at dksX5_turn_0 18 rfl rfl)
theorem dX5_turn_19 : decode cX5_turn 19 = .ok (.aload_n 0, 1) := dk_42 (dk_at dksX5_turn_0 19 rfl rfl)
theorem dX5_turn_20 : decode cX5_turn 20 = .ok (.invokevirtual 310, 3) := dk_182 1 54 (dk_at dksX5_turn_0 20 rfl rfl)
theorem dX5_turn_23 : decode cX5_turn 23 = .ok (.aload_n 0, 1) := dk_42 (dk_at dksX5_turn_0 23 rfl rfl)
theorem dX5_turn_24 : decode cX5_turn 24 = .ok (.iload_n 1, 1) := dk_27 (dk_at dksX5_turn_1 0 rfl rfl)
theorem dX5_turn_25 : decode cX5_turn 25 = .ok (.iconst 1, 1) := dk_4 (dk_at dksX5_turn_1 1 rfl rfl)
theorem dX5_turn_26 : decode cX5_turn 26 = .ok (.invokevirtual 104, 3) := dk_182 0 104 (dk_at dksX5_turn_1 2 rfl rfl)
theorem dX5_turn_29 : decode cX5_turn 29 = .ok (.ifCond .ne 5, 3) := dk_154 0 5 (dk_at dksX5_turn_1 5 rfl rfl)
theorem dX5_turn_32 : decode cX5_turn 32 = .ok (.iconst 0, 1) := dk_3 (dk_at dksX5_turn_1 8 rfl rfl)
theorem dX5_turn_33 : decode cX5_turn 33 = .ok (.ireturn, 1) := dk_172 (dk_at dksX5_turn_1 9 rfl rfl)
theorem dX5_turn_34 : decode cX5_turn 34 = .ok (.aload_n 0, 1) := dk_42 (dk_at dksX5_turn_1 10 rfl rfl)
theorem dX5_turn_35 : decode cX5_turn 35 = .ok (.iload_n 1, 1) := dk_27 (dk_at dksX5_turn_1 11 rfl rfl)
theorem dX5_turn_36 : decode cX5_turn 36 = .ok (.iload_n 2, 1) := dk_28 (dk_at dksX5_turn_1 12 rfl rfl)
theorem dX5_turn_37 : decode cX5_turn 37 = .ok (.invokevirtual 304, 3) := dk_182 1 48 (dk_at dksX5_turn_1 13 rfl rfl)
theorem dX5_turn_40 : decode cX5_turn 40 = .ok (.aload_n 0, 1) := dk_42 (dk_at dksX5_turn_1 16 rfl rfl)
theorem dX5_turn_41 : decode cX5_turn 41 = .ok (.invokevirtual 316, 3) := dk_182 1 60 (dk_at dksX5_turn_1 17 rfl rfl)
theorem dX5_turn_44 : decode cX5_turn 44 = .ok (.iconst 1, 1) := dk_4 (dk_at dksX5_turn_1 20 rfl rfl)
theorem dX5_turn_45 : decode cX5_turn 45 = .ok (.ireturn, 1) := dk_172 (dk_at dksX5_turn_1 21 rfl rfl)
abbrev cX5_lay : ByteArray := prog_17_method_76_code
def yX5_lay : MethodName := ⟨RX5, "lay", "(III)Z"⟩
def dkwX5_lay_3 : List UInt8 := [172]
abbrev dktX5_lay_3 : List UInt8 := dkwX5_lay_3 ++ []
def dkwX5_lay_2 : List UInt8 := [21, 4, 182, 0, 115, 2, 159, 0, 5, 3, 172, 42, 180, 0, 13, 21, 4, 29, 79, 42, 182, 1, 60, 4]
abbrev dktX5_lay_2 : List UInt8 := dkwX5_lay_2 ++ dktX5_lay_3
def dkwX5_lay_1 : List UInt8 := [28, 184, 0, 108, 54, 4, 42, 180, 0, 13, 21, 4, 46, 29, 159, 0, 18, 29, 4, 160, 0, 15, 42]
abbrev dktX5_lay_1 : List UInt8 := dkwX5_lay_1 ++ dktX5_lay_2
def dkwX5_lay_0 : List UInt8 := [27, 28, 184, 1, 35, 153, 0, 12, 29, 3, 6, 184, 0, 100, 154, 0, 5, 3, 172, 42, 182, 1, 54, 27]
abbrev dktX5_lay_0 : List UInt8 := dkwX5_lay_0 ++ dktX5_lay_1
theorem dksX5_lay_0 : cX5_lay.data.toList.drop 0 = dktX5_lay_0 := by decide +kernel
theorem dksX5_lay_1 : cX5_lay.data.toList.drop 24 = dktX5_lay_1 := dk_seg dksX5_lay_0 24 rfl rfl
theorem dksX5_lay_2 : cX5_lay.data.toList.drop 47 = dktX5_lay_2 := dk_seg dksX5_lay_1 23 rfl rfl
theorem dksX5_lay_3 : cX5_lay.data.toList.drop 71 = dktX5_lay_3 := dk_seg dksX5_lay_2 24 rfl rfl
theorem dX5_lay_0 : decode cX5_lay 0 = .ok (.iload_n 1, 1) := dk_27 (dk_at dksX5_lay_0 0 rfl rfl)
theorem dX5_lay_1 : decode cX5_lay 1 = .ok (.iload_n 2, 1) := dk_28 (dk_at dksX5_lay_0 1 rfl rfl)
theorem dX5_lay_2 : decode cX5_lay 2 = .ok (.invokestatic 291, 3) := dk_184 1 35 (dk_at dksX5_lay_0 2 rfl rfl)
theorem dX5_lay_5 : decode cX5_lay 5 = .ok (.ifCond .eq 12, 3) := dk_153 0 12 (dk_at dksX5_lay_0 5 rfl rfl)
theorem dX5_lay_8 : decode cX5_lay 8 = .ok (.iload_n 3, 1) := dk_29 (dk_at dksX5_lay_0 8 rfl rfl)
theorem dX5_lay_9 : decode cX5_lay 9 = .ok (.iconst 0, 1) := dk_3 (dk_at dksX5_lay_0 9 rfl rfl)
theorem dX5_lay_10 : decode cX5_lay 10 = .ok (.iconst 3, 1) := dk_6 (dk_at dksX5_lay_0 10 rfl rfl)
theorem dX5_lay_11 : decode cX5_lay 11 = .ok (.invokestatic 100, 3) := dk_184 0 100 (dk_at dksX5_lay_0 11 rfl rfl)
theorem dX5_lay_14 : decode cX5_lay 14 = .ok (.ifCond .ne 5, 3) := dk_154 0 5 (dk_at dksX5_lay_0 14 rfl rfl)
theorem dX5_lay_17 : decode cX5_lay 17 = .ok (.iconst 0, 1) := dk_3 (dk_at dksX5_lay_0 17 rfl rfl)
theorem dX5_lay_18 : decode cX5_lay 18 = .ok (.ireturn, 1) := dk_172 (dk_at dksX5_lay_0 18 rfl rfl)
theorem dX5_lay_19 : decode cX5_lay 19 = .ok (.aload_n 0, 1) := dk_42 (dk_at dksX5_lay_0 19 rfl rfl)
theorem dX5_lay_20 : decode cX5_lay 20 = .ok (.invokevirtual 310, 3) := dk_182 1 54 (dk_at dksX5_lay_0 20 rfl rfl)
theorem dX5_lay_23 : decode cX5_lay 23 = .ok (.iload_n 1, 1) := dk_27 (dk_at dksX5_lay_0 23 rfl rfl)
theorem dX5_lay_24 : decode cX5_lay 24 = .ok (.iload_n 2, 1) := dk_28 (dk_at dksX5_lay_1 0 rfl rfl)
theorem dX5_lay_25 : decode cX5_lay 25 = .ok (.invokestatic 108, 3) := dk_184 0 108 (dk_at dksX5_lay_1 1 rfl rfl)
theorem dX5_lay_28 : decode cX5_lay 28 = .ok (.istore 4, 2) := dk_54 4 (dk_at dksX5_lay_1 4 rfl rfl)
theorem dX5_lay_30 : decode cX5_lay 30 = .ok (.aload_n 0, 1) := dk_42 (dk_at dksX5_lay_1 6 rfl rfl)
theorem dX5_lay_31 : decode cX5_lay 31 = .ok (.getfield 13, 3) := dk_180 0 13 (dk_at dksX5_lay_1 7 rfl rfl)
theorem dX5_lay_34 : decode cX5_lay 34 = .ok (.iload 4, 2) := dk_21 4 (dk_at dksX5_lay_1 10 rfl rfl)
theorem dX5_lay_36 : decode cX5_lay 36 = .ok (.iaload, 1) := dk_46 (dk_at dksX5_lay_1 12 rfl rfl)
theorem dX5_lay_37 : decode cX5_lay 37 = .ok (.iload_n 3, 1) := dk_29 (dk_at dksX5_lay_1 13 rfl rfl)
theorem dX5_lay_38 : decode cX5_lay 38 = .ok (.if_icmp .eq 18, 3) := dk_159 0 18 (dk_at dksX5_lay_1 14 rfl rfl)
theorem dX5_lay_41 : decode cX5_lay 41 = .ok (.iload_n 3, 1) := dk_29 (dk_at dksX5_lay_1 17 rfl rfl)
theorem dX5_lay_42 : decode cX5_lay 42 = .ok (.iconst 1, 1) := dk_4 (dk_at dksX5_lay_1 18 rfl rfl)
theorem dX5_lay_43 : decode cX5_lay 43 = .ok (.if_icmp .ne 15, 3) := dk_160 0 15 (dk_at dksX5_lay_1 19 rfl rfl)
theorem dX5_lay_46 : decode cX5_lay 46 = .ok (.aload_n 0, 1) := dk_42 (dk_at dksX5_lay_1 22 rfl rfl)
theorem dX5_lay_47 : decode cX5_lay 47 = .ok (.iload 4, 2) := dk_21 4 (dk_at dksX5_lay_2 0 rfl rfl)
theorem dX5_lay_49 : decode cX5_lay 49 = .ok (.invokevirtual 115, 3) := dk_182 0 115 (dk_at dksX5_lay_2 2 rfl rfl)
theorem dX5_lay_52 : decode cX5_lay 52 = .ok (.iconst (-1), 1) := dk_2 (dk_at dksX5_lay_2 5 rfl rfl)
theorem dX5_lay_53 : decode cX5_lay 53 = .ok (.if_icmp .eq 5, 3) := dk_159 0 5 (dk_at dksX5_lay_2 6 rfl rfl)
theorem dX5_lay_56 : decode cX5_lay 56 = .ok (.iconst 0, 1) := dk_3 (dk_at dksX5_lay_2 9 rfl rfl)
theorem dX5_lay_57 : decode cX5_lay 57 = .ok (.ireturn, 1) := dk_172 (dk_at dksX5_lay_2 10 rfl rfl)
theorem dX5_lay_58 : decode cX5_lay 58 = .ok (.aload_n 0, 1) := dk_42 (dk_at dksX5_lay_2 11 rfl rfl)
theorem dX5_lay_59 : decode cX5_lay 59 = .ok (.getfield 13, 3) := dk_180 0 13 (dk_at dksX5_lay_2 12 rfl rfl)
theorem dX5_lay_62 : decode cX5_lay 62 = .ok (.iload 4, 2) := dk_21 4 (dk_at dksX5_lay_2 15 rfl rfl)
theorem dX5_lay_64 : decode cX5_lay 64 = .ok (.iload_n 3, 1) := dk_29 (dk_at dksX5_lay_2 17 rfl rfl)
theorem dX5_lay_65 : decode cX5_lay 65 = .ok (.iastore, 1) := dk_79 (dk_at dksX5_lay_2 18 rfl rfl)
theorem dX5_lay_66 : decode cX5_lay 66 = .ok (.aload_n 0, 1) := dk_42 (dk_at dksX5_lay_2 19 rfl rfl)
theorem dX5_lay_67 : decode cX5_lay 67 = .ok (.invokevirtual 316, 3) := dk_182 1 60 (dk_at dksX5_lay_2 20 rfl rfl)
theorem dX5_lay_70 : decode cX5_lay 70 = .ok (.iconst 1, 1) := dk_4 (dk_at dksX5_lay_2 23 rfl rfl)
theorem dX5_lay_71 : decode cX5_lay 71 = .ok (.ireturn, 1) := dk_172 (dk_at dksX5_lay_3 0 rfl rfl)
abbrev cX5_undo : ByteArray := prog_17_method_77_code
def yX5_undo : MethodName := ⟨RX5, "undo", "()Z"⟩
def dkwX5_undo_2 : List UInt8 := [96, 46, 79, 132, 1, 1, 167, 255, 225, 4, 172]
abbrev dktX5_undo_2 : List UInt8 := dkwX5_undo_2 ++ []
def dkwX5_undo_1 : List UInt8 := [17, 3, 172, 162, 0, 30, 42, 180, 0, 9, 27, 42, 180, 0, 19, 17, 3, 172, 42, 180, 0, 94, 104, 27]
abbrev dktX5_undo_1 : List UInt8 := dkwX5_undo_1 ++ dktX5_undo_2
def dkwX5_undo_0 : List UInt8 := [42, 180, 0, 94, 154, 0, 5, 3, 172, 42, 89, 180, 0, 94, 4, 100, 181, 0, 94, 3, 60, 27]
abbrev dktX5_undo_0 : List UInt8 := dkwX5_undo_0 ++ dktX5_undo_1
theorem dksX5_undo_0 : cX5_undo.data.toList.drop 0 = dktX5_undo_0 := by decide +kernel
theorem dksX5_undo_1 : cX5_undo.data.toList.drop 22 = dktX5_undo_1 := dk_seg dksX5_undo_0 22 rfl rfl
theorem dksX5_undo_2 : cX5_undo.data.toList.drop 46 = dktX5_undo_2 := dk_seg dksX5_undo_1 24 rfl rfl
theorem dX5_undo_0 : decode cX5_undo 0 = .ok (.aload_n 0, 1) := dk_42 (dk_at dksX5_undo_0 0 rfl rfl)
theorem dX5_undo_1 : decode cX5_undo 1 = .ok (.getfield 94, 3) := dk_180 0 94 (dk_at dksX5_undo_0 1 rfl rfl)
theorem dX5_undo_4 : decode cX5_undo 4 = .ok (.ifCond .ne 5, 3) := dk_154 0 5 (dk_at dksX5_undo_0 4 rfl rfl)
theorem dX5_undo_7 : decode cX5_undo 7 = .ok (.iconst 0, 1) := dk_3 (dk_at dksX5_undo_0 7 rfl rfl)
theorem dX5_undo_8 : decode cX5_undo 8 = .ok (.ireturn, 1) := dk_172 (dk_at dksX5_undo_0 8 rfl rfl)
theorem dX5_undo_9 : decode cX5_undo 9 = .ok (.aload_n 0, 1) := dk_42 (dk_at dksX5_undo_0 9 rfl rfl)
theorem dX5_undo_10 : decode cX5_undo 10 = .ok (.dup, 1) := dk_89 (dk_at dksX5_undo_0 10 rfl rfl)
theorem dX5_undo_11 : decode cX5_undo 11 = .ok (.getfield 94, 3) := dk_180 0 94 (dk_at dksX5_undo_0 11 rfl rfl)
theorem dX5_undo_14 : decode cX5_undo 14 = .ok (.iconst 1, 1) := dk_4 (dk_at dksX5_undo_0 14 rfl rfl)
theorem dX5_undo_15 : decode cX5_undo 15 = .ok (.isub, 1) := dk_100 (dk_at dksX5_undo_0 15 rfl rfl)
theorem dX5_undo_16 : decode cX5_undo 16 = .ok (.putfield 94, 3) := dk_181 0 94 (dk_at dksX5_undo_0 16 rfl rfl)
theorem dX5_undo_19 : decode cX5_undo 19 = .ok (.iconst 0, 1) := dk_3 (dk_at dksX5_undo_0 19 rfl rfl)
theorem dX5_undo_20 : decode cX5_undo 20 = .ok (.istore_n 1, 1) := dk_60 (dk_at dksX5_undo_0 20 rfl rfl)
theorem dX5_undo_21 : decode cX5_undo 21 = .ok (.iload_n 1, 1) := dk_27 (dk_at dksX5_undo_0 21 rfl rfl)
theorem dX5_undo_22 : decode cX5_undo 22 = .ok (.sipush 940, 3) := dk_17 3 172 (dk_at dksX5_undo_1 0 rfl rfl)
theorem dX5_undo_25 : decode cX5_undo 25 = .ok (.if_icmp .ge 30, 3) := dk_162 0 30 (dk_at dksX5_undo_1 3 rfl rfl)
theorem dX5_undo_28 : decode cX5_undo 28 = .ok (.aload_n 0, 1) := dk_42 (dk_at dksX5_undo_1 6 rfl rfl)
theorem dX5_undo_29 : decode cX5_undo 29 = .ok (.getfield 9, 3) := dk_180 0 9 (dk_at dksX5_undo_1 7 rfl rfl)
theorem dX5_undo_32 : decode cX5_undo 32 = .ok (.iload_n 1, 1) := dk_27 (dk_at dksX5_undo_1 10 rfl rfl)
theorem dX5_undo_33 : decode cX5_undo 33 = .ok (.aload_n 0, 1) := dk_42 (dk_at dksX5_undo_1 11 rfl rfl)
theorem dX5_undo_34 : decode cX5_undo 34 = .ok (.getfield 19, 3) := dk_180 0 19 (dk_at dksX5_undo_1 12 rfl rfl)
theorem dX5_undo_37 : decode cX5_undo 37 = .ok (.sipush 940, 3) := dk_17 3 172 (dk_at dksX5_undo_1 15 rfl rfl)
theorem dX5_undo_40 : decode cX5_undo 40 = .ok (.aload_n 0, 1) := dk_42 (dk_at dksX5_undo_1 18 rfl rfl)
theorem dX5_undo_41 : decode cX5_undo 41 = .ok (.getfield 94, 3) := dk_180 0 94 (dk_at dksX5_undo_1 19 rfl rfl)
theorem dX5_undo_44 : decode cX5_undo 44 = .ok (.imul, 1) := dk_104 (dk_at dksX5_undo_1 22 rfl rfl)
theorem dX5_undo_45 : decode cX5_undo 45 = .ok (.iload_n 1, 1) := dk_27 (dk_at dksX5_undo_1 23 rfl rfl)
theorem dX5_undo_46 : decode cX5_undo 46 = .ok (.iadd, 1) := dk_96 (dk_at dksX5_undo_2 0 rfl rfl)
theorem dX5_undo_47 : decode cX5_undo 47 = .ok (.iaload, 1) := dk_46 (dk_at dksX5_undo_2 1 rfl rfl)
theorem dX5_undo_48 : decode cX5_undo 48 = .ok (.iastore, 1) := dk_79 (dk_at dksX5_undo_2 2 rfl rfl)
theorem dX5_undo_49 : decode cX5_undo 49 = .ok (.iinc 1 1, 3) := dk_132 1 1 (dk_at dksX5_undo_2 3 rfl rfl)
theorem dX5_undo_52 : decode cX5_undo 52 = .ok (.goto (-31), 3) := dk_167 255 225 (dk_at dksX5_undo_2 6 rfl rfl)
theorem dX5_undo_55 : decode cX5_undo 55 = .ok (.iconst 1, 1) := dk_4 (dk_at dksX5_undo_2 9 rfl rfl)
theorem dX5_undo_56 : decode cX5_undo 56 = .ok (.ireturn, 1) := dk_172 (dk_at dksX5_undo_2 10 rfl rfl)
abbrev cX5_image : ByteArray := prog_17_method_78_code
def yX5_image : MethodName := ⟨RX5, "image", "(Z)Z"⟩
def dkwX5_image_2 : List UInt8 := [42, 3, 181, 0, 94, 42, 180, 1, 69, 172]
abbrev dktX5_image_2 : List UInt8 := dkwX5_image_2 ++ []
def dkwX5_image_1 : List UInt8 := [167, 0, 29, 42, 180, 1, 69, 153, 0, 22, 42, 180, 0, 16, 42, 180, 0, 9, 17, 9, 121, 184, 0, 86]
abbrev dktX5_image_1 : List UInt8 := dkwX5_image_1 ++ dktX5_image_2
def dkwX5_image_0 : List UInt8 := [27, 153, 0, 25, 42, 180, 0, 9, 42, 180, 0, 16, 17, 9, 121, 184, 0, 86, 42, 4, 181, 1, 69]
abbrev dktX5_image_0 : List UInt8 := dkwX5_image_0 ++ dktX5_image_1
theorem dksX5_image_0 : cX5_image.data.toList.drop 0 = dktX5_image_0 := by decide +kernel
theorem dksX5_image_1 : cX5_image.data.toList.drop 23 = dktX5_image_1 := dk_seg dksX5_image_0 23 rfl rfl
theorem dksX5_image_2 : cX5_image.data.toList.drop 47 = dktX5_image_2 := dk_seg dksX5_image_1 24 rfl rfl
theorem dX5_image_0 : decode cX5_image 0 = .ok (.iload_n 1, 1) := dk_27 (dk_at dksX5_image_0 0 rfl rfl)
theorem dX5_image_1 : decode cX5_image 1 = .ok (.ifCond .eq 25, 3) := dk_153 0 25 (dk_at dksX5_image_0 1 rfl rfl)
theorem dX5_image_4 : decode cX5_image 4 = .ok (.aload_n 0, 1) := dk_42 (dk_at dksX5_image_0 4 rfl rfl)
theorem dX5_image_5 : decode cX5_image 5 = .ok (.getfield 9, 3) := dk_180 0 9 (dk_at dksX5_image_0 5 rfl rfl)
theorem dX5_image_8 : decode cX5_image 8 = .ok (.aload_n 0, 1) := dk_42 (dk_at dksX5_image_0 8 rfl rfl)
theorem dX5_image_9 : decode cX5_image 9 = .ok (.getfield 16, 3) := dk_180 0 16 (dk_at dksX5_image_0 9 rfl rfl)
theorem dX5_image_12 : decode cX5_image 12 = .ok (.sipush 2425, 3) := dk_17 9 121 (dk_at dksX5_image_0 12 rfl rfl)
theorem dX5_image_15 : decode cX5_image 15 = .ok (.invokestatic 86, 3) := dk_184 0 86 (dk_at dksX5_image_0 15 rfl rfl)
theorem dX5_image_18 : decode cX5_image 18 = .ok (.aload_n 0, 1) := dk_42 (dk_at dksX5_image_0 18 rfl rfl)
theorem dX5_image_19 : decode cX5_image 19 = .ok (.iconst 1, 1) := dk_4 (dk_at dksX5_image_0 19 rfl rfl)
theorem dX5_image_20 : decode cX5_image 20 = .ok (.putfield 325, 3) := dk_181 1 69 (dk_at dksX5_image_0 20 rfl rfl)
theorem dX5_image_23 : decode cX5_image 23 = .ok (.goto 29, 3) := dk_167 0 29 (dk_at dksX5_image_1 0 rfl rfl)
theorem dX5_image_26 : decode cX5_image 26 = .ok (.aload_n 0, 1) := dk_42 (dk_at dksX5_image_1 3 rfl rfl)
theorem dX5_image_27 : decode cX5_image 27 = .ok (.getfield 325, 3) := dk_180 1 69 (dk_at dksX5_image_1 4 rfl rfl)
theorem dX5_image_30 : decode cX5_image 30 = .ok (.ifCond .eq 22, 3) := dk_153 0 22 (dk_at dksX5_image_1 7 rfl rfl)
theorem dX5_image_33 : decode cX5_image 33 = .ok (.aload_n 0, 1) := dk_42 (dk_at dksX5_image_1 10 rfl rfl)
theorem dX5_image_34 : decode cX5_image 34 = .ok (.getfield 16, 3) := dk_180 0 16 (dk_at dksX5_image_1 11 rfl rfl)
theorem dX5_image_37 : decode cX5_image 37 = .ok (.aload_n 0, 1) := dk_42 (dk_at dksX5_image_1 14 rfl rfl)
theorem dX5_image_38 : decode cX5_image 38 = .ok (.getfield 9, 3) := dk_180 0 9 (dk_at dksX5_image_1 15 rfl rfl)
theorem dX5_image_41 : decode cX5_image 41 = .ok (.sipush 2425, 3) := dk_17 9 121 (dk_at dksX5_image_1 18 rfl rfl)
theorem dX5_image_44 : decode cX5_image 44 = .ok (.invokestatic 86, 3) := dk_184 0 86 (dk_at dksX5_image_1 21 rfl rfl)
theorem dX5_image_47 : decode cX5_image 47 = .ok (.aload_n 0, 1) := dk_42 (dk_at dksX5_image_2 0 rfl rfl)
theorem dX5_image_48 : decode cX5_image 48 = .ok (.iconst 0, 1) := dk_3 (dk_at dksX5_image_2 1 rfl rfl)
theorem dX5_image_49 : decode cX5_image 49 = .ok (.putfield 94, 3) := dk_181 0 94 (dk_at dksX5_image_2 2 rfl rfl)
theorem dX5_image_52 : decode cX5_image 52 = .ok (.aload_n 0, 1) := dk_42 (dk_at dksX5_image_2 5 rfl rfl)
theorem dX5_image_53 : decode cX5_image 53 = .ok (.getfield 325, 3) := dk_180 1 69 (dk_at dksX5_image_2 6 rfl rfl)
theorem dX5_image_56 : decode cX5_image 56 = .ok (.ireturn, 1) := dk_172 (dk_at dksX5_image_2 9 rfl rfl)
abbrev cX5_of : ByteArray := prog_17_method_79_code
def yX5_of : MethodName := ⟨RX5, "of", "(II)I"⟩
def dkwX5_of_3 : List UInt8 := [182, 0, 104, 154, 0, 7, 2, 167, 0, 9, 42, 27, 28, 182, 0, 104, 172]
abbrev dktX5_of_3 : List UInt8 := dkwX5_of_3 ++ []
def dkwX5_of_2 : List UInt8 := [164, 0, 16, 42, 27, 16, 9, 28, 96, 16, 8, 100, 182, 0, 104, 172, 28, 4, 164, 0, 16, 42, 27, 4]
abbrev dktX5_of_2 : List UInt8 := dkwX5_of_2 ++ dktX5_of_3
def dkwX5_of_1 : List UInt8 := [182, 1, 72, 28, 16, 10, 164, 0, 13, 42, 28, 16, 11, 100, 27, 182, 1, 20, 172, 28, 16, 7]
abbrev dktX5_of_1 : List UInt8 := dkwX5_of_1 ++ dktX5_of_2
def dkwX5_of_0 : List UInt8 := [42, 27, 182, 1, 66, 153, 0, 13, 28, 3, 16, 13, 184, 0, 100, 154, 0, 6, 16, 254, 172, 42]
abbrev dktX5_of_0 : List UInt8 := dkwX5_of_0 ++ dktX5_of_1
theorem dksX5_of_0 : cX5_of.data.toList.drop 0 = dktX5_of_0 := by decide +kernel
theorem dksX5_of_1 : cX5_of.data.toList.drop 22 = dktX5_of_1 := dk_seg dksX5_of_0 22 rfl rfl
theorem dksX5_of_2 : cX5_of.data.toList.drop 44 = dktX5_of_2 := dk_seg dksX5_of_1 22 rfl rfl
theorem dksX5_of_3 : cX5_of.data.toList.drop 68 = dktX5_of_3 := dk_seg dksX5_of_2 24 rfl rfl
theorem dX5_of_0 : decode cX5_of 0 = .ok (.aload_n 0, 1) := dk_42 (dk_at dksX5_of_0 0 rfl rfl)
theorem dX5_of_1 : decode cX5_of 1 = .ok (.iload_n 1, 1) := dk_27 (dk_at dksX5_of_0 1 rfl rfl)
theorem dX5_of_2 : decode cX5_of 2 = .ok (.invokevirtual 322, 3) := dk_182 1 66 (dk_at dksX5_of_0 2 rfl rfl)
theorem dX5_of_5 : decode cX5_of 5 = .ok (.ifCond .eq 13, 3) := dk_153 0 13 (dk_at dksX5_of_0 5 rfl rfl)
theorem dX5_of_8 : decode cX5_of 8 = .ok (.iload_n 2, 1) := dk_28 (dk_at dksX5_of_0 8 rfl rfl)
theorem dX5_of_9 : decode cX5_of 9 = .ok (.iconst 0, 1) := dk_3 (dk_at dksX5_of_0 9 rfl rfl)
theorem dX5_of_10 : decode cX5_of 10 = .ok (.bipush 13, 2) := dk_16 13 (dk_at dksX5_of_0 10 rfl rfl)
theorem dX5_of_12 : decode cX5_of 12 = .ok (.invokestatic 100, 3) := dk_184 0 100 (dk_at dksX5_of_0 12 rfl rfl)
theorem dX5_of_15 : decode cX5_of 15 = .ok (.ifCond .ne 6, 3) := dk_154 0 6 (dk_at dksX5_of_0 15 rfl rfl)
theorem dX5_of_18 : decode cX5_of 18 = .ok (.bipush (-2), 2) := dk_16 254 (dk_at dksX5_of_0 18 rfl rfl)
theorem dX5_of_20 : decode cX5_of 20 = .ok (.ireturn, 1) := dk_172 (dk_at dksX5_of_0 20 rfl rfl)
theorem dX5_of_21 : decode cX5_of 21 = .ok (.aload_n 0, 1) := dk_42 (dk_at dksX5_of_0 21 rfl rfl)
theorem dX5_of_22 : decode cX5_of 22 = .ok (.invokevirtual 328, 3) := dk_182 1 72 (dk_at dksX5_of_1 0 rfl rfl)
theorem dX5_of_25 : decode cX5_of 25 = .ok (.iload_n 2, 1) := dk_28 (dk_at dksX5_of_1 3 rfl rfl)
theorem dX5_of_26 : decode cX5_of 26 = .ok (.bipush 10, 2) := dk_16 10 (dk_at dksX5_of_1 4 rfl rfl)
theorem dX5_of_28 : decode cX5_of 28 = .ok (.if_icmp .le 13, 3) := dk_164 0 13 (dk_at dksX5_of_1 6 rfl rfl)
theorem dX5_of_31 : decode cX5_of 31 = .ok (.aload_n 0, 1) := dk_42 (dk_at dksX5_of_1 9 rfl rfl)
theorem dX5_of_32 : decode cX5_of 32 = .ok (.iload_n 2, 1) := dk_28 (dk_at dksX5_of_1 10 rfl rfl)
theorem dX5_of_33 : decode cX5_of 33 = .ok (.bipush 11, 2) := dk_16 11 (dk_at dksX5_of_1 11 rfl rfl)
theorem dX5_of_35 : decode cX5_of 35 = .ok (.isub, 1) := dk_100 (dk_at dksX5_of_1 13 rfl rfl)
theorem dX5_of_36 : decode cX5_of 36 = .ok (.iload_n 1, 1) := dk_27 (dk_at dksX5_of_1 14 rfl rfl)
theorem dX5_of_37 : decode cX5_of 37 = .ok (.invokevirtual 276, 3) := dk_182 1 20 (dk_at dksX5_of_1 15 rfl rfl)
theorem dX5_of_40 : decode cX5_of 40 = .ok (.ireturn, 1) := dk_172 (dk_at dksX5_of_1 18 rfl rfl)
theorem dX5_of_41 : decode cX5_of 41 = .ok (.iload_n 2, 1) := dk_28 (dk_at dksX5_of_1 19 rfl rfl)
theorem dX5_of_42 : decode cX5_of 42 = .ok (.bipush 7, 2) := dk_16 7 (dk_at dksX5_of_1 20 rfl rfl)
theorem dX5_of_44 : decode cX5_of 44 = .ok (.if_icmp .le 16, 3) := dk_164 0 16 (dk_at dksX5_of_2 0 rfl rfl)
theorem dX5_of_47 : decode cX5_of 47 = .ok (.aload_n 0, 1) := dk_42 (dk_at dksX5_of_2 3 rfl rfl)
theorem dX5_of_48 : decode cX5_of 48 = .ok (.iload_n 1, 1) := dk_27 (dk_at dksX5_of_2 4 rfl rfl)
theorem dX5_of_49 : decode cX5_of 49 = .ok (.bipush 9, 2) := dk_16 9 (dk_at dksX5_of_2 5 rfl rfl)
theorem dX5_of_51 : decode cX5_of 51 = .ok (.iload_n 2, 1) := dk_28 (dk_at dksX5_of_2 7 rfl rfl)
theorem dX5_of_52 : decode cX5_of 52 = .ok (.iadd, 1) := dk_96 (dk_at dksX5_of_2 8 rfl rfl)
theorem dX5_of_53 : decode cX5_of 53 = .ok (.bipush 8, 2) := dk_16 8 (dk_at dksX5_of_2 9 rfl rfl)
theorem dX5_of_55 : decode cX5_of 55 = .ok (.isub, 1) := dk_100 (dk_at dksX5_of_2 11 rfl rfl)
theorem dX5_of_56 : decode cX5_of 56 = .ok (.invokevirtual 104, 3) := dk_182 0 104 (dk_at dksX5_of_2 12 rfl rfl)
theorem dX5_of_59 : decode cX5_of 59 = .ok (.ireturn, 1) := dk_172 (dk_at dksX5_of_2 15 rfl rfl)
theorem dX5_of_60 : decode cX5_of 60 = .ok (.iload_n 2, 1) := dk_28 (dk_at dksX5_of_2 16 rfl rfl)
theorem dX5_of_61 : decode cX5_of 61 = .ok (.iconst 1, 1) := dk_4 (dk_at dksX5_of_2 17 rfl rfl)
theorem dX5_of_62 : decode cX5_of 62 = .ok (.if_icmp .le 16, 3) := dk_164 0 16 (dk_at dksX5_of_2 18 rfl rfl)
theorem dX5_of_65 : decode cX5_of 65 = .ok (.aload_n 0, 1) := dk_42 (dk_at dksX5_of_2 21 rfl rfl)
theorem dX5_of_66 : decode cX5_of 66 = .ok (.iload_n 1, 1) := dk_27 (dk_at dksX5_of_2 22 rfl rfl)
theorem dX5_of_67 : decode cX5_of 67 = .ok (.iconst 1, 1) := dk_4 (dk_at dksX5_of_2 23 rfl rfl)
theorem dX5_of_68 : decode cX5_of 68 = .ok (.invokevirtual 104, 3) := dk_182 0 104 (dk_at dksX5_of_3 0 rfl rfl)
theorem dX5_of_71 : decode cX5_of 71 = .ok (.ifCond .ne 7, 3) := dk_154 0 7 (dk_at dksX5_of_3 3 rfl rfl)
theorem dX5_of_74 : decode cX5_of 74 = .ok (.iconst (-1), 1) := dk_2 (dk_at dksX5_of_3 6 rfl rfl)
theorem dX5_of_75 : decode cX5_of 75 = .ok (.goto 9, 3) := dk_167 0 9 (dk_at dksX5_of_3 7 rfl rfl)
theorem dX5_of_78 : decode cX5_of 78 = .ok (.aload_n 0, 1) := dk_42 (dk_at dksX5_of_3 10 rfl rfl)
theorem dX5_of_79 : decode cX5_of 79 = .ok (.iload_n 1, 1) := dk_27 (dk_at dksX5_of_3 11 rfl rfl)
theorem dX5_of_80 : decode cX5_of 80 = .ok (.iload_n 2, 1) := dk_28 (dk_at dksX5_of_3 12 rfl rfl)
theorem dX5_of_81 : decode cX5_of 81 = .ok (.invokevirtual 104, 3) := dk_182 0 104 (dk_at dksX5_of_3 13 rfl rfl)
theorem dX5_of_84 : decode cX5_of 84 = .ok (.ireturn, 1) := dk_172 (dk_at dksX5_of_3 16 rfl rfl)
abbrev cX5_take : ByteArray := prog_17_method_4_code
def yX5_take : MethodName := ⟨RX5, "take", "()V"⟩
def dkwX5_take_0 : List UInt8 := [42, 180, 0, 9, 42, 180, 0, 13, 17, 9, 121, 184, 0, 86, 42, 4, 181, 0, 90, 177]
abbrev dktX5_take_0 : List UInt8 := dkwX5_take_0 ++ []
theorem dksX5_take_0 : cX5_take.data.toList.drop 0 = dktX5_take_0 := by decide +kernel
theorem dX5_take_0 : decode cX5_take 0 = .ok (.aload_n 0, 1) := dk_42 (dk_at dksX5_take_0 0 rfl rfl)
theorem dX5_take_1 : decode cX5_take 1 = .ok (.getfield 9, 3) := dk_180 0 9 (dk_at dksX5_take_0 1 rfl rfl)
theorem dX5_take_4 : decode cX5_take 4 = .ok (.aload_n 0, 1) := dk_42 (dk_at dksX5_take_0 4 rfl rfl)
theorem dX5_take_5 : decode cX5_take 5 = .ok (.getfield 13, 3) := dk_180 0 13 (dk_at dksX5_take_0 5 rfl rfl)
theorem dX5_take_8 : decode cX5_take 8 = .ok (.sipush 2425, 3) := dk_17 9 121 (dk_at dksX5_take_0 8 rfl rfl)
theorem dX5_take_11 : decode cX5_take 11 = .ok (.invokestatic 86, 3) := dk_184 0 86 (dk_at dksX5_take_0 11 rfl rfl)
theorem dX5_take_14 : decode cX5_take 14 = .ok (.aload_n 0, 1) := dk_42 (dk_at dksX5_take_0 14 rfl rfl)
theorem dX5_take_15 : decode cX5_take 15 = .ok (.iconst 1, 1) := dk_4 (dk_at dksX5_take_0 15 rfl rfl)
theorem dX5_take_16 : decode cX5_take 16 = .ok (.putfield 90, 3) := dk_181 0 90 (dk_at dksX5_take_0 16 rfl rfl)
theorem dX5_take_19 : decode cX5_take 19 = .ok (.return_, 1) := dk_177 (dk_at dksX5_take_0 19 rfl rfl)
abbrev cX5_cell : ByteArray := prog_17_method_80_code
def yX5_cell : MethodName := ⟨RX5, "cell", "(III)I"⟩
def dkwX5_cell_2 : List UInt8 := [182, 0, 115, 172]
abbrev dktX5_cell_2 : List UInt8 := dkwX5_cell_2 ++ []
def dkwX5_cell_1 : List UInt8 := [29, 154, 0, 16, 42, 180, 0, 13, 27, 28, 184, 0, 108, 46, 167, 0, 12, 42, 27, 28, 184, 0, 108]
abbrev dktX5_cell_1 : List UInt8 := dkwX5_cell_1 ++ dktX5_cell_2
def dkwX5_cell_0 : List UInt8 := [27, 28, 184, 1, 35, 153, 0, 12, 29, 3, 4, 184, 0, 100, 154, 0, 6, 16, 254, 172, 42, 182, 1, 72]
abbrev dktX5_cell_0 : List UInt8 := dkwX5_cell_0 ++ dktX5_cell_1
theorem dksX5_cell_0 : cX5_cell.data.toList.drop 0 = dktX5_cell_0 := by decide +kernel
theorem dksX5_cell_1 : cX5_cell.data.toList.drop 24 = dktX5_cell_1 := dk_seg dksX5_cell_0 24 rfl rfl
theorem dksX5_cell_2 : cX5_cell.data.toList.drop 47 = dktX5_cell_2 := dk_seg dksX5_cell_1 23 rfl rfl
theorem dX5_cell_0 : decode cX5_cell 0 = .ok (.iload_n 1, 1) := dk_27 (dk_at dksX5_cell_0 0 rfl rfl)
theorem dX5_cell_1 : decode cX5_cell 1 = .ok (.iload_n 2, 1) := dk_28 (dk_at dksX5_cell_0 1 rfl rfl)
theorem dX5_cell_2 : decode cX5_cell 2 = .ok (.invokestatic 291, 3) := dk_184 1 35 (dk_at dksX5_cell_0 2 rfl rfl)
theorem dX5_cell_5 : decode cX5_cell 5 = .ok (.ifCond .eq 12, 3) := dk_153 0 12 (dk_at dksX5_cell_0 5 rfl rfl)
theorem dX5_cell_8 : decode cX5_cell 8 = .ok (.iload_n 3, 1) := dk_29 (dk_at dksX5_cell_0 8 rfl rfl)
theorem dX5_cell_9 : decode cX5_cell 9 = .ok (.iconst 0, 1) := dk_3 (dk_at dksX5_cell_0 9 rfl rfl)
theorem dX5_cell_10 : decode cX5_cell 10 = .ok (.iconst 1, 1) := dk_4 (dk_at dksX5_cell_0 10 rfl rfl)
theorem dX5_cell_11 : decode cX5_cell 11 = .ok (.invokestatic 100, 3) := dk_184 0 100 (dk_at dksX5_cell_0 11 rfl rfl)
theorem dX5_cell_14 : decode cX5_cell 14 = .ok (.ifCond .ne 6, 3) := dk_154 0 6 (dk_at dksX5_cell_0 14 rfl rfl)
theorem dX5_cell_17 : decode cX5_cell 17 = .ok (.bipush (-2), 2) := dk_16 254 (dk_at dksX5_cell_0 17 rfl rfl)
theorem dX5_cell_19 : decode cX5_cell 19 = .ok (.ireturn, 1) := dk_172 (dk_at dksX5_cell_0 19 rfl rfl)
theorem dX5_cell_20 : decode cX5_cell 20 = .ok (.aload_n 0, 1) := dk_42 (dk_at dksX5_cell_0 20 rfl rfl)
theorem dX5_cell_21 : decode cX5_cell 21 = .ok (.invokevirtual 328, 3) := dk_182 1 72 (dk_at dksX5_cell_0 21 rfl rfl)
theorem dX5_cell_24 : decode cX5_cell 24 = .ok (.iload_n 3, 1) := dk_29 (dk_at dksX5_cell_1 0 rfl rfl)
theorem dX5_cell_25 : decode cX5_cell 25 = .ok (.ifCond .ne 16, 3) := dk_154 0 16 (dk_at dksX5_cell_1 1 rfl rfl)
theorem dX5_cell_28 : decode cX5_cell 28 = .ok (.aload_n 0, 1) := dk_42 (dk_at dksX5_cell_1 4 rfl rfl)
theorem dX5_cell_29 : decode cX5_cell 29 = .ok (.getfield 13, 3) := dk_180 0 13 (dk_at dksX5_cell_1 5 rfl rfl)
theorem dX5_cell_32 : decode cX5_cell 32 = .ok (.iload_n 1, 1) := dk_27 (dk_at dksX5_cell_1 8 rfl rfl)
theorem dX5_cell_33 : decode cX5_cell 33 = .ok (.iload_n 2, 1) := dk_28 (dk_at dksX5_cell_1 9 rfl rfl)
theorem dX5_cell_34 : decode cX5_cell 34 = .ok (.invokestatic 108, 3) := dk_184 0 108 (dk_at dksX5_cell_1 10 rfl rfl)
theorem dX5_cell_37 : decode cX5_cell 37 = .ok (.iaload, 1) := dk_46 (dk_at dksX5_cell_1 13 rfl rfl)
theorem dX5_cell_38 : decode cX5_cell 38 = .ok (.goto 12, 3) := dk_167 0 12 (dk_at dksX5_cell_1 14 rfl rfl)
theorem dX5_cell_41 : decode cX5_cell 41 = .ok (.aload_n 0, 1) := dk_42 (dk_at dksX5_cell_1 17 rfl rfl)
theorem dX5_cell_42 : decode cX5_cell 42 = .ok (.iload_n 1, 1) := dk_27 (dk_at dksX5_cell_1 18 rfl rfl)
theorem dX5_cell_43 : decode cX5_cell 43 = .ok (.iload_n 2, 1) := dk_28 (dk_at dksX5_cell_1 19 rfl rfl)
theorem dX5_cell_44 : decode cX5_cell 44 = .ok (.invokestatic 108, 3) := dk_184 0 108 (dk_at dksX5_cell_1 20 rfl rfl)
theorem dX5_cell_47 : decode cX5_cell 47 = .ok (.invokevirtual 115, 3) := dk_182 0 115 (dk_at dksX5_cell_2 0 rfl rfl)
theorem dX5_cell_50 : decode cX5_cell 50 = .ok (.ireturn, 1) := dk_172 (dk_at dksX5_cell_2 3 rfl rfl)
abbrev cX5_book : ByteArray := prog_17_method_81_code
def yX5_book : MethodName := ⟨RX5, "book", "(II)I"⟩
def dkwX5_book_1 : List UInt8 := [153, 0, 20, 42, 180, 0, 9, 17, 1, 80, 7, 27, 104, 96, 28, 96, 46, 167, 0, 4, 2, 172]
abbrev dktX5_book_1 : List UInt8 := dkwX5_book_1 ++ []
def dkwX5_book_0 : List UInt8 := [27, 3, 42, 180, 0, 9, 17, 3, 171, 46, 4, 100, 184, 0, 100, 153, 0, 29, 28, 3, 6, 184, 0, 100]
abbrev dktX5_book_0 : List UInt8 := dkwX5_book_0 ++ dktX5_book_1
theorem dksX5_book_0 : cX5_book.data.toList.drop 0 = dktX5_book_0 := by decide +kernel
theorem dksX5_book_1 : cX5_book.data.toList.drop 24 = dktX5_book_1 := dk_seg dksX5_book_0 24 rfl rfl
theorem dX5_book_0 : decode cX5_book 0 = .ok (.iload_n 1, 1) := dk_27 (dk_at dksX5_book_0 0 rfl rfl)
theorem dX5_book_1 : decode cX5_book 1 = .ok (.iconst 0, 1) := dk_3 (dk_at dksX5_book_0 1 rfl rfl)
theorem dX5_book_2 : decode cX5_book 2 = .ok (.aload_n 0, 1) := dk_42 (dk_at dksX5_book_0 2 rfl rfl)
theorem dX5_book_3 : decode cX5_book 3 = .ok (.getfield 9, 3) := dk_180 0 9 (dk_at dksX5_book_0 3 rfl rfl)
theorem dX5_book_6 : decode cX5_book 6 = .ok (.sipush 939, 3) := dk_17 3 171 (dk_at dksX5_book_0 6 rfl rfl)
theorem dX5_book_9 : decode cX5_book 9 = .ok (.iaload, 1) := dk_46 (dk_at dksX5_book_0 9 rfl rfl)
theorem dX5_book_10 : decode cX5_book 10 = .ok (.iconst 1, 1) := dk_4 (dk_at dksX5_book_0 10 rfl rfl)
theorem dX5_book_11 : decode cX5_book 11 = .ok (.isub, 1) := dk_100 (dk_at dksX5_book_0 11 rfl rfl)
theorem dX5_book_12 : decode cX5_book 12 = .ok (.invokestatic 100, 3) := dk_184 0 100 (dk_at dksX5_book_0 12 rfl rfl)
theorem dX5_book_15 : decode cX5_book 15 = .ok (.ifCond .eq 29, 3) := dk_153 0 29 (dk_at dksX5_book_0 15 rfl rfl)
theorem dX5_book_18 : decode cX5_book 18 = .ok (.iload_n 2, 1) := dk_28 (dk_at dksX5_book_0 18 rfl rfl)
theorem dX5_book_19 : decode cX5_book 19 = .ok (.iconst 0, 1) := dk_3 (dk_at dksX5_book_0 19 rfl rfl)
theorem dX5_book_20 : decode cX5_book 20 = .ok (.iconst 3, 1) := dk_6 (dk_at dksX5_book_0 20 rfl rfl)
theorem dX5_book_21 : decode cX5_book 21 = .ok (.invokestatic 100, 3) := dk_184 0 100 (dk_at dksX5_book_0 21 rfl rfl)
theorem dX5_book_24 : decode cX5_book 24 = .ok (.ifCond .eq 20, 3) := dk_153 0 20 (dk_at dksX5_book_1 0 rfl rfl)
theorem dX5_book_27 : decode cX5_book 27 = .ok (.aload_n 0, 1) := dk_42 (dk_at dksX5_book_1 3 rfl rfl)
theorem dX5_book_28 : decode cX5_book 28 = .ok (.getfield 9, 3) := dk_180 0 9 (dk_at dksX5_book_1 4 rfl rfl)
theorem dX5_book_31 : decode cX5_book 31 = .ok (.sipush 336, 3) := dk_17 1 80 (dk_at dksX5_book_1 7 rfl rfl)
theorem dX5_book_34 : decode cX5_book 34 = .ok (.iconst 4, 1) := dk_7 (dk_at dksX5_book_1 10 rfl rfl)
theorem dX5_book_35 : decode cX5_book 35 = .ok (.iload_n 1, 1) := dk_27 (dk_at dksX5_book_1 11 rfl rfl)
theorem dX5_book_36 : decode cX5_book 36 = .ok (.imul, 1) := dk_104 (dk_at dksX5_book_1 12 rfl rfl)
theorem dX5_book_37 : decode cX5_book 37 = .ok (.iadd, 1) := dk_96 (dk_at dksX5_book_1 13 rfl rfl)
theorem dX5_book_38 : decode cX5_book 38 = .ok (.iload_n 2, 1) := dk_28 (dk_at dksX5_book_1 14 rfl rfl)
theorem dX5_book_39 : decode cX5_book 39 = .ok (.iadd, 1) := dk_96 (dk_at dksX5_book_1 15 rfl rfl)
theorem dX5_book_40 : decode cX5_book 40 = .ok (.iaload, 1) := dk_46 (dk_at dksX5_book_1 16 rfl rfl)
theorem dX5_book_41 : decode cX5_book 41 = .ok (.goto 4, 3) := dk_167 0 4 (dk_at dksX5_book_1 17 rfl rfl)
theorem dX5_book_44 : decode cX5_book 44 = .ok (.iconst (-1), 1) := dk_2 (dk_at dksX5_book_1 20 rfl rfl)
theorem dX5_book_45 : decode cX5_book 45 = .ok (.ireturn, 1) := dk_172 (dk_at dksX5_book_1 21 rfl rfl)
abbrev cX5_look : ByteArray := prog_17_method_82_code
def yX5_look : MethodName := ⟨RX5, "look", "(I)I"⟩
def dkwX5_look_7 : List UInt8 := [167, 0, 17, 27, 8, 160, 0, 9, 17, 3, 171, 167, 0, 6, 17, 3, 170, 46, 172]
abbrev dktX5_look_7 : List UInt8 := dkwX5_look_7 ++ []
def dkwX5_look_6 : List UInt8 := [167, 0, 39, 27, 5, 160, 0, 9, 17, 3, 168, 167, 0, 28, 27, 6, 160, 0, 9, 17, 3, 169]
abbrev dktX5_look_6 : List UInt8 := dkwX5_look_6 ++ dktX5_look_7
def dkwX5_look_5 : List UInt8 := [180, 0, 13, 17, 3, 173, 27, 96, 16, 7, 100, 46, 172, 42, 180, 0, 13, 27, 154, 0, 9, 17, 3, 172]
abbrev dktX5_look_5 : List UInt8 := dkwX5_look_5 ++ dktX5_look_6
def dkwX5_look_4 : List UInt8 := [28, 172, 27, 16, 6, 164, 0, 30, 27, 16, 11, 160, 0, 10, 42, 180, 0, 94, 167, 0, 16, 42]
abbrev dktX5_look_4 : List UInt8 := dkwX5_look_4 ++ dktX5_look_5
def dkwX5_look_3 : List UInt8 := [28, 42, 180, 0, 13, 29, 46, 4, 160, 0, 7, 4, 167, 0, 4, 3, 96, 61, 132, 3, 1, 167, 255, 228]
abbrev dktX5_look_3 : List UInt8 := dkwX5_look_3 ++ dktX5_look_4
def dkwX5_look_2 : List UInt8 := [132, 3, 1, 167, 255, 230, 28, 172, 27, 7, 160, 0, 40, 3, 61, 3, 62, 29, 17, 0, 144, 162, 0, 27]
abbrev dktX5_look_2 : List UInt8 := dkwX5_look_2 ++ dktX5_look_3
def dkwX5_look_1 : List UInt8 := [62, 29, 42, 180, 0, 13, 17, 3, 172, 46, 162, 0, 20, 28, 42, 29, 4, 182, 0, 104, 29, 120, 128, 61]
abbrev dktX5_look_1 : List UInt8 := dkwX5_look_1 ++ dktX5_look_2
def dkwX5_look_0 : List UInt8 := [27, 3, 16, 11, 184, 0, 100, 154, 0, 5, 2, 172, 42, 182, 1, 72, 27, 4, 160, 0, 38, 3, 61, 3]
abbrev dktX5_look_0 : List UInt8 := dkwX5_look_0 ++ dktX5_look_1
theorem dksX5_look_0 : cX5_look.data.toList.drop 0 = dktX5_look_0 := by decide +kernel
theorem dksX5_look_1 : cX5_look.data.toList.drop 24 = dktX5_look_1 := dk_seg dksX5_look_0 24 rfl rfl
theorem dksX5_look_2 : cX5_look.data.toList.drop 48 = dktX5_look_2 := dk_seg dksX5_look_1 24 rfl rfl
theorem dksX5_look_3 : cX5_look.data.toList.drop 72 = dktX5_look_3 := dk_seg dksX5_look_2 24 rfl rfl
theorem dksX5_look_4 : cX5_look.data.toList.drop 96 = dktX5_look_4 := dk_seg dksX5_look_3 24 rfl rfl
theorem dksX5_look_5 : cX5_look.data.toList.drop 118 = dktX5_look_5 := dk_seg dksX5_look_4 22 rfl rfl
theorem dksX5_look_6 : cX5_look.data.toList.drop 142 = dktX5_look_6 := dk_seg dksX5_look_5 24 rfl rfl
theorem dksX5_look_7 : cX5_look.data.toList.drop 164 = dktX5_look_7 := dk_seg dksX5_look_6 22 rfl rfl
theorem dX5_look_0 : decode cX5_look 0 = .ok (.iload_n 1, 1) := dk_27 (dk_at dksX5_look_0 0 rfl rfl)
theorem dX5_look_1 : decode cX5_look 1 = .ok (.iconst 0, 1) := dk_3 (dk_at dksX5_look_0 1 rfl rfl)
theorem dX5_look_2 : decode cX5_look 2 = .ok (.bipush 11, 2) := dk_16 11 (dk_at dksX5_look_0 2 rfl rfl)
theorem dX5_look_4 : decode cX5_look 4 = .ok (.invokestatic 100, 3) := dk_184 0 100 (dk_at dksX5_look_0 4 rfl rfl)
theorem dX5_look_7 : decode cX5_look 7 = .ok (.ifCond .ne 5, 3) := dk_154 0 5 (dk_at dksX5_look_0 7 rfl rfl)
theorem dX5_look_10 : decode cX5_look 10 = .ok (.iconst (-1), 1) := dk_2 (dk_at dksX5_look_0 10 rfl rfl)
theorem dX5_look_11 : decode cX5_look 11 = .ok (.ireturn, 1) := dk_172 (dk_at dksX5_look_0 11 rfl rfl)
theorem dX5_look_12 : decode cX5_look 12 = .ok (.aload_n 0, 1) := dk_42 (dk_at dksX5_look_0 12 rfl rfl)
theorem dX5_look_13 : decode cX5_look 13 = .ok (.invokevirtual 328, 3) := dk_182 1 72 (dk_at dksX5_look_0 13 rfl rfl)
theorem dX5_look_16 : decode cX5_look 16 = .ok (.iload_n 1, 1) := dk_27 (dk_at dksX5_look_0 16 rfl rfl)
theorem dX5_look_17 : decode cX5_look 17 = .ok (.iconst 1, 1) := dk_4 (dk_at dksX5_look_0 17 rfl rfl)
theorem dX5_look_18 : decode cX5_look 18 = .ok (.if_icmp .ne 38, 3) := dk_160 0 38 (dk_at dksX5_look_0 18 rfl rfl)
theorem dX5_look_21 : decode cX5_look 21 = .ok (.iconst 0, 1) := dk_3 (dk_at dksX5_look_0 21 rfl rfl)
theorem dX5_look_22 : decode cX5_look 22 = .ok (.istore_n 2, 1) := dk_61 (dk_at dksX5_look_0 22 rfl rfl)
theorem dX5_look_23 : decode cX5_look 23 = .ok (.iconst 0, 1) := dk_3 (dk_at dksX5_look_0 23 rfl rfl)
theorem dX5_look_24 : decode cX5_look 24 = .ok (.istore_n 3, 1) := dk_62 (dk_at dksX5_look_1 0 rfl rfl)
theorem dX5_look_25 : decode cX5_look 25 = .ok (.iload_n 3, 1) := dk_29 (dk_at dksX5_look_1 1 rfl rfl)
theorem dX5_look_26 : decode cX5_look 26 = .ok (.aload_n 0, 1) := dk_42 (dk_at dksX5_look_1 2 rfl rfl)
theorem dX5_look_27 : decode cX5_look 27 = .ok (.getfield 13, 3) := dk_180 0 13 (dk_at dksX5_look_1 3 rfl rfl)
theorem dX5_look_30 : decode cX5_look 30 = .ok (.sipush 940, 3) := dk_17 3 172 (dk_at dksX5_look_1 6 rfl rfl)
theorem dX5_look_33 : decode cX5_look 33 = .ok (.iaload, 1) := dk_46 (dk_at dksX5_look_1 9 rfl rfl)
theorem dX5_look_34 : decode cX5_look 34 = .ok (.if_icmp .ge 20, 3) := dk_162 0 20 (dk_at dksX5_look_1 10 rfl rfl)
theorem dX5_look_37 : decode cX5_look 37 = .ok (.iload_n 2, 1) := dk_28 (dk_at dksX5_look_1 13 rfl rfl)
theorem dX5_look_38 : decode cX5_look 38 = .ok (.aload_n 0, 1) := dk_42 (dk_at dksX5_look_1 14 rfl rfl)
theorem dX5_look_39 : decode cX5_look 39 = .ok (.iload_n 3, 1) := dk_29 (dk_at dksX5_look_1 15 rfl rfl)
theorem dX5_look_40 : decode cX5_look 40 = .ok (.iconst 1, 1) := dk_4 (dk_at dksX5_look_1 16 rfl rfl)
theorem dX5_look_41 : decode cX5_look 41 = .ok (.invokevirtual 104, 3) := dk_182 0 104 (dk_at dksX5_look_1 17 rfl rfl)
theorem dX5_look_44 : decode cX5_look 44 = .ok (.iload_n 3, 1) := dk_29 (dk_at dksX5_look_1 20 rfl rfl)
theorem dX5_look_45 : decode cX5_look 45 = .ok (.ishl, 1) := dk_120 (dk_at dksX5_look_1 21 rfl rfl)
theorem dX5_look_46 : decode cX5_look 46 = .ok (.ior, 1) := dk_128 (dk_at dksX5_look_1 22 rfl rfl)
theorem dX5_look_47 : decode cX5_look 47 = .ok (.istore_n 2, 1) := dk_61 (dk_at dksX5_look_1 23 rfl rfl)
theorem dX5_look_48 : decode cX5_look 48 = .ok (.iinc 3 1, 3) := dk_132 3 1 (dk_at dksX5_look_2 0 rfl rfl)
theorem dX5_look_51 : decode cX5_look 51 = .ok (.goto (-26), 3) := dk_167 255 230 (dk_at dksX5_look_2 3 rfl rfl)
theorem dX5_look_54 : decode cX5_look 54 = .ok (.iload_n 2, 1) := dk_28 (dk_at dksX5_look_2 6 rfl rfl)
theorem dX5_look_55 : decode cX5_look 55 = .ok (.ireturn, 1) := dk_172 (dk_at dksX5_look_2 7 rfl rfl)
theorem dX5_look_56 : decode cX5_look 56 = .ok (.iload_n 1, 1) := dk_27 (dk_at dksX5_look_2 8 rfl rfl)
theorem dX5_look_57 : decode cX5_look 57 = .ok (.iconst 4, 1) := dk_7 (dk_at dksX5_look_2 9 rfl rfl)
theorem dX5_look_58 : decode cX5_look 58 = .ok (.if_icmp .ne 40, 3) := dk_160 0 40 (dk_at dksX5_look_2 10 rfl rfl)
theorem dX5_look_61 : decode cX5_look 61 = .ok (.iconst 0, 1) := dk_3 (dk_at dksX5_look_2 13 rfl rfl)
theorem dX5_look_62 : decode cX5_look 62 = .ok (.istore_n 2, 1) := dk_61 (dk_at dksX5_look_2 14 rfl rfl)
theorem dX5_look_63 : decode cX5_look 63 = .ok (.iconst 0, 1) := dk_3 (dk_at dksX5_look_2 15 rfl rfl)
theorem dX5_look_64 : decode cX5_look 64 = .ok (.istore_n 3, 1) := dk_62 (dk_at dksX5_look_2 16 rfl rfl)
theorem dX5_look_65 : decode cX5_look 65 = .ok (.iload_n 3, 1) := dk_29 (dk_at dksX5_look_2 17 rfl rfl)
theorem dX5_look_66 : decode cX5_look 66 = .ok (.sipush 144, 3) := dk_17 0 144 (dk_at dksX5_look_2 18 rfl rfl)
theorem dX5_look_69 : decode cX5_look 69 = .ok (.if_icmp .ge 27, 3) := dk_162 0 27 (dk_at dksX5_look_2 21 rfl rfl)
theorem dX5_look_72 : decode cX5_look 72 = .ok (.iload_n 2, 1) := dk_28 (dk_at dksX5_look_3 0 rfl rfl)
theorem dX5_look_73 : decode cX5_look 73 = .ok (.aload_n 0, 1) := dk_42 (dk_at dksX5_look_3 1 rfl rfl)
theorem dX5_look_74 : decode cX5_look 74 = .ok (.getfield 13, 3) := dk_180 0 13 (dk_at dksX5_look_3 2 rfl rfl)
theorem dX5_look_77 : decode cX5_look 77 = .ok (.iload_n 3, 1) := dk_29 (dk_at dksX5_look_3 5 rfl rfl)
theorem dX5_look_78 : decode cX5_look 78 = .ok (.iaload, 1) := dk_46 (dk_at dksX5_look_3 6 rfl rfl)
theorem dX5_look_79 : decode cX5_look 79 = .ok (.iconst 1, 1) := dk_4 (dk_at dksX5_look_3 7 rfl rfl)
theorem dX5_look_80 : decode cX5_look 80 = .ok (.if_icmp .ne 7, 3) := dk_160 0 7 (dk_at dksX5_look_3 8 rfl rfl)
theorem dX5_look_83 : decode cX5_look 83 = .ok (.iconst 1, 1) := dk_4 (dk_at dksX5_look_3 11 rfl rfl)
theorem dX5_look_84 : decode cX5_look 84 = .ok (.goto 4, 3) := dk_167 0 4 (dk_at dksX5_look_3 12 rfl rfl)
theorem dX5_look_87 : decode cX5_look 87 = .ok (.iconst 0, 1) := dk_3 (dk_at dksX5_look_3 15 rfl rfl)
theorem dX5_look_88 : decode cX5_look 88 = .ok (.iadd, 1) := dk_96 (dk_at dksX5_look_3 16 rfl rfl)
theorem dX5_look_89 : decode cX5_look 89 = .ok (.istore_n 2, 1) := dk_61 (dk_at dksX5_look_3 17 rfl rfl)
theorem dX5_look_90 : decode cX5_look 90 = .ok (.iinc 3 1, 3) := dk_132 3 1 (dk_at dksX5_look_3 18 rfl rfl)
theorem dX5_look_93 : decode cX5_look 93 = .ok (.goto (-28), 3) := dk_167 255 228 (dk_at dksX5_look_3 21 rfl rfl)
theorem dX5_look_96 : decode cX5_look 96 = .ok (.iload_n 2, 1) := dk_28 (dk_at dksX5_look_4 0 rfl rfl)
theorem dX5_look_97 : decode cX5_look 97 = .ok (.ireturn, 1) := dk_172 (dk_at dksX5_look_4 1 rfl rfl)
theorem dX5_look_98 : decode cX5_look 98 = .ok (.iload_n 1, 1) := dk_27 (dk_at dksX5_look_4 2 rfl rfl)
theorem dX5_look_99 : decode cX5_look 99 = .ok (.bipush 6, 2) := dk_16 6 (dk_at dksX5_look_4 3 rfl rfl)
theorem dX5_look_101 : decode cX5_look 101 = .ok (.if_icmp .le 30, 3) := dk_164 0 30 (dk_at dksX5_look_4 5 rfl rfl)
theorem dX5_look_104 : decode cX5_look 104 = .ok (.iload_n 1, 1) := dk_27 (dk_at dksX5_look_4 8 rfl rfl)
theorem dX5_look_105 : decode cX5_look 105 = .ok (.bipush 11, 2) := dk_16 11 (dk_at dksX5_look_4 9 rfl rfl)
theorem dX5_look_107 : decode cX5_look 107 = .ok (.if_icmp .ne 10, 3) := dk_160 0 10 (dk_at dksX5_look_4 11 rfl rfl)
theorem dX5_look_110 : decode cX5_look 110 = .ok (.aload_n 0, 1) := dk_42 (dk_at dksX5_look_4 14 rfl rfl)
theorem dX5_look_111 : decode cX5_look 111 = .ok (.getfield 94, 3) := dk_180 0 94 (dk_at dksX5_look_4 15 rfl rfl)
theorem dX5_look_114 : decode cX5_look 114 = .ok (.goto 16, 3) := dk_167 0 16 (dk_at dksX5_look_4 18 rfl rfl)
theorem dX5_look_117 : decode cX5_look 117 = .ok (.aload_n 0, 1) := dk_42 (dk_at dksX5_look_4 21 rfl rfl)
theorem dX5_look_118 : decode cX5_look 118 = .ok (.getfield 13, 3) := dk_180 0 13 (dk_at dksX5_look_5 0 rfl rfl)
theorem dX5_look_121 : decode cX5_look 121 = .ok (.sipush 941, 3) := dk_17 3 173 (dk_at dksX5_look_5 3 rfl rfl)
theorem dX5_look_124 : decode cX5_look 124 = .ok (.iload_n 1, 1) := dk_27 (dk_at dksX5_look_5 6 rfl rfl)
theorem dX5_look_125 : decode cX5_look 125 = .ok (.iadd, 1) := dk_96 (dk_at dksX5_look_5 7 rfl rfl)
theorem dX5_look_126 : decode cX5_look 126 = .ok (.bipush 7, 2) := dk_16 7 (dk_at dksX5_look_5 8 rfl rfl)
theorem dX5_look_128 : decode cX5_look 128 = .ok (.isub, 1) := dk_100 (dk_at dksX5_look_5 10 rfl rfl)
theorem dX5_look_129 : decode cX5_look 129 = .ok (.iaload, 1) := dk_46 (dk_at dksX5_look_5 11 rfl rfl)
theorem dX5_look_130 : decode cX5_look 130 = .ok (.ireturn, 1) := dk_172 (dk_at dksX5_look_5 12 rfl rfl)
theorem dX5_look_131 : decode cX5_look 131 = .ok (.aload_n 0, 1) := dk_42 (dk_at dksX5_look_5 13 rfl rfl)
theorem dX5_look_132 : decode cX5_look 132 = .ok (.getfield 13, 3) := dk_180 0 13 (dk_at dksX5_look_5 14 rfl rfl)
theorem dX5_look_135 : decode cX5_look 135 = .ok (.iload_n 1, 1) := dk_27 (dk_at dksX5_look_5 17 rfl rfl)
theorem dX5_look_136 : decode cX5_look 136 = .ok (.ifCond .ne 9, 3) := dk_154 0 9 (dk_at dksX5_look_5 18 rfl rfl)
theorem dX5_look_139 : decode cX5_look 139 = .ok (.sipush 940, 3) := dk_17 3 172 (dk_at dksX5_look_5 21 rfl rfl)
theorem dX5_look_142 : decode cX5_look 142 = .ok (.goto 39, 3) := dk_167 0 39 (dk_at dksX5_look_6 0 rfl rfl)
theorem dX5_look_145 : decode cX5_look 145 = .ok (.iload_n 1, 1) := dk_27 (dk_at dksX5_look_6 3 rfl rfl)
theorem dX5_look_146 : decode cX5_look 146 = .ok (.iconst 2, 1) := dk_5 (dk_at dksX5_look_6 4 rfl rfl)
theorem dX5_look_147 : decode cX5_look 147 = .ok (.if_icmp .ne 9, 3) := dk_160 0 9 (dk_at dksX5_look_6 5 rfl rfl)
theorem dX5_look_150 : decode cX5_look 150 = .ok (.sipush 936, 3) := dk_17 3 168 (dk_at dksX5_look_6 8 rfl rfl)
theorem dX5_look_153 : decode cX5_look 153 = .ok (.goto 28, 3) := dk_167 0 28 (dk_at dksX5_look_6 11 rfl rfl)
theorem dX5_look_156 : decode cX5_look 156 = .ok (.iload_n 1, 1) := dk_27 (dk_at dksX5_look_6 14 rfl rfl)
theorem dX5_look_157 : decode cX5_look 157 = .ok (.iconst 3, 1) := dk_6 (dk_at dksX5_look_6 15 rfl rfl)
theorem dX5_look_158 : decode cX5_look 158 = .ok (.if_icmp .ne 9, 3) := dk_160 0 9 (dk_at dksX5_look_6 16 rfl rfl)
theorem dX5_look_161 : decode cX5_look 161 = .ok (.sipush 937, 3) := dk_17 3 169 (dk_at dksX5_look_6 19 rfl rfl)
theorem dX5_look_164 : decode cX5_look 164 = .ok (.goto 17, 3) := dk_167 0 17 (dk_at dksX5_look_7 0 rfl rfl)
theorem dX5_look_167 : decode cX5_look 167 = .ok (.iload_n 1, 1) := dk_27 (dk_at dksX5_look_7 3 rfl rfl)
theorem dX5_look_168 : decode cX5_look 168 = .ok (.iconst 5, 1) := dk_8 (dk_at dksX5_look_7 4 rfl rfl)
theorem dX5_look_169 : decode cX5_look 169 = .ok (.if_icmp .ne 9, 3) := dk_160 0 9 (dk_at dksX5_look_7 5 rfl rfl)
theorem dX5_look_172 : decode cX5_look 172 = .ok (.sipush 939, 3) := dk_17 3 171 (dk_at dksX5_look_7 8 rfl rfl)
theorem dX5_look_175 : decode cX5_look 175 = .ok (.goto 6, 3) := dk_167 0 6 (dk_at dksX5_look_7 11 rfl rfl)
theorem dX5_look_178 : decode cX5_look 178 = .ok (.sipush 938, 3) := dk_17 3 170 (dk_at dksX5_look_7 14 rfl rfl)
theorem dX5_look_181 : decode cX5_look 181 = .ok (.iaload, 1) := dk_46 (dk_at dksX5_look_7 17 rfl rfl)
theorem dX5_look_182 : decode cX5_look 182 = .ok (.ireturn, 1) := dk_172 (dk_at dksX5_look_7 18 rfl rfl)
abbrev cX5_goes : ByteArray := prog_17_method_83_code
def yX5_goes : MethodName := ⟨RX5, "goes", "(II)I"⟩
def dkwX5_goes_3 : List UInt8 := [160, 0, 12, 42, 16, 10, 182, 1, 63, 167, 0, 11, 42, 180, 0, 13, 17, 3, 169, 46, 172]
abbrev dktX5_goes_3 : List UInt8 := dkwX5_goes_3 ++ []
def dkwX5_goes_2 : List UInt8 := [42, 182, 0, 243, 167, 0, 39, 28, 4, 160, 0, 12, 42, 16, 9, 182, 1, 63, 167, 0, 25, 28, 5]
abbrev dktX5_goes_2 : List UInt8 := dkwX5_goes_2 ++ dktX5_goes_3
def dkwX5_goes_1 : List UInt8 := [182, 1, 72, 3, 62, 29, 27, 162, 0, 13, 42, 182, 1, 57, 132, 3, 1, 167, 255, 244, 28, 154, 0, 10]
abbrev dktX5_goes_1 : List UInt8 := dkwX5_goes_1 ++ dktX5_goes_2
def dkwX5_goes_0 : List UInt8 := [27, 4, 16, 60, 184, 0, 100, 153, 0, 12, 28, 3, 6, 184, 0, 100, 154, 0, 5, 2, 172, 42]
abbrev dktX5_goes_0 : List UInt8 := dkwX5_goes_0 ++ dktX5_goes_1
theorem dksX5_goes_0 : cX5_goes.data.toList.drop 0 = dktX5_goes_0 := by decide +kernel
theorem dksX5_goes_1 : cX5_goes.data.toList.drop 22 = dktX5_goes_1 := dk_seg dksX5_goes_0 22 rfl rfl
theorem dksX5_goes_2 : cX5_goes.data.toList.drop 46 = dktX5_goes_2 := dk_seg dksX5_goes_1 24 rfl rfl
theorem dksX5_goes_3 : cX5_goes.data.toList.drop 69 = dktX5_goes_3 := dk_seg dksX5_goes_2 23 rfl rfl
theorem dX5_goes_0 : decode cX5_goes 0 = .ok (.iload_n 1, 1) := dk_27 (dk_at dksX5_goes_0 0 rfl rfl)
theorem dX5_goes_1 : decode cX5_goes 1 = .ok (.iconst 1, 1) := dk_4 (dk_at dksX5_goes_0 1 rfl rfl)
theorem dX5_goes_2 : decode cX5_goes 2 = .ok (.bipush 60, 2) := dk_16 60 (dk_at dksX5_goes_0 2 rfl rfl)
theorem dX5_goes_4 : decode cX5_goes 4 = .ok (.invokestatic 100, 3) := dk_184 0 100 (dk_at dksX5_goes_0 4 rfl rfl)
theorem dX5_goes_7 : decode cX5_goes 7 = .ok (.ifCond .eq 12, 3) := dk_153 0 12 (dk_at dksX5_goes_0 7 rfl rfl)
theorem dX5_goes_10 : decode cX5_goes 10 = .ok (.iload_n 2, 1) := dk_28 (dk_at dksX5_goes_0 10 rfl rfl)
theorem dX5_goes_11 : decode cX5_goes 11 = .ok (.iconst 0, 1) := dk_3 (dk_at dksX5_goes_0 11 rfl rfl)
theorem dX5_goes_12 : decode cX5_goes 12 = .ok (.iconst 3, 1) := dk_6 (dk_at dksX5_goes_0 12 rfl rfl)
theorem dX5_goes_13 : decode cX5_goes 13 = .ok (.invokestatic 100, 3) := dk_184 0 100 (dk_at dksX5_goes_0 13 rfl rfl)
theorem dX5_goes_16 : decode cX5_goes 16 = .ok (.ifCond .ne 5, 3) := dk_154 0 5 (dk_at dksX5_goes_0 16 rfl rfl)
theorem dX5_goes_19 : decode cX5_goes 19 = .ok (.iconst (-1), 1) := dk_2 (dk_at dksX5_goes_0 19 rfl rfl)
theorem dX5_goes_20 : decode cX5_goes 20 = .ok (.ireturn, 1) := dk_172 (dk_at dksX5_goes_0 20 rfl rfl)
theorem dX5_goes_21 : decode cX5_goes 21 = .ok (.aload_n 0, 1) := dk_42 (dk_at dksX5_goes_0 21 rfl rfl)
theorem dX5_goes_22 : decode cX5_goes 22 = .ok (.invokevirtual 328, 3) := dk_182 1 72 (dk_at dksX5_goes_1 0 rfl rfl)
theorem dX5_goes_25 : decode cX5_goes 25 = .ok (.iconst 0, 1) := dk_3 (dk_at dksX5_goes_1 3 rfl rfl)
theorem dX5_goes_26 : decode cX5_goes 26 = .ok (.istore_n 3, 1) := dk_62 (dk_at dksX5_goes_1 4 rfl rfl)
theorem dX5_goes_27 : decode cX5_goes 27 = .ok (.iload_n 3, 1) := dk_29 (dk_at dksX5_goes_1 5 rfl rfl)
theorem dX5_goes_28 : decode cX5_goes 28 = .ok (.iload_n 1, 1) := dk_27 (dk_at dksX5_goes_1 6 rfl rfl)
theorem dX5_goes_29 : decode cX5_goes 29 = .ok (.if_icmp .ge 13, 3) := dk_162 0 13 (dk_at dksX5_goes_1 7 rfl rfl)
theorem dX5_goes_32 : decode cX5_goes 32 = .ok (.aload_n 0, 1) := dk_42 (dk_at dksX5_goes_1 10 rfl rfl)
theorem dX5_goes_33 : decode cX5_goes 33 = .ok (.invokevirtual 313, 3) := dk_182 1 57 (dk_at dksX5_goes_1 11 rfl rfl)
theorem dX5_goes_36 : decode cX5_goes 36 = .ok (.iinc 3 1, 3) := dk_132 3 1 (dk_at dksX5_goes_1 14 rfl rfl)
theorem dX5_goes_39 : decode cX5_goes 39 = .ok (.goto (-12), 3) := dk_167 255 244 (dk_at dksX5_goes_1 17 rfl rfl)
theorem dX5_goes_42 : decode cX5_goes 42 = .ok (.iload_n 2, 1) := dk_28 (dk_at dksX5_goes_1 20 rfl rfl)
theorem dX5_goes_43 : decode cX5_goes 43 = .ok (.ifCond .ne 10, 3) := dk_154 0 10 (dk_at dksX5_goes_1 21 rfl rfl)
theorem dX5_goes_46 : decode cX5_goes 46 = .ok (.aload_n 0, 1) := dk_42 (dk_at dksX5_goes_2 0 rfl rfl)
theorem dX5_goes_47 : decode cX5_goes 47 = .ok (.invokevirtual 243, 3) := dk_182 0 243 (dk_at dksX5_goes_2 1 rfl rfl)
theorem dX5_goes_50 : decode cX5_goes 50 = .ok (.goto 39, 3) := dk_167 0 39 (dk_at dksX5_goes_2 4 rfl rfl)
theorem dX5_goes_53 : decode cX5_goes 53 = .ok (.iload_n 2, 1) := dk_28 (dk_at dksX5_goes_2 7 rfl rfl)
theorem dX5_goes_54 : decode cX5_goes 54 = .ok (.iconst 1, 1) := dk_4 (dk_at dksX5_goes_2 8 rfl rfl)
theorem dX5_goes_55 : decode cX5_goes 55 = .ok (.if_icmp .ne 12, 3) := dk_160 0 12 (dk_at dksX5_goes_2 9 rfl rfl)
theorem dX5_goes_58 : decode cX5_goes 58 = .ok (.aload_n 0, 1) := dk_42 (dk_at dksX5_goes_2 12 rfl rfl)
theorem dX5_goes_59 : decode cX5_goes 59 = .ok (.bipush 9, 2) := dk_16 9 (dk_at dksX5_goes_2 13 rfl rfl)
theorem dX5_goes_61 : decode cX5_goes 61 = .ok (.invokevirtual 319, 3) := dk_182 1 63 (dk_at dksX5_goes_2 15 rfl rfl)
theorem dX5_goes_64 : decode cX5_goes 64 = .ok (.goto 25, 3) := dk_167 0 25 (dk_at dksX5_goes_2 18 rfl rfl)
theorem dX5_goes_67 : decode cX5_goes 67 = .ok (.iload_n 2, 1) := dk_28 (dk_at dksX5_goes_2 21 rfl rfl)
theorem dX5_goes_68 : decode cX5_goes 68 = .ok (.iconst 2, 1) := dk_5 (dk_at dksX5_goes_2 22 rfl rfl)
theorem dX5_goes_69 : decode cX5_goes 69 = .ok (.if_icmp .ne 12, 3) := dk_160 0 12 (dk_at dksX5_goes_3 0 rfl rfl)
theorem dX5_goes_72 : decode cX5_goes 72 = .ok (.aload_n 0, 1) := dk_42 (dk_at dksX5_goes_3 3 rfl rfl)
theorem dX5_goes_73 : decode cX5_goes 73 = .ok (.bipush 10, 2) := dk_16 10 (dk_at dksX5_goes_3 4 rfl rfl)
theorem dX5_goes_75 : decode cX5_goes 75 = .ok (.invokevirtual 319, 3) := dk_182 1 63 (dk_at dksX5_goes_3 6 rfl rfl)
theorem dX5_goes_78 : decode cX5_goes 78 = .ok (.goto 11, 3) := dk_167 0 11 (dk_at dksX5_goes_3 9 rfl rfl)
theorem dX5_goes_81 : decode cX5_goes 81 = .ok (.aload_n 0, 1) := dk_42 (dk_at dksX5_goes_3 12 rfl rfl)
theorem dX5_goes_82 : decode cX5_goes 82 = .ok (.getfield 13, 3) := dk_180 0 13 (dk_at dksX5_goes_3 13 rfl rfl)
theorem dX5_goes_85 : decode cX5_goes 85 = .ok (.sipush 937, 3) := dk_17 3 169 (dk_at dksX5_goes_3 16 rfl rfl)
theorem dX5_goes_88 : decode cX5_goes 88 = .ok (.iaload, 1) := dk_46 (dk_at dksX5_goes_3 19 rfl rfl)
theorem dX5_goes_89 : decode cX5_goes 89 = .ok (.ireturn, 1) := dk_172 (dk_at dksX5_goes_3 20 rfl rfl)
abbrev cX5_over : ByteArray := prog_17_method_84_code
def yX5_over : MethodName := ⟨RX5, "over", "(I)I"⟩
def dkwX5_over_2 : List UInt8 := [132, 2, 1, 167, 255, 232, 2, 172]
abbrev dktX5_over_2 : List UInt8 := dkwX5_over_2 ++ []
def dkwX5_over_1 : List UInt8 := [172, 4, 61, 28, 16, 60, 163, 0, 24, 42, 182, 1, 57, 42, 27, 4, 182, 0, 104, 154, 0, 5, 28, 172]
abbrev dktX5_over_1 : List UInt8 := dkwX5_over_1 ++ dktX5_over_2
def dkwX5_over_0 : List UInt8 := [42, 27, 182, 1, 66, 154, 0, 5, 2, 172, 42, 182, 1, 72, 42, 27, 4, 182, 0, 104, 154, 0, 5, 2]
abbrev dktX5_over_0 : List UInt8 := dkwX5_over_0 ++ dktX5_over_1
theorem dksX5_over_0 : cX5_over.data.toList.drop 0 = dktX5_over_0 := by decide +kernel
theorem dksX5_over_1 : cX5_over.data.toList.drop 24 = dktX5_over_1 := dk_seg dksX5_over_0 24 rfl rfl
theorem dksX5_over_2 : cX5_over.data.toList.drop 48 = dktX5_over_2 := dk_seg dksX5_over_1 24 rfl rfl
theorem dX5_over_0 : decode cX5_over 0 = .ok (.aload_n 0, 1) := dk_42 (dk_at dksX5_over_0 0 rfl rfl)
theorem dX5_over_1 : decode cX5_over 1 = .ok (.iload_n 1, 1) := dk_27 (dk_at dksX5_over_0 1 rfl rfl)
theorem dX5_over_2 : decode cX5_over 2 = .ok (.invokevirtual 322, 3) := dk_182 1 66 (dk_at dksX5_over_0 2 rfl rfl)
theorem dX5_over_5 : decode cX5_over 5 = .ok (.ifCond .ne 5, 3) := dk_154 0 5 (dk_at dksX5_over_0 5 rfl rfl)
theorem dX5_over_8 : decode cX5_over 8 = .ok (.iconst (-1), 1) := dk_2 (dk_at dksX5_over_0 8 rfl rfl)
theorem dX5_over_9 : decode cX5_over 9 = .ok (.ireturn, 1) := dk_172 (dk_at dksX5_over_0 9 rfl rfl)
theorem dX5_over_10 : decode cX5_over 10 = .ok (.aload_n 0, 1) := dk_42 (dk_at dksX5_over_0 10 rfl rfl)
theorem dX5_over_11 : decode cX5_over 11 = .ok (.invokevirtual 328, 3) := dk_182 1 72 (dk_at dksX5_over_0 11 rfl rfl)
theorem dX5_over_14 : decode cX5_over 14 = .ok (.aload_n 0, 1) := dk_42 (dk_at dksX5_over_0 14 rfl rfl)
theorem dX5_over_15 : decode cX5_over 15 = .ok (.iload_n 1, 1) := dk_27 (dk_at dksX5_over_0 15 rfl rfl)
theorem dX5_over_16 : decode cX5_over 16 = .ok (.iconst 1, 1) := dk_4 (dk_at dksX5_over_0 16 rfl rfl)
theorem dX5_over_17 : decode cX5_over 17 = .ok (.invokevirtual 104, 3) := dk_182 0 104 (dk_at dksX5_over_0 17 rfl rfl)
theorem dX5_over_20 : decode cX5_over 20 = .ok (.ifCond .ne 5, 3) := dk_154 0 5 (dk_at dksX5_over_0 20 rfl rfl)
theorem dX5_over_23 : decode cX5_over 23 = .ok (.iconst (-1), 1) := dk_2 (dk_at dksX5_over_0 23 rfl rfl)
theorem dX5_over_24 : decode cX5_over 24 = .ok (.ireturn, 1) := dk_172 (dk_at dksX5_over_1 0 rfl rfl)
theorem dX5_over_25 : decode cX5_over 25 = .ok (.iconst 1, 1) := dk_4 (dk_at dksX5_over_1 1 rfl rfl)
theorem dX5_over_26 : decode cX5_over 26 = .ok (.istore_n 2, 1) := dk_61 (dk_at dksX5_over_1 2 rfl rfl)
theorem dX5_over_27 : decode cX5_over 27 = .ok (.iload_n 2, 1) := dk_28 (dk_at dksX5_over_1 3 rfl rfl)
theorem dX5_over_28 : decode cX5_over 28 = .ok (.bipush 60, 2) := dk_16 60 (dk_at dksX5_over_1 4 rfl rfl)
theorem dX5_over_30 : decode cX5_over 30 = .ok (.if_icmp .gt 24, 3) := dk_163 0 24 (dk_at dksX5_over_1 6 rfl rfl)
theorem dX5_over_33 : decode cX5_over 33 = .ok (.aload_n 0, 1) := dk_42 (dk_at dksX5_over_1 9 rfl rfl)
theorem dX5_over_34 : decode cX5_over 34 = .ok (.invokevirtual 313, 3) := dk_182 1 57 (dk_at dksX5_over_1 10 rfl rfl)
theorem dX5_over_37 : decode cX5_over 37 = .ok (.aload_n 0, 1) := dk_42 (dk_at dksX5_over_1 13 rfl rfl)
theorem dX5_over_38 : decode cX5_over 38 = .ok (.iload_n 1, 1) := dk_27 (dk_at dksX5_over_1 14 rfl rfl)
theorem dX5_over_39 : decode cX5_over 39 = .ok (.iconst 1, 1) := dk_4 (dk_at dksX5_over_1 15 rfl rfl)
theorem dX5_over_40 : decode cX5_over 40 = .ok (.invokevirtual 104, 3) := dk_182 0 104 (dk_at dksX5_over_1 16 rfl rfl)
theorem dX5_over_43 : decode cX5_over 43 = .ok (.ifCond .ne 5, 3) := dk_154 0 5 (dk_at dksX5_over_1 19 rfl rfl)
theorem dX5_over_46 : decode cX5_over 46 = .ok (.iload_n 2, 1) := dk_28 (dk_at dksX5_over_1 22 rfl rfl)
theorem dX5_over_47 : decode cX5_over 47 = .ok (.ireturn, 1) := dk_172 (dk_at dksX5_over_1 23 rfl rfl)
theorem dX5_over_48 : decode cX5_over 48 = .ok (.iinc 2 1, 3) := dk_132 2 1 (dk_at dksX5_over_2 0 rfl rfl)
theorem dX5_over_51 : decode cX5_over 51 = .ok (.goto (-24), 3) := dk_167 255 232 (dk_at dksX5_over_2 3 rfl rfl)
theorem dX5_over_54 : decode cX5_over 54 = .ok (.iconst (-1), 1) := dk_2 (dk_at dksX5_over_2 6 rfl rfl)
theorem dX5_over_55 : decode cX5_over 55 = .ok (.ireturn, 1) := dk_172 (dk_at dksX5_over_2 7 rfl rfl)
abbrev cX5_meets : ByteArray := prog_17_method_86_code
def yX5_meets : MethodName := ⟨RX5, "meets", "(II)I"⟩
def dkwX5_meets_3 : List UInt8 := [182, 1, 75, 132, 3, 1, 167, 255, 202, 2, 172]
abbrev dktX5_meets_3 : List UInt8 := dkwX5_meets_3 ++ []
def dkwX5_meets_2 : List UInt8 := [2, 172, 42, 27, 182, 0, 111, 42, 28, 182, 0, 111, 160, 0, 5, 29, 172, 42, 27, 182, 1, 75, 42, 28]
abbrev dktX5_meets_2 : List UInt8 := dkwX5_meets_2 ++ dktX5_meets_3
def dkwX5_meets_1 : List UInt8 := [29, 16, 60, 163, 0, 54, 42, 27, 4, 182, 0, 104, 153, 0, 12, 42, 28, 4, 182, 0, 104, 154, 0, 5]
abbrev dktX5_meets_1 : List UInt8 := dkwX5_meets_1 ++ dktX5_meets_2
def dkwX5_meets_0 : List UInt8 := [42, 27, 182, 1, 66, 153, 0, 11, 42, 28, 182, 1, 66, 154, 0, 5, 2, 172, 42, 182, 1, 72, 3, 62]
abbrev dktX5_meets_0 : List UInt8 := dkwX5_meets_0 ++ dktX5_meets_1
theorem dksX5_meets_0 : cX5_meets.data.toList.drop 0 = dktX5_meets_0 := by decide +kernel
theorem dksX5_meets_1 : cX5_meets.data.toList.drop 24 = dktX5_meets_1 := dk_seg dksX5_meets_0 24 rfl rfl
theorem dksX5_meets_2 : cX5_meets.data.toList.drop 48 = dktX5_meets_2 := dk_seg dksX5_meets_1 24 rfl rfl
theorem dksX5_meets_3 : cX5_meets.data.toList.drop 72 = dktX5_meets_3 := dk_seg dksX5_meets_2 24 rfl rfl
theorem dX5_meets_0 : decode cX5_meets 0 = .ok (.aload_n 0, 1) := dk_42 (dk_at dksX5_meets_0 0 rfl rfl)
theorem dX5_meets_1 : decode cX5_meets 1 = .ok (.iload_n 1, 1) := dk_27 (dk_at dksX5_meets_0 1 rfl rfl)
theorem dX5_meets_2 : decode cX5_meets 2 = .ok (.invokevirtual 322, 3) := dk_182 1 66 (dk_at dksX5_meets_0 2 rfl rfl)
theorem dX5_meets_5 : decode cX5_meets 5 = .ok (.ifCond .eq 11, 3) := dk_153 0 11 (dk_at dksX5_meets_0 5 rfl rfl)
theorem dX5_meets_8 : decode cX5_meets 8 = .ok (.aload_n 0, 1) := dk_42 (dk_at dksX5_meets_0 8 rfl rfl)
theorem dX5_meets_9 : decode cX5_meets 9 = .ok (.iload_n 2, 1) := dk_28 (dk_at dksX5_meets_0 9 rfl rfl)
theorem dX5_meets_10 : decode cX5_meets 10 = .ok (.invokevirtual 322, 3) := dk_182 1 66 (dk_at dksX5_meets_0 10 rfl rfl)
theorem dX5_meets_13 : decode cX5_meets 13 = .ok (.ifCond .ne 5, 3) := dk_154 0 5 (dk_at dksX5_meets_0 13 rfl rfl)
theorem dX5_meets_16 : decode cX5_meets 16 = .ok (.iconst (-1), 1) := dk_2 (dk_at dksX5_meets_0 16 rfl rfl)
theorem dX5_meets_17 : decode cX5_meets 17 = .ok (.ireturn, 1) := dk_172 (dk_at dksX5_meets_0 17 rfl rfl)
theorem dX5_meets_18 : decode cX5_meets 18 = .ok (.aload_n 0, 1) := dk_42 (dk_at dksX5_meets_0 18 rfl rfl)
theorem dX5_meets_19 : decode cX5_meets 19 = .ok (.invokevirtual 328, 3) := dk_182 1 72 (dk_at dksX5_meets_0 19 rfl rfl)
theorem dX5_meets_22 : decode cX5_meets 22 = .ok (.iconst 0, 1) := dk_3 (dk_at dksX5_meets_0 22 rfl rfl)
theorem dX5_meets_23 : decode cX5_meets 23 = .ok (.istore_n 3, 1) := dk_62 (dk_at dksX5_meets_0 23 rfl rfl)
theorem dX5_meets_24 : decode cX5_meets 24 = .ok (.iload_n 3, 1) := dk_29 (dk_at dksX5_meets_1 0 rfl rfl)
theorem dX5_meets_25 : decode cX5_meets 25 = .ok (.bipush 60, 2) := dk_16 60 (dk_at dksX5_meets_1 1 rfl rfl)
theorem dX5_meets_27 : decode cX5_meets 27 = .ok (.if_icmp .gt 54, 3) := dk_163 0 54 (dk_at dksX5_meets_1 3 rfl rfl)
theorem dX5_meets_30 : decode cX5_meets 30 = .ok (.aload_n 0, 1) := dk_42 (dk_at dksX5_meets_1 6 rfl rfl)
theorem dX5_meets_31 : decode cX5_meets 31 = .ok (.iload_n 1, 1) := dk_27 (dk_at dksX5_meets_1 7 rfl rfl)
theorem dX5_meets_32 : decode cX5_meets 32 = .ok (.iconst 1, 1) := dk_4 (dk_at dksX5_meets_1 8 rfl rfl)
theorem dX5_meets_33 : decode cX5_meets 33 = .ok (.invokevirtual 104, 3) := dk_182 0 104 (dk_at dksX5_meets_1 9 rfl rfl)
theorem dX5_meets_36 : decode cX5_meets 36 = .ok (.ifCond .eq 12, 3) := dk_153 0 12 (dk_at dksX5_meets_1 12 rfl rfl)
theorem dX5_meets_39 : decode cX5_meets 39 = .ok (.aload_n 0, 1) := dk_42 (dk_at dksX5_meets_1 15 rfl rfl)
theorem dX5_meets_40 : decode cX5_meets 40 = .ok (.iload_n 2, 1) := dk_28 (dk_at dksX5_meets_1 16 rfl rfl)
theorem dX5_meets_41 : decode cX5_meets 41 = .ok (.iconst 1, 1) := dk_4 (dk_at dksX5_meets_1 17 rfl rfl)
theorem dX5_meets_42 : decode cX5_meets 42 = .ok (.invokevirtual 104, 3) := dk_182 0 104 (dk_at dksX5_meets_1 18 rfl rfl)
theorem dX5_meets_45 : decode cX5_meets 45 = .ok (.ifCond .ne 5, 3) := dk_154 0 5 (dk_at dksX5_meets_1 21 rfl rfl)
theorem dX5_meets_48 : decode cX5_meets 48 = .ok (.iconst (-1), 1) := dk_2 (dk_at dksX5_meets_2 0 rfl rfl)
theorem dX5_meets_49 : decode cX5_meets 49 = .ok (.ireturn, 1) := dk_172 (dk_at dksX5_meets_2 1 rfl rfl)
theorem dX5_meets_50 : decode cX5_meets 50 = .ok (.aload_n 0, 1) := dk_42 (dk_at dksX5_meets_2 2 rfl rfl)
theorem dX5_meets_51 : decode cX5_meets 51 = .ok (.iload_n 1, 1) := dk_27 (dk_at dksX5_meets_2 3 rfl rfl)
theorem dX5_meets_52 : decode cX5_meets 52 = .ok (.invokevirtual 111, 3) := dk_182 0 111 (dk_at dksX5_meets_2 4 rfl rfl)
theorem dX5_meets_55 : decode cX5_meets 55 = .ok (.aload_n 0, 1) := dk_42 (dk_at dksX5_meets_2 7 rfl rfl)
theorem dX5_meets_56 : decode cX5_meets 56 = .ok (.iload_n 2, 1) := dk_28 (dk_at dksX5_meets_2 8 rfl rfl)
theorem dX5_meets_57 : decode cX5_meets 57 = .ok (.invokevirtual 111, 3) := dk_182 0 111 (dk_at dksX5_meets_2 9 rfl rfl)
theorem dX5_meets_60 : decode cX5_meets 60 = .ok (.if_icmp .ne 5, 3) := dk_160 0 5 (dk_at dksX5_meets_2 12 rfl rfl)
theorem dX5_meets_63 : decode cX5_meets 63 = .ok (.iload_n 3, 1) := dk_29 (dk_at dksX5_meets_2 15 rfl rfl)
theorem dX5_meets_64 : decode cX5_meets 64 = .ok (.ireturn, 1) := dk_172 (dk_at dksX5_meets_2 16 rfl rfl)
theorem dX5_meets_65 : decode cX5_meets 65 = .ok (.aload_n 0, 1) := dk_42 (dk_at dksX5_meets_2 17 rfl rfl)
theorem dX5_meets_66 : decode cX5_meets 66 = .ok (.iload_n 1, 1) := dk_27 (dk_at dksX5_meets_2 18 rfl rfl)
theorem dX5_meets_67 : decode cX5_meets 67 = .ok (.invokevirtual 331, 3) := dk_182 1 75 (dk_at dksX5_meets_2 19 rfl rfl)
theorem dX5_meets_70 : decode cX5_meets 70 = .ok (.aload_n 0, 1) := dk_42 (dk_at dksX5_meets_2 22 rfl rfl)
theorem dX5_meets_71 : decode cX5_meets 71 = .ok (.iload_n 2, 1) := dk_28 (dk_at dksX5_meets_2 23 rfl rfl)
theorem dX5_meets_72 : decode cX5_meets 72 = .ok (.invokevirtual 331, 3) := dk_182 1 75 (dk_at dksX5_meets_3 0 rfl rfl)
theorem dX5_meets_75 : decode cX5_meets 75 = .ok (.iinc 3 1, 3) := dk_132 3 1 (dk_at dksX5_meets_3 3 rfl rfl)
theorem dX5_meets_78 : decode cX5_meets 78 = .ok (.goto (-54), 3) := dk_167 255 202 (dk_at dksX5_meets_3 6 rfl rfl)
theorem dX5_meets_81 : decode cX5_meets 81 = .ok (.iconst (-1), 1) := dk_2 (dk_at dksX5_meets_3 9 rfl rfl)
theorem dX5_meets_82 : decode cX5_meets 82 = .ok (.ireturn, 1) := dk_172 (dk_at dksX5_meets_3 10 rfl rfl)
