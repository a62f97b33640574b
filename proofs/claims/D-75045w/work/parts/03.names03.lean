set_option maxRecDepth 100000
abbrev cX1_troublemaker : ByteArray := prog_1_method_62_code
def yX1_troublemaker : MethodName := ⟨RX1, "troublemaker", "(I)I"⟩
def dkwX1_troublemaker_4 : List UInt8 := [187, 1, 71, 89, 183, 1, 73, 191, 28, 172]
abbrev dktX1_troublemaker_4 : List UInt8 := dkwX1_troublemaker_4 ++ []
def dkwX1_troublemaker_3 : List UInt8 := [161, 0, 6, 167, 0, 9, 21, 4, 61, 21, 6, 62, 132, 4, 1, 167, 255, 183, 28, 2, 160, 0, 11]
abbrev dktX1_troublemaker_3 : List UInt8 := dkwX1_troublemaker_3 ++ dktX1_troublemaker_4
def dkwX1_troublemaker_2 : List UInt8 := [25, 5, 21, 4, 3, 182, 0, 227, 25, 5, 27, 182, 1, 51, 54, 6, 28, 2, 159, 0, 12, 21, 6, 29]
abbrev dktX1_troublemaker_2 : List UInt8 := dkwX1_troublemaker_2 ++ dktX1_troublemaker_3
def dkwX1_troublemaker_1 : List UInt8 := [180, 0, 46, 180, 0, 167, 21, 4, 46, 154, 0, 6, 167, 0, 48, 42, 180, 0, 46, 182, 0, 224, 58, 5]
abbrev dktX1_troublemaker_1 : List UInt8 := dkwX1_troublemaker_1 ++ dktX1_troublemaker_2
def dkwX1_troublemaker_0 : List UInt8 := [42, 27, 182, 1, 48, 2, 61, 3, 62, 3, 54, 4, 21, 4, 42, 182, 0, 216, 162, 0, 70, 42]
abbrev dktX1_troublemaker_0 : List UInt8 := dkwX1_troublemaker_0 ++ dktX1_troublemaker_1
theorem dksX1_troublemaker_0 : cX1_troublemaker.data.toList.drop 0 = dktX1_troublemaker_0 := by decide +kernel
theorem dksX1_troublemaker_1 : cX1_troublemaker.data.toList.drop 22 = dktX1_troublemaker_1 := dk_seg dksX1_troublemaker_0 22 rfl rfl
theorem dksX1_troublemaker_2 : cX1_troublemaker.data.toList.drop 46 = dktX1_troublemaker_2 := dk_seg dksX1_troublemaker_1 24 rfl rfl
theorem dksX1_troublemaker_3 : cX1_troublemaker.data.toList.drop 70 = dktX1_troublemaker_3 := dk_seg dksX1_troublemaker_2 24 rfl rfl
theorem dksX1_troublemaker_4 : cX1_troublemaker.data.toList.drop 93 = dktX1_troublemaker_4 := dk_seg dksX1_troublemaker_3 23 rfl rfl
theorem dX1_troublemaker_0 : decode cX1_troublemaker 0 = .ok (.aload_n 0, 1) := dk_42 (dk_at dksX1_troublemaker_0 0 rfl rfl)
theorem dX1_troublemaker_1 : decode cX1_troublemaker 1 = .ok (.iload_n 1, 1) := dk_27 (dk_at dksX1_troublemaker_0 1 rfl rfl)
theorem dX1_troublemaker_2 : decode cX1_troublemaker 2 = .ok (.invokevirtual 304, 3) := dk_182 1 48 (dk_at dksX1_troublemaker_0 2 rfl rfl)
theorem dX1_troublemaker_5 : decode cX1_troublemaker 5 = .ok (.iconst (-1), 1) := dk_2 (dk_at dksX1_troublemaker_0 5 rfl rfl)
theorem dX1_troublemaker_6 : decode cX1_troublemaker 6 = .ok (.istore_n 2, 1) := dk_61 (dk_at dksX1_troublemaker_0 6 rfl rfl)
theorem dX1_troublemaker_7 : decode cX1_troublemaker 7 = .ok (.iconst 0, 1) := dk_3 (dk_at dksX1_troublemaker_0 7 rfl rfl)
theorem dX1_troublemaker_8 : decode cX1_troublemaker 8 = .ok (.istore_n 3, 1) := dk_62 (dk_at dksX1_troublemaker_0 8 rfl rfl)
theorem dX1_troublemaker_9 : decode cX1_troublemaker 9 = .ok (.iconst 0, 1) := dk_3 (dk_at dksX1_troublemaker_0 9 rfl rfl)
theorem dX1_troublemaker_10 : decode cX1_troublemaker 10 = .ok (.istore 4, 2) := dk_54 4 (dk_at dksX1_troublemaker_0 10 rfl rfl)
theorem dX1_troublemaker_12 : decode cX1_troublemaker 12 = .ok (.iload 4, 2) := dk_21 4 (dk_at dksX1_troublemaker_0 12 rfl rfl)
theorem dX1_troublemaker_14 : decode cX1_troublemaker 14 = .ok (.aload_n 0, 1) := dk_42 (dk_at dksX1_troublemaker_0 14 rfl rfl)
theorem dX1_troublemaker_15 : decode cX1_troublemaker 15 = .ok (.invokevirtual 216, 3) := dk_182 0 216 (dk_at dksX1_troublemaker_0 15 rfl rfl)
theorem dX1_troublemaker_18 : decode cX1_troublemaker 18 = .ok (.if_icmp .ge 70, 3) := dk_162 0 70 (dk_at dksX1_troublemaker_0 18 rfl rfl)
theorem dX1_troublemaker_21 : decode cX1_troublemaker 21 = .ok (.aload_n 0, 1) := dk_42 (dk_at dksX1_troublemaker_0 21 rfl rfl)
theorem dX1_troublemaker_22 : decode cX1_troublemaker 22 = .ok (.getfield 46, 3) := dk_180 0 46 (dk_at dksX1_troublemaker_1 0 rfl rfl)
theorem dX1_troublemaker_25 : decode cX1_troublemaker 25 = .ok (.getfield 167, 3) := dk_180 0 167 (dk_at dksX1_troublemaker_1 3 rfl rfl)
theorem dX1_troublemaker_28 : decode cX1_troublemaker 28 = .ok (.iload 4, 2) := dk_21 4 (dk_at dksX1_troublemaker_1 6 rfl rfl)
theorem dX1_troublemaker_30 : decode cX1_troublemaker 30 = .ok (.iaload, 1) := dk_46 (dk_at dksX1_troublemaker_1 8 rfl rfl)
theorem dX1_troublemaker_31 : decode cX1_troublemaker 31 = .ok (.ifCond .ne 6, 3) := dk_154 0 6 (dk_at dksX1_troublemaker_1 9 rfl rfl)
theorem dX1_troublemaker_34 : decode cX1_troublemaker 34 = .ok (.goto 48, 3) := dk_167 0 48 (dk_at dksX1_troublemaker_1 12 rfl rfl)
theorem dX1_troublemaker_37 : decode cX1_troublemaker 37 = .ok (.aload_n 0, 1) := dk_42 (dk_at dksX1_troublemaker_1 15 rfl rfl)
theorem dX1_troublemaker_38 : decode cX1_troublemaker 38 = .ok (.getfield 46, 3) := dk_180 0 46 (dk_at dksX1_troublemaker_1 16 rfl rfl)
theorem dX1_troublemaker_41 : decode cX1_troublemaker 41 = .ok (.invokevirtual 224, 3) := dk_182 0 224 (dk_at dksX1_troublemaker_1 19 rfl rfl)
theorem dX1_troublemaker_44 : decode cX1_troublemaker 44 = .ok (.astore 5, 2) := dk_58 5 (dk_at dksX1_troublemaker_1 22 rfl rfl)
theorem dX1_troublemaker_46 : decode cX1_troublemaker 46 = .ok (.aload 5, 2) := dk_25 5 (dk_at dksX1_troublemaker_2 0 rfl rfl)
theorem dX1_troublemaker_48 : decode cX1_troublemaker 48 = .ok (.iload 4, 2) := dk_21 4 (dk_at dksX1_troublemaker_2 2 rfl rfl)
theorem dX1_troublemaker_50 : decode cX1_troublemaker 50 = .ok (.iconst 0, 1) := dk_3 (dk_at dksX1_troublemaker_2 4 rfl rfl)
theorem dX1_troublemaker_51 : decode cX1_troublemaker 51 = .ok (.invokevirtual 227, 3) := dk_182 0 227 (dk_at dksX1_troublemaker_2 5 rfl rfl)
theorem dX1_troublemaker_54 : decode cX1_troublemaker 54 = .ok (.aload 5, 2) := dk_25 5 (dk_at dksX1_troublemaker_2 8 rfl rfl)
theorem dX1_troublemaker_56 : decode cX1_troublemaker 56 = .ok (.iload_n 1, 1) := dk_27 (dk_at dksX1_troublemaker_2 10 rfl rfl)
theorem dX1_troublemaker_57 : decode cX1_troublemaker 57 = .ok (.invokevirtual 307, 3) := dk_182 1 51 (dk_at dksX1_troublemaker_2 11 rfl rfl)
theorem dX1_troublemaker_60 : decode cX1_troublemaker 60 = .ok (.istore 6, 2) := dk_54 6 (dk_at dksX1_troublemaker_2 14 rfl rfl)
theorem dX1_troublemaker_62 : decode cX1_troublemaker 62 = .ok (.iload_n 2, 1) := dk_28 (dk_at dksX1_troublemaker_2 16 rfl rfl)
theorem dX1_troublemaker_63 : decode cX1_troublemaker 63 = .ok (.iconst (-1), 1) := dk_2 (dk_at dksX1_troublemaker_2 17 rfl rfl)
theorem dX1_troublemaker_64 : decode cX1_troublemaker 64 = .ok (.if_icmp .eq 12, 3) := dk_159 0 12 (dk_at dksX1_troublemaker_2 18 rfl rfl)
theorem dX1_troublemaker_67 : decode cX1_troublemaker 67 = .ok (.iload 6, 2) := dk_21 6 (dk_at dksX1_troublemaker_2 21 rfl rfl)
theorem dX1_troublemaker_69 : decode cX1_troublemaker 69 = .ok (.iload_n 3, 1) := dk_29 (dk_at dksX1_troublemaker_2 23 rfl rfl)
theorem dX1_troublemaker_70 : decode cX1_troublemaker 70 = .ok (.if_icmp .lt 6, 3) := dk_161 0 6 (dk_at dksX1_troublemaker_3 0 rfl rfl)
theorem dX1_troublemaker_73 : decode cX1_troublemaker 73 = .ok (.goto 9, 3) := dk_167 0 9 (dk_at dksX1_troublemaker_3 3 rfl rfl)
theorem dX1_troublemaker_76 : decode cX1_troublemaker 76 = .ok (.iload 4, 2) := dk_21 4 (dk_at dksX1_troublemaker_3 6 rfl rfl)
theorem dX1_troublemaker_78 : decode cX1_troublemaker 78 = .ok (.istore_n 2, 1) := dk_61 (dk_at dksX1_troublemaker_3 8 rfl rfl)
theorem dX1_troublemaker_79 : decode cX1_troublemaker 79 = .ok (.iload 6, 2) := dk_21 6 (dk_at dksX1_troublemaker_3 9 rfl rfl)
theorem dX1_troublemaker_81 : decode cX1_troublemaker 81 = .ok (.istore_n 3, 1) := dk_62 (dk_at dksX1_troublemaker_3 11 rfl rfl)
theorem dX1_troublemaker_82 : decode cX1_troublemaker 82 = .ok (.iinc 4 1, 3) := dk_132 4 1 (dk_at dksX1_troublemaker_3 12 rfl rfl)
theorem dX1_troublemaker_85 : decode cX1_troublemaker 85 = .ok (.goto (-73), 3) := dk_167 255 183 (dk_at dksX1_troublemaker_3 15 rfl rfl)
theorem dX1_troublemaker_88 : decode cX1_troublemaker 88 = .ok (.iload_n 2, 1) := dk_28 (dk_at dksX1_troublemaker_3 18 rfl rfl)
theorem dX1_troublemaker_89 : decode cX1_troublemaker 89 = .ok (.iconst (-1), 1) := dk_2 (dk_at dksX1_troublemaker_3 19 rfl rfl)
theorem dX1_troublemaker_90 : decode cX1_troublemaker 90 = .ok (.if_icmp .ne 11, 3) := dk_160 0 11 (dk_at dksX1_troublemaker_3 20 rfl rfl)
theorem dX1_troublemaker_93 : decode cX1_troublemaker 93 = .ok (.new 327, 3) := dk_187 1 71 (dk_at dksX1_troublemaker_4 0 rfl rfl)
theorem dX1_troublemaker_96 : decode cX1_troublemaker 96 = .ok (.dup, 1) := dk_89 (dk_at dksX1_troublemaker_4 3 rfl rfl)
theorem dX1_troublemaker_97 : decode cX1_troublemaker 97 = .ok (.invokespecial 329, 3) := dk_183 1 73 (dk_at dksX1_troublemaker_4 4 rfl rfl)
theorem dX1_troublemaker_100 : decode cX1_troublemaker 100 = .ok (.athrow, 1) := dk_191 (dk_at dksX1_troublemaker_4 7 rfl rfl)
theorem dX1_troublemaker_101 : decode cX1_troublemaker 101 = .ok (.iload_n 2, 1) := dk_28 (dk_at dksX1_troublemaker_4 8 rfl rfl)
theorem dX1_troublemaker_102 : decode cX1_troublemaker 102 = .ok (.ireturn, 1) := dk_172 (dk_at dksX1_troublemaker_4 9 rfl rfl)
abbrev cX1_tightest : ByteArray := prog_1_method_63_code
def yX1_tightest : MethodName := ⟨RX1, "tightest", "()I"⟩
def dkwX1_tightest_3 : List UInt8 := [183, 1, 73, 191, 27, 172]
abbrev dktX1_tightest_3 : List UInt8 := dkwX1_tightest_3 ++ []
def dkwX1_tightest_2 : List UInt8 := [182, 0, 146, 162, 0, 5, 28, 60, 132, 2, 1, 167, 255, 208, 27, 2, 160, 0, 11, 187, 1, 71, 89]
abbrev dktX1_tightest_2 : List UInt8 := dkwX1_tightest_2 ++ dktX1_tightest_3
def dkwX1_tightest_1 : List UInt8 := [182, 0, 143, 153, 0, 29, 27, 2, 159, 0, 22, 42, 180, 0, 46, 28, 182, 0, 146, 42, 180, 0, 46, 27]
abbrev dktX1_tightest_1 : List UInt8 := dkwX1_tightest_1 ++ dktX1_tightest_2
def dkwX1_tightest_0 : List UInt8 := [42, 182, 0, 54, 87, 2, 60, 3, 61, 28, 42, 182, 1, 74, 162, 0, 46, 42, 180, 0, 46, 28]
abbrev dktX1_tightest_0 : List UInt8 := dkwX1_tightest_0 ++ dktX1_tightest_1
theorem dksX1_tightest_0 : cX1_tightest.data.toList.drop 0 = dktX1_tightest_0 := by decide +kernel
theorem dksX1_tightest_1 : cX1_tightest.data.toList.drop 22 = dktX1_tightest_1 := dk_seg dksX1_tightest_0 22 rfl rfl
theorem dksX1_tightest_2 : cX1_tightest.data.toList.drop 46 = dktX1_tightest_2 := dk_seg dksX1_tightest_1 24 rfl rfl
theorem dksX1_tightest_3 : cX1_tightest.data.toList.drop 69 = dktX1_tightest_3 := dk_seg dksX1_tightest_2 23 rfl rfl
theorem dX1_tightest_0 : decode cX1_tightest 0 = .ok (.aload_n 0, 1) := dk_42 (dk_at dksX1_tightest_0 0 rfl rfl)
theorem dX1_tightest_1 : decode cX1_tightest 1 = .ok (.invokevirtual 54, 3) := dk_182 0 54 (dk_at dksX1_tightest_0 1 rfl rfl)
theorem dX1_tightest_4 : decode cX1_tightest 4 = .ok (.pop, 1) := dk_87 (dk_at dksX1_tightest_0 4 rfl rfl)
theorem dX1_tightest_5 : decode cX1_tightest 5 = .ok (.iconst (-1), 1) := dk_2 (dk_at dksX1_tightest_0 5 rfl rfl)
theorem dX1_tightest_6 : decode cX1_tightest 6 = .ok (.istore_n 1, 1) := dk_60 (dk_at dksX1_tightest_0 6 rfl rfl)
theorem dX1_tightest_7 : decode cX1_tightest 7 = .ok (.iconst 0, 1) := dk_3 (dk_at dksX1_tightest_0 7 rfl rfl)
theorem dX1_tightest_8 : decode cX1_tightest 8 = .ok (.istore_n 2, 1) := dk_61 (dk_at dksX1_tightest_0 8 rfl rfl)
theorem dX1_tightest_9 : decode cX1_tightest 9 = .ok (.iload_n 2, 1) := dk_28 (dk_at dksX1_tightest_0 9 rfl rfl)
theorem dX1_tightest_10 : decode cX1_tightest 10 = .ok (.aload_n 0, 1) := dk_42 (dk_at dksX1_tightest_0 10 rfl rfl)
theorem dX1_tightest_11 : decode cX1_tightest 11 = .ok (.invokevirtual 330, 3) := dk_182 1 74 (dk_at dksX1_tightest_0 11 rfl rfl)
theorem dX1_tightest_14 : decode cX1_tightest 14 = .ok (.if_icmp .ge 46, 3) := dk_162 0 46 (dk_at dksX1_tightest_0 14 rfl rfl)
theorem dX1_tightest_17 : decode cX1_tightest 17 = .ok (.aload_n 0, 1) := dk_42 (dk_at dksX1_tightest_0 17 rfl rfl)
theorem dX1_tightest_18 : decode cX1_tightest 18 = .ok (.getfield 46, 3) := dk_180 0 46 (dk_at dksX1_tightest_0 18 rfl rfl)
theorem dX1_tightest_21 : decode cX1_tightest 21 = .ok (.iload_n 2, 1) := dk_28 (dk_at dksX1_tightest_0 21 rfl rfl)
theorem dX1_tightest_22 : decode cX1_tightest 22 = .ok (.invokevirtual 143, 3) := dk_182 0 143 (dk_at dksX1_tightest_1 0 rfl rfl)
theorem dX1_tightest_25 : decode cX1_tightest 25 = .ok (.ifCond .eq 29, 3) := dk_153 0 29 (dk_at dksX1_tightest_1 3 rfl rfl)
theorem dX1_tightest_28 : decode cX1_tightest 28 = .ok (.iload_n 1, 1) := dk_27 (dk_at dksX1_tightest_1 6 rfl rfl)
theorem dX1_tightest_29 : decode cX1_tightest 29 = .ok (.iconst (-1), 1) := dk_2 (dk_at dksX1_tightest_1 7 rfl rfl)
theorem dX1_tightest_30 : decode cX1_tightest 30 = .ok (.if_icmp .eq 22, 3) := dk_159 0 22 (dk_at dksX1_tightest_1 8 rfl rfl)
theorem dX1_tightest_33 : decode cX1_tightest 33 = .ok (.aload_n 0, 1) := dk_42 (dk_at dksX1_tightest_1 11 rfl rfl)
theorem dX1_tightest_34 : decode cX1_tightest 34 = .ok (.getfield 46, 3) := dk_180 0 46 (dk_at dksX1_tightest_1 12 rfl rfl)
theorem dX1_tightest_37 : decode cX1_tightest 37 = .ok (.iload_n 2, 1) := dk_28 (dk_at dksX1_tightest_1 15 rfl rfl)
theorem dX1_tightest_38 : decode cX1_tightest 38 = .ok (.invokevirtual 146, 3) := dk_182 0 146 (dk_at dksX1_tightest_1 16 rfl rfl)
theorem dX1_tightest_41 : decode cX1_tightest 41 = .ok (.aload_n 0, 1) := dk_42 (dk_at dksX1_tightest_1 19 rfl rfl)
theorem dX1_tightest_42 : decode cX1_tightest 42 = .ok (.getfield 46, 3) := dk_180 0 46 (dk_at dksX1_tightest_1 20 rfl rfl)
theorem dX1_tightest_45 : decode cX1_tightest 45 = .ok (.iload_n 1, 1) := dk_27 (dk_at dksX1_tightest_1 23 rfl rfl)
theorem dX1_tightest_46 : decode cX1_tightest 46 = .ok (.invokevirtual 146, 3) := dk_182 0 146 (dk_at dksX1_tightest_2 0 rfl rfl)
theorem dX1_tightest_49 : decode cX1_tightest 49 = .ok (.if_icmp .ge 5, 3) := dk_162 0 5 (dk_at dksX1_tightest_2 3 rfl rfl)
theorem dX1_tightest_52 : decode cX1_tightest 52 = .ok (.iload_n 2, 1) := dk_28 (dk_at dksX1_tightest_2 6 rfl rfl)
theorem dX1_tightest_53 : decode cX1_tightest 53 = .ok (.istore_n 1, 1) := dk_60 (dk_at dksX1_tightest_2 7 rfl rfl)
theorem dX1_tightest_54 : decode cX1_tightest 54 = .ok (.iinc 2 1, 3) := dk_132 2 1 (dk_at dksX1_tightest_2 8 rfl rfl)
theorem dX1_tightest_57 : decode cX1_tightest 57 = .ok (.goto (-48), 3) := dk_167 255 208 (dk_at dksX1_tightest_2 11 rfl rfl)
theorem dX1_tightest_60 : decode cX1_tightest 60 = .ok (.iload_n 1, 1) := dk_27 (dk_at dksX1_tightest_2 14 rfl rfl)
theorem dX1_tightest_61 : decode cX1_tightest 61 = .ok (.iconst (-1), 1) := dk_2 (dk_at dksX1_tightest_2 15 rfl rfl)
theorem dX1_tightest_62 : decode cX1_tightest 62 = .ok (.if_icmp .ne 11, 3) := dk_160 0 11 (dk_at dksX1_tightest_2 16 rfl rfl)
theorem dX1_tightest_65 : decode cX1_tightest 65 = .ok (.new 327, 3) := dk_187 1 71 (dk_at dksX1_tightest_2 19 rfl rfl)
theorem dX1_tightest_68 : decode cX1_tightest 68 = .ok (.dup, 1) := dk_89 (dk_at dksX1_tightest_2 22 rfl rfl)
theorem dX1_tightest_69 : decode cX1_tightest 69 = .ok (.invokespecial 329, 3) := dk_183 1 73 (dk_at dksX1_tightest_3 0 rfl rfl)
theorem dX1_tightest_72 : decode cX1_tightest 72 = .ok (.athrow, 1) := dk_191 (dk_at dksX1_tightest_3 3 rfl rfl)
theorem dX1_tightest_73 : decode cX1_tightest 73 = .ok (.iload_n 1, 1) := dk_27 (dk_at dksX1_tightest_3 4 rfl rfl)
theorem dX1_tightest_74 : decode cX1_tightest 74 = .ok (.ireturn, 1) := dk_172 (dk_at dksX1_tightest_3 5 rfl rfl)
abbrev cX1_advance : ByteArray := prog_1_method_65_code
def yX1_advance : MethodName := ⟨RX1, "advance", "(I)I"⟩
def dkwX1_advance_0 : List UInt8 := [42, 27, 182, 1, 48, 42, 182, 1, 83, 42, 180, 0, 46, 27, 182, 1, 51, 172]
abbrev dktX1_advance_0 : List UInt8 := dkwX1_advance_0 ++ []
theorem dksX1_advance_0 : cX1_advance.data.toList.drop 0 = dktX1_advance_0 := by decide +kernel
theorem dX1_advance_0 : decode cX1_advance 0 = .ok (.aload_n 0, 1) := dk_42 (dk_at dksX1_advance_0 0 rfl rfl)
theorem dX1_advance_1 : decode cX1_advance 1 = .ok (.iload_n 1, 1) := dk_27 (dk_at dksX1_advance_0 1 rfl rfl)
theorem dX1_advance_2 : decode cX1_advance 2 = .ok (.invokevirtual 304, 3) := dk_182 1 48 (dk_at dksX1_advance_0 2 rfl rfl)
theorem dX1_advance_5 : decode cX1_advance 5 = .ok (.aload_n 0, 1) := dk_42 (dk_at dksX1_advance_0 5 rfl rfl)
theorem dX1_advance_6 : decode cX1_advance 6 = .ok (.invokevirtual 339, 3) := dk_182 1 83 (dk_at dksX1_advance_0 6 rfl rfl)
theorem dX1_advance_9 : decode cX1_advance 9 = .ok (.aload_n 0, 1) := dk_42 (dk_at dksX1_advance_0 9 rfl rfl)
theorem dX1_advance_10 : decode cX1_advance 10 = .ok (.getfield 46, 3) := dk_180 0 46 (dk_at dksX1_advance_0 10 rfl rfl)
theorem dX1_advance_13 : decode cX1_advance 13 = .ok (.iload_n 1, 1) := dk_27 (dk_at dksX1_advance_0 13 rfl rfl)
theorem dX1_advance_14 : decode cX1_advance 14 = .ok (.invokevirtual 307, 3) := dk_182 1 51 (dk_at dksX1_advance_0 14 rfl rfl)
theorem dX1_advance_17 : decode cX1_advance 17 = .ok (.ireturn, 1) := dk_172 (dk_at dksX1_advance_0 17 rfl rfl)
abbrev cX1_keep : ByteArray := prog_1_method_64_code
def yX1_keep : MethodName := ⟨RX1, "keep", "()V"⟩
def dkwX1_keep_1 : List UInt8 := [87, 42, 180, 0, 27, 42, 180, 0, 46, 182, 0, 224, 185, 1, 79, 2, 0, 87, 177]
abbrev dktX1_keep_1 : List UInt8 := dkwX1_keep_1 ++ []
def dkwX1_keep_0 : List UInt8 := [42, 180, 0, 27, 185, 0, 67, 1, 0, 16, 6, 160, 0, 14, 42, 180, 0, 27, 3, 185, 1, 76, 2, 0]
abbrev dktX1_keep_0 : List UInt8 := dkwX1_keep_0 ++ dktX1_keep_1
theorem dksX1_keep_0 : cX1_keep.data.toList.drop 0 = dktX1_keep_0 := by decide +kernel
theorem dksX1_keep_1 : cX1_keep.data.toList.drop 24 = dktX1_keep_1 := dk_seg dksX1_keep_0 24 rfl rfl
theorem dX1_keep_0 : decode cX1_keep 0 = .ok (.aload_n 0, 1) := dk_42 (dk_at dksX1_keep_0 0 rfl rfl)
theorem dX1_keep_1 : decode cX1_keep 1 = .ok (.getfield 27, 3) := dk_180 0 27 (dk_at dksX1_keep_0 1 rfl rfl)
theorem dX1_keep_4 : decode cX1_keep 4 = .ok (.invokeinterface 67 1, 5) := by decide +kernel
theorem dX1_keep_9 : decode cX1_keep 9 = .ok (.bipush 6, 2) := dk_16 6 (dk_at dksX1_keep_0 9 rfl rfl)
theorem dX1_keep_11 : decode cX1_keep 11 = .ok (.if_icmp .ne 14, 3) := dk_160 0 14 (dk_at dksX1_keep_0 11 rfl rfl)
theorem dX1_keep_14 : decode cX1_keep 14 = .ok (.aload_n 0, 1) := dk_42 (dk_at dksX1_keep_0 14 rfl rfl)
theorem dX1_keep_15 : decode cX1_keep 15 = .ok (.getfield 27, 3) := dk_180 0 27 (dk_at dksX1_keep_0 15 rfl rfl)
theorem dX1_keep_18 : decode cX1_keep 18 = .ok (.iconst 0, 1) := dk_3 (dk_at dksX1_keep_0 18 rfl rfl)
theorem dX1_keep_19 : decode cX1_keep 19 = .ok (.invokeinterface 332 2, 5) := by decide +kernel
theorem dX1_keep_24 : decode cX1_keep 24 = .ok (.pop, 1) := dk_87 (dk_at dksX1_keep_1 0 rfl rfl)
theorem dX1_keep_25 : decode cX1_keep 25 = .ok (.aload_n 0, 1) := dk_42 (dk_at dksX1_keep_1 1 rfl rfl)
theorem dX1_keep_26 : decode cX1_keep 26 = .ok (.getfield 27, 3) := dk_180 0 27 (dk_at dksX1_keep_1 2 rfl rfl)
theorem dX1_keep_29 : decode cX1_keep 29 = .ok (.aload_n 0, 1) := dk_42 (dk_at dksX1_keep_1 5 rfl rfl)
theorem dX1_keep_30 : decode cX1_keep 30 = .ok (.getfield 46, 3) := dk_180 0 46 (dk_at dksX1_keep_1 6 rfl rfl)
theorem dX1_keep_33 : decode cX1_keep 33 = .ok (.invokevirtual 224, 3) := dk_182 0 224 (dk_at dksX1_keep_1 9 rfl rfl)
theorem dX1_keep_36 : decode cX1_keep 36 = .ok (.invokeinterface 335 2, 5) := by decide +kernel
theorem dX1_keep_41 : decode cX1_keep 41 = .ok (.pop, 1) := dk_87 (dk_at dksX1_keep_1 17 rfl rfl)
theorem dX1_keep_42 : decode cX1_keep 42 = .ok (.return_, 1) := dk_177 (dk_at dksX1_keep_1 18 rfl rfl)
abbrev cX1_start : ByteArray := prog_1_method_66_code
def yX1_start : MethodName := ⟨RX1, "start", "(I)I"⟩
def dkwX1_start_3 : List UInt8 := [159, 0, 9, 132, 3, 1, 167, 255, 237, 29, 172]
abbrev dktX1_start_3 : List UInt8 := dkwX1_start_3 ++ []
def dkwX1_start_2 : List UInt8 := [180, 0, 46, 182, 1, 4, 61, 3, 62, 42, 180, 0, 46, 180, 0, 58, 180, 1, 7, 29, 46, 27]
abbrev dktX1_start_2 : List UInt8 := dkwX1_start_2 ++ dktX1_start_3
def dkwX1_start_1 : List UInt8 := [167, 0, 4, 3, 84, 184, 1, 21, 42, 182, 1, 83, 42, 180, 0, 46, 27, 4, 182, 0, 227, 42]
abbrev dktX1_start_1 : List UInt8 := dkwX1_start_1 ++ dktX1_start_2
def dkwX1_start_0 : List UInt8 := [42, 27, 182, 0, 164, 87, 4, 188, 4, 89, 3, 42, 180, 0, 46, 180, 0, 167, 27, 46, 154, 0, 7, 4]
abbrev dktX1_start_0 : List UInt8 := dkwX1_start_0 ++ dktX1_start_1
theorem dksX1_start_0 : cX1_start.data.toList.drop 0 = dktX1_start_0 := by decide +kernel
theorem dksX1_start_1 : cX1_start.data.toList.drop 24 = dktX1_start_1 := dk_seg dksX1_start_0 24 rfl rfl
theorem dksX1_start_2 : cX1_start.data.toList.drop 46 = dktX1_start_2 := dk_seg dksX1_start_1 22 rfl rfl
theorem dksX1_start_3 : cX1_start.data.toList.drop 68 = dktX1_start_3 := dk_seg dksX1_start_2 22 rfl rfl
theorem dX1_start_0 : decode cX1_start 0 = .ok (.aload_n 0, 1) := dk_42 (dk_at dksX1_start_0 0 rfl rfl)
theorem dX1_start_1 : decode cX1_start 1 = .ok (.iload_n 1, 1) := dk_27 (dk_at dksX1_start_0 1 rfl rfl)
theorem dX1_start_2 : decode cX1_start 2 = .ok (.invokevirtual 164, 3) := dk_182 0 164 (dk_at dksX1_start_0 2 rfl rfl)
theorem dX1_start_5 : decode cX1_start 5 = .ok (.pop, 1) := dk_87 (dk_at dksX1_start_0 5 rfl rfl)
theorem dX1_start_6 : decode cX1_start 6 = .ok (.iconst 1, 1) := dk_4 (dk_at dksX1_start_0 6 rfl rfl)
theorem dX1_start_7 : decode cX1_start 7 = .ok (.newarray .boolean, 2) := dk_188_4 (dk_at dksX1_start_0 7 rfl rfl)
theorem dX1_start_9 : decode cX1_start 9 = .ok (.dup, 1) := dk_89 (dk_at dksX1_start_0 9 rfl rfl)
theorem dX1_start_10 : decode cX1_start 10 = .ok (.iconst 0, 1) := dk_3 (dk_at dksX1_start_0 10 rfl rfl)
theorem dX1_start_11 : decode cX1_start 11 = .ok (.aload_n 0, 1) := dk_42 (dk_at dksX1_start_0 11 rfl rfl)
theorem dX1_start_12 : decode cX1_start 12 = .ok (.getfield 46, 3) := dk_180 0 46 (dk_at dksX1_start_0 12 rfl rfl)
theorem dX1_start_15 : decode cX1_start 15 = .ok (.getfield 167, 3) := dk_180 0 167 (dk_at dksX1_start_0 15 rfl rfl)
theorem dX1_start_18 : decode cX1_start 18 = .ok (.iload_n 1, 1) := dk_27 (dk_at dksX1_start_0 18 rfl rfl)
theorem dX1_start_19 : decode cX1_start 19 = .ok (.iaload, 1) := dk_46 (dk_at dksX1_start_0 19 rfl rfl)
theorem dX1_start_20 : decode cX1_start 20 = .ok (.ifCond .ne 7, 3) := dk_154 0 7 (dk_at dksX1_start_0 20 rfl rfl)
theorem dX1_start_23 : decode cX1_start 23 = .ok (.iconst 1, 1) := dk_4 (dk_at dksX1_start_0 23 rfl rfl)
theorem dX1_start_24 : decode cX1_start 24 = .ok (.goto 4, 3) := dk_167 0 4 (dk_at dksX1_start_1 0 rfl rfl)
theorem dX1_start_27 : decode cX1_start 27 = .ok (.iconst 0, 1) := dk_3 (dk_at dksX1_start_1 3 rfl rfl)
theorem dX1_start_28 : decode cX1_start 28 = .ok (.bastore, 1) := dk_84 (dk_at dksX1_start_1 4 rfl rfl)
theorem dX1_start_29 : decode cX1_start 29 = .ok (.invokestatic 277, 3) := dk_184 1 21 (dk_at dksX1_start_1 5 rfl rfl)
theorem dX1_start_32 : decode cX1_start 32 = .ok (.aload_n 0, 1) := dk_42 (dk_at dksX1_start_1 8 rfl rfl)
theorem dX1_start_33 : decode cX1_start 33 = .ok (.invokevirtual 339, 3) := dk_182 1 83 (dk_at dksX1_start_1 9 rfl rfl)
theorem dX1_start_36 : decode cX1_start 36 = .ok (.aload_n 0, 1) := dk_42 (dk_at dksX1_start_1 12 rfl rfl)
theorem dX1_start_37 : decode cX1_start 37 = .ok (.getfield 46, 3) := dk_180 0 46 (dk_at dksX1_start_1 13 rfl rfl)
theorem dX1_start_40 : decode cX1_start 40 = .ok (.iload_n 1, 1) := dk_27 (dk_at dksX1_start_1 16 rfl rfl)
theorem dX1_start_41 : decode cX1_start 41 = .ok (.iconst 1, 1) := dk_4 (dk_at dksX1_start_1 17 rfl rfl)
theorem dX1_start_42 : decode cX1_start 42 = .ok (.invokevirtual 227, 3) := dk_182 0 227 (dk_at dksX1_start_1 18 rfl rfl)
theorem dX1_start_45 : decode cX1_start 45 = .ok (.aload_n 0, 1) := dk_42 (dk_at dksX1_start_1 21 rfl rfl)
theorem dX1_start_46 : decode cX1_start 46 = .ok (.getfield 46, 3) := dk_180 0 46 (dk_at dksX1_start_2 0 rfl rfl)
theorem dX1_start_49 : decode cX1_start 49 = .ok (.invokevirtual 260, 3) := dk_182 1 4 (dk_at dksX1_start_2 3 rfl rfl)
theorem dX1_start_52 : decode cX1_start 52 = .ok (.istore_n 2, 1) := dk_61 (dk_at dksX1_start_2 6 rfl rfl)
theorem dX1_start_53 : decode cX1_start 53 = .ok (.iconst 0, 1) := dk_3 (dk_at dksX1_start_2 7 rfl rfl)
theorem dX1_start_54 : decode cX1_start 54 = .ok (.istore_n 3, 1) := dk_62 (dk_at dksX1_start_2 8 rfl rfl)
theorem dX1_start_55 : decode cX1_start 55 = .ok (.aload_n 0, 1) := dk_42 (dk_at dksX1_start_2 9 rfl rfl)
theorem dX1_start_56 : decode cX1_start 56 = .ok (.getfield 46, 3) := dk_180 0 46 (dk_at dksX1_start_2 10 rfl rfl)
theorem dX1_start_59 : decode cX1_start 59 = .ok (.getfield 58, 3) := dk_180 0 58 (dk_at dksX1_start_2 13 rfl rfl)
theorem dX1_start_62 : decode cX1_start 62 = .ok (.getfield 263, 3) := dk_180 1 7 (dk_at dksX1_start_2 16 rfl rfl)
theorem dX1_start_65 : decode cX1_start 65 = .ok (.iload_n 3, 1) := dk_29 (dk_at dksX1_start_2 19 rfl rfl)
theorem dX1_start_66 : decode cX1_start 66 = .ok (.iaload, 1) := dk_46 (dk_at dksX1_start_2 20 rfl rfl)
theorem dX1_start_67 : decode cX1_start 67 = .ok (.iload_n 1, 1) := dk_27 (dk_at dksX1_start_2 21 rfl rfl)
theorem dX1_start_68 : decode cX1_start 68 = .ok (.if_icmp .eq 9, 3) := dk_159 0 9 (dk_at dksX1_start_3 0 rfl rfl)
theorem dX1_start_71 : decode cX1_start 71 = .ok (.iinc 3 1, 3) := dk_132 3 1 (dk_at dksX1_start_3 3 rfl rfl)
theorem dX1_start_74 : decode cX1_start 74 = .ok (.goto (-19), 3) := dk_167 255 237 (dk_at dksX1_start_3 6 rfl rfl)
theorem dX1_start_77 : decode cX1_start 77 = .ok (.iload_n 3, 1) := dk_29 (dk_at dksX1_start_3 9 rfl rfl)
theorem dX1_start_78 : decode cX1_start 78 = .ok (.ireturn, 1) := dk_172 (dk_at dksX1_start_3 10 rfl rfl)
abbrev cX1_stop : ByteArray := prog_1_method_67_code
def yX1_stop : MethodName := ⟨RX1, "stop", "(I)I"⟩
def dkwX1_stop_2 : List UInt8 := [180, 0, 46, 27, 3, 182, 0, 227, 28, 172]
abbrev dktX1_stop_2 : List UInt8 := dkwX1_stop_2 ++ []
def dkwX1_stop_1 : List UInt8 := [167, 0, 4, 3, 84, 184, 1, 21, 42, 182, 1, 83, 42, 180, 0, 46, 180, 0, 167, 27, 46, 61, 42]
abbrev dktX1_stop_1 : List UInt8 := dkwX1_stop_1 ++ dktX1_stop_2
def dkwX1_stop_0 : List UInt8 := [42, 27, 182, 0, 164, 87, 4, 188, 4, 89, 3, 42, 180, 0, 46, 180, 0, 167, 27, 46, 153, 0, 7, 4]
abbrev dktX1_stop_0 : List UInt8 := dkwX1_stop_0 ++ dktX1_stop_1
theorem dksX1_stop_0 : cX1_stop.data.toList.drop 0 = dktX1_stop_0 := by decide +kernel
theorem dksX1_stop_1 : cX1_stop.data.toList.drop 24 = dktX1_stop_1 := dk_seg dksX1_stop_0 24 rfl rfl
theorem dksX1_stop_2 : cX1_stop.data.toList.drop 47 = dktX1_stop_2 := dk_seg dksX1_stop_1 23 rfl rfl
theorem dX1_stop_0 : decode cX1_stop 0 = .ok (.aload_n 0, 1) := dk_42 (dk_at dksX1_stop_0 0 rfl rfl)
theorem dX1_stop_1 : decode cX1_stop 1 = .ok (.iload_n 1, 1) := dk_27 (dk_at dksX1_stop_0 1 rfl rfl)
theorem dX1_stop_2 : decode cX1_stop 2 = .ok (.invokevirtual 164, 3) := dk_182 0 164 (dk_at dksX1_stop_0 2 rfl rfl)
theorem dX1_stop_5 : decode cX1_stop 5 = .ok (.pop, 1) := dk_87 (dk_at dksX1_stop_0 5 rfl rfl)
theorem dX1_stop_6 : decode cX1_stop 6 = .ok (.iconst 1, 1) := dk_4 (dk_at dksX1_stop_0 6 rfl rfl)
theorem dX1_stop_7 : decode cX1_stop 7 = .ok (.newarray .boolean, 2) := dk_188_4 (dk_at dksX1_stop_0 7 rfl rfl)
theorem dX1_stop_9 : decode cX1_stop 9 = .ok (.dup, 1) := dk_89 (dk_at dksX1_stop_0 9 rfl rfl)
theorem dX1_stop_10 : decode cX1_stop 10 = .ok (.iconst 0, 1) := dk_3 (dk_at dksX1_stop_0 10 rfl rfl)
theorem dX1_stop_11 : decode cX1_stop 11 = .ok (.aload_n 0, 1) := dk_42 (dk_at dksX1_stop_0 11 rfl rfl)
theorem dX1_stop_12 : decode cX1_stop 12 = .ok (.getfield 46, 3) := dk_180 0 46 (dk_at dksX1_stop_0 12 rfl rfl)
theorem dX1_stop_15 : decode cX1_stop 15 = .ok (.getfield 167, 3) := dk_180 0 167 (dk_at dksX1_stop_0 15 rfl rfl)
theorem dX1_stop_18 : decode cX1_stop 18 = .ok (.iload_n 1, 1) := dk_27 (dk_at dksX1_stop_0 18 rfl rfl)
theorem dX1_stop_19 : decode cX1_stop 19 = .ok (.iaload, 1) := dk_46 (dk_at dksX1_stop_0 19 rfl rfl)
theorem dX1_stop_20 : decode cX1_stop 20 = .ok (.ifCond .eq 7, 3) := dk_153 0 7 (dk_at dksX1_stop_0 20 rfl rfl)
theorem dX1_stop_23 : decode cX1_stop 23 = .ok (.iconst 1, 1) := dk_4 (dk_at dksX1_stop_0 23 rfl rfl)
theorem dX1_stop_24 : decode cX1_stop 24 = .ok (.goto 4, 3) := dk_167 0 4 (dk_at dksX1_stop_1 0 rfl rfl)
theorem dX1_stop_27 : decode cX1_stop 27 = .ok (.iconst 0, 1) := dk_3 (dk_at dksX1_stop_1 3 rfl rfl)
theorem dX1_stop_28 : decode cX1_stop 28 = .ok (.bastore, 1) := dk_84 (dk_at dksX1_stop_1 4 rfl rfl)
theorem dX1_stop_29 : decode cX1_stop 29 = .ok (.invokestatic 277, 3) := dk_184 1 21 (dk_at dksX1_stop_1 5 rfl rfl)
theorem dX1_stop_32 : decode cX1_stop 32 = .ok (.aload_n 0, 1) := dk_42 (dk_at dksX1_stop_1 8 rfl rfl)
theorem dX1_stop_33 : decode cX1_stop 33 = .ok (.invokevirtual 339, 3) := dk_182 1 83 (dk_at dksX1_stop_1 9 rfl rfl)
theorem dX1_stop_36 : decode cX1_stop 36 = .ok (.aload_n 0, 1) := dk_42 (dk_at dksX1_stop_1 12 rfl rfl)
theorem dX1_stop_37 : decode cX1_stop 37 = .ok (.getfield 46, 3) := dk_180 0 46 (dk_at dksX1_stop_1 13 rfl rfl)
theorem dX1_stop_40 : decode cX1_stop 40 = .ok (.getfield 167, 3) := dk_180 0 167 (dk_at dksX1_stop_1 16 rfl rfl)
theorem dX1_stop_43 : decode cX1_stop 43 = .ok (.iload_n 1, 1) := dk_27 (dk_at dksX1_stop_1 19 rfl rfl)
theorem dX1_stop_44 : decode cX1_stop 44 = .ok (.iaload, 1) := dk_46 (dk_at dksX1_stop_1 20 rfl rfl)
theorem dX1_stop_45 : decode cX1_stop 45 = .ok (.istore_n 2, 1) := dk_61 (dk_at dksX1_stop_1 21 rfl rfl)
theorem dX1_stop_46 : decode cX1_stop 46 = .ok (.aload_n 0, 1) := dk_42 (dk_at dksX1_stop_1 22 rfl rfl)
theorem dX1_stop_47 : decode cX1_stop 47 = .ok (.getfield 46, 3) := dk_180 0 46 (dk_at dksX1_stop_2 0 rfl rfl)
theorem dX1_stop_50 : decode cX1_stop 50 = .ok (.iload_n 1, 1) := dk_27 (dk_at dksX1_stop_2 3 rfl rfl)
theorem dX1_stop_51 : decode cX1_stop 51 = .ok (.iconst 0, 1) := dk_3 (dk_at dksX1_stop_2 4 rfl rfl)
theorem dX1_stop_52 : decode cX1_stop 52 = .ok (.invokevirtual 227, 3) := dk_182 0 227 (dk_at dksX1_stop_2 5 rfl rfl)
theorem dX1_stop_55 : decode cX1_stop 55 = .ok (.iload_n 2, 1) := dk_28 (dk_at dksX1_stop_2 8 rfl rfl)
theorem dX1_stop_56 : decode cX1_stop 56 = .ok (.ireturn, 1) := dk_172 (dk_at dksX1_stop_2 9 rfl rfl)
abbrev cX1_setPower : ByteArray := prog_1_method_68_code
def yX1_setPower : MethodName := ⟨RX1, "setPower", "(II)I"⟩
def dkwX1_setPower_2 : List UInt8 := [42, 180, 0, 46, 180, 0, 179, 27, 42, 180, 0, 46, 180, 0, 179, 27, 46, 28, 184, 1, 91, 79, 29, 172]
abbrev dktX1_setPower_2 : List UInt8 := dkwX1_setPower_2 ++ []
def dkwX1_setPower_1 : List UInt8 := [42, 182, 1, 83, 42, 180, 0, 46, 180, 1, 88, 27, 46, 62, 42, 180, 0, 46, 180, 1, 88, 27, 28, 79]
abbrev dktX1_setPower_1 : List UInt8 := dkwX1_setPower_1 ++ dktX1_setPower_2
def dkwX1_setPower_0 : List UInt8 := [42, 27, 182, 0, 164, 87, 4, 188, 4, 89, 3, 28, 133, 10, 20, 1, 86, 184, 0, 73, 84, 184, 1, 21]
abbrev dktX1_setPower_0 : List UInt8 := dkwX1_setPower_0 ++ dktX1_setPower_1
theorem dksX1_setPower_0 : cX1_setPower.data.toList.drop 0 = dktX1_setPower_0 := by decide +kernel
theorem dksX1_setPower_1 : cX1_setPower.data.toList.drop 24 = dktX1_setPower_1 := dk_seg dksX1_setPower_0 24 rfl rfl
theorem dksX1_setPower_2 : cX1_setPower.data.toList.drop 48 = dktX1_setPower_2 := dk_seg dksX1_setPower_1 24 rfl rfl
theorem dX1_setPower_0 : decode cX1_setPower 0 = .ok (.aload_n 0, 1) := dk_42 (dk_at dksX1_setPower_0 0 rfl rfl)
theorem dX1_setPower_1 : decode cX1_setPower 1 = .ok (.iload_n 1, 1) := dk_27 (dk_at dksX1_setPower_0 1 rfl rfl)
theorem dX1_setPower_2 : decode cX1_setPower 2 = .ok (.invokevirtual 164, 3) := dk_182 0 164 (dk_at dksX1_setPower_0 2 rfl rfl)
theorem dX1_setPower_5 : decode cX1_setPower 5 = .ok (.pop, 1) := dk_87 (dk_at dksX1_setPower_0 5 rfl rfl)
theorem dX1_setPower_6 : decode cX1_setPower 6 = .ok (.iconst 1, 1) := dk_4 (dk_at dksX1_setPower_0 6 rfl rfl)
theorem dX1_setPower_7 : decode cX1_setPower 7 = .ok (.newarray .boolean, 2) := dk_188_4 (dk_at dksX1_setPower_0 7 rfl rfl)
theorem dX1_setPower_9 : decode cX1_setPower 9 = .ok (.dup, 1) := dk_89 (dk_at dksX1_setPower_0 9 rfl rfl)
theorem dX1_setPower_10 : decode cX1_setPower 10 = .ok (.iconst 0, 1) := dk_3 (dk_at dksX1_setPower_0 10 rfl rfl)
theorem dX1_setPower_11 : decode cX1_setPower 11 = .ok (.iload_n 2, 1) := dk_28 (dk_at dksX1_setPower_0 11 rfl rfl)
theorem dX1_setPower_12 : decode cX1_setPower 12 = .ok (.i2l, 1) := dk_133 (dk_at dksX1_setPower_0 12 rfl rfl)
theorem dX1_setPower_13 : decode cX1_setPower 13 = .ok (.lconst 1, 1) := dk_10 (dk_at dksX1_setPower_0 13 rfl rfl)
theorem dX1_setPower_14 : decode cX1_setPower 14 = .ok (.ldc2_w 342, 3) := dk_20 1 86 (dk_at dksX1_setPower_0 14 rfl rfl)
theorem dX1_setPower_17 : decode cX1_setPower 17 = .ok (.invokestatic 73, 3) := dk_184 0 73 (dk_at dksX1_setPower_0 17 rfl rfl)
theorem dX1_setPower_20 : decode cX1_setPower 20 = .ok (.bastore, 1) := dk_84 (dk_at dksX1_setPower_0 20 rfl rfl)
theorem dX1_setPower_21 : decode cX1_setPower 21 = .ok (.invokestatic 277, 3) := dk_184 1 21 (dk_at dksX1_setPower_0 21 rfl rfl)
theorem dX1_setPower_24 : decode cX1_setPower 24 = .ok (.aload_n 0, 1) := dk_42 (dk_at dksX1_setPower_1 0 rfl rfl)
theorem dX1_setPower_25 : decode cX1_setPower 25 = .ok (.invokevirtual 339, 3) := dk_182 1 83 (dk_at dksX1_setPower_1 1 rfl rfl)
theorem dX1_setPower_28 : decode cX1_setPower 28 = .ok (.aload_n 0, 1) := dk_42 (dk_at dksX1_setPower_1 4 rfl rfl)
theorem dX1_setPower_29 : decode cX1_setPower 29 = .ok (.getfield 46, 3) := dk_180 0 46 (dk_at dksX1_setPower_1 5 rfl rfl)
theorem dX1_setPower_32 : decode cX1_setPower 32 = .ok (.getfield 344, 3) := dk_180 1 88 (dk_at dksX1_setPower_1 8 rfl rfl)
theorem dX1_setPower_35 : decode cX1_setPower 35 = .ok (.iload_n 1, 1) := dk_27 (dk_at dksX1_setPower_1 11 rfl rfl)
theorem dX1_setPower_36 : decode cX1_setPower 36 = .ok (.iaload, 1) := dk_46 (dk_at dksX1_setPower_1 12 rfl rfl)
theorem dX1_setPower_37 : decode cX1_setPower 37 = .ok (.istore_n 3, 1) := dk_62 (dk_at dksX1_setPower_1 13 rfl rfl)
theorem dX1_setPower_38 : decode cX1_setPower 38 = .ok (.aload_n 0, 1) := dk_42 (dk_at dksX1_setPower_1 14 rfl rfl)
theorem dX1_setPower_39 : decode cX1_setPower 39 = .ok (.getfield 46, 3) := dk_180 0 46 (dk_at dksX1_setPower_1 15 rfl rfl)
theorem dX1_setPower_42 : decode cX1_setPower 42 = .ok (.getfield 344, 3) := dk_180 1 88 (dk_at dksX1_setPower_1 18 rfl rfl)
theorem dX1_setPower_45 : decode cX1_setPower 45 = .ok (.iload_n 1, 1) := dk_27 (dk_at dksX1_setPower_1 21 rfl rfl)
theorem dX1_setPower_46 : decode cX1_setPower 46 = .ok (.iload_n 2, 1) := dk_28 (dk_at dksX1_setPower_1 22 rfl rfl)
theorem dX1_setPower_47 : decode cX1_setPower 47 = .ok (.iastore, 1) := dk_79 (dk_at dksX1_setPower_1 23 rfl rfl)
theorem dX1_setPower_48 : decode cX1_setPower 48 = .ok (.aload_n 0, 1) := dk_42 (dk_at dksX1_setPower_2 0 rfl rfl)
theorem dX1_setPower_49 : decode cX1_setPower 49 = .ok (.getfield 46, 3) := dk_180 0 46 (dk_at dksX1_setPower_2 1 rfl rfl)
theorem dX1_setPower_52 : decode cX1_setPower 52 = .ok (.getfield 179, 3) := dk_180 0 179 (dk_at dksX1_setPower_2 4 rfl rfl)
theorem dX1_setPower_55 : decode cX1_setPower 55 = .ok (.iload_n 1, 1) := dk_27 (dk_at dksX1_setPower_2 7 rfl rfl)
theorem dX1_setPower_56 : decode cX1_setPower 56 = .ok (.aload_n 0, 1) := dk_42 (dk_at dksX1_setPower_2 8 rfl rfl)
theorem dX1_setPower_57 : decode cX1_setPower 57 = .ok (.getfield 46, 3) := dk_180 0 46 (dk_at dksX1_setPower_2 9 rfl rfl)
theorem dX1_setPower_60 : decode cX1_setPower 60 = .ok (.getfield 179, 3) := dk_180 0 179 (dk_at dksX1_setPower_2 12 rfl rfl)
theorem dX1_setPower_63 : decode cX1_setPower 63 = .ok (.iload_n 1, 1) := dk_27 (dk_at dksX1_setPower_2 15 rfl rfl)
theorem dX1_setPower_64 : decode cX1_setPower 64 = .ok (.iaload, 1) := dk_46 (dk_at dksX1_setPower_2 16 rfl rfl)
theorem dX1_setPower_65 : decode cX1_setPower 65 = .ok (.iload_n 2, 1) := dk_28 (dk_at dksX1_setPower_2 17 rfl rfl)
theorem dX1_setPower_66 : decode cX1_setPower 66 = .ok (.invokestatic 347, 3) := dk_184 1 91 (dk_at dksX1_setPower_2 18 rfl rfl)
theorem dX1_setPower_69 : decode cX1_setPower 69 = .ok (.iastore, 1) := dk_79 (dk_at dksX1_setPower_2 21 rfl rfl)
theorem dX1_setPower_70 : decode cX1_setPower 70 = .ok (.iload_n 3, 1) := dk_29 (dk_at dksX1_setPower_2 22 rfl rfl)
theorem dX1_setPower_71 : decode cX1_setPower 71 = .ok (.ireturn, 1) := dk_172 (dk_at dksX1_setPower_2 23 rfl rfl)
abbrev cX1_addIncumbent : ByteArray := prog_1_method_69_code
def yX1_addIncumbent : MethodName := ⟨RX1, "addIncumbent", "(IIIIII)I"⟩
def dkwX1_addIncumbent_6 : List UInt8 := [183, 1, 99, 21, 7, 21, 6, 96, 182, 1, 102, 172]
abbrev dktX1_addIncumbent_6 : List UInt8 := dkwX1_addIncumbent_6 ++ []
def dkwX1_addIncumbent_5 : List UInt8 := [180, 0, 46, 187, 0, 137, 89, 187, 0, 243, 89, 27, 28, 183, 0, 245, 29, 21, 4, 21, 5, 21, 7, 4]
abbrev dktX1_addIncumbent_5 : List UInt8 := dkwX1_addIncumbent_5 ++ dktX1_addIncumbent_6
def dkwX1_addIncumbent_4 : List UInt8 := [167, 0, 4, 3, 184, 0, 50, 42, 182, 1, 83, 42, 180, 0, 46, 180, 0, 126, 4, 96, 54, 7, 42]
abbrev dktX1_addIncumbent_4 : List UInt8 := dkwX1_addIncumbent_4 ++ dktX1_addIncumbent_5
def dkwX1_addIncumbent_3 : List UInt8 := [21, 6, 133, 10, 20, 1, 86, 184, 0, 73, 84, 184, 1, 21, 42, 182, 1, 74, 16, 10, 162, 0, 7, 4]
abbrev dktX1_addIncumbent_3 : List UInt8 := dkwX1_addIncumbent_3 ++ dktX1_addIncumbent_4
def dkwX1_addIncumbent_2 : List UInt8 := [161, 0, 7, 4, 167, 0, 4, 3, 84, 89, 4, 21, 5, 133, 9, 20, 1, 97, 184, 0, 73, 84, 89, 5]
abbrev dktX1_addIncumbent_2 : List UInt8 := dkwX1_addIncumbent_2 ++ dktX1_addIncumbent_3
def dkwX1_addIncumbent_1 : List UInt8 := [182, 0, 94, 84, 89, 5, 42, 21, 4, 182, 0, 94, 84, 184, 0, 77, 6, 188, 4, 89, 3, 21, 4, 29]
abbrev dktX1_addIncumbent_1 : List UInt8 := dkwX1_addIncumbent_1 ++ dktX1_addIncumbent_2
def dkwX1_addIncumbent_0 : List UInt8 := [6, 188, 4, 89, 3, 42, 182, 0, 54, 180, 0, 58, 27, 28, 182, 0, 90, 84, 89, 4, 42, 29]
abbrev dktX1_addIncumbent_0 : List UInt8 := dkwX1_addIncumbent_0 ++ dktX1_addIncumbent_1
theorem dksX1_addIncumbent_0 : cX1_addIncumbent.data.toList.drop 0 = dktX1_addIncumbent_0 := by decide +kernel
theorem dksX1_addIncumbent_1 : cX1_addIncumbent.data.toList.drop 22 = dktX1_addIncumbent_1 := dk_seg dksX1_addIncumbent_0 22 rfl rfl
theorem dksX1_addIncumbent_2 : cX1_addIncumbent.data.toList.drop 46 = dktX1_addIncumbent_2 := dk_seg dksX1_addIncumbent_1 24 rfl rfl
theorem dksX1_addIncumbent_3 : cX1_addIncumbent.data.toList.drop 70 = dktX1_addIncumbent_3 := dk_seg dksX1_addIncumbent_2 24 rfl rfl
theorem dksX1_addIncumbent_4 : cX1_addIncumbent.data.toList.drop 94 = dktX1_addIncumbent_4 := dk_seg dksX1_addIncumbent_3 24 rfl rfl
theorem dksX1_addIncumbent_5 : cX1_addIncumbent.data.toList.drop 117 = dktX1_addIncumbent_5 := dk_seg dksX1_addIncumbent_4 23 rfl rfl
theorem dksX1_addIncumbent_6 : cX1_addIncumbent.data.toList.drop 141 = dktX1_addIncumbent_6 := dk_seg dksX1_addIncumbent_5 24 rfl rfl
theorem dX1_addIncumbent_0 : decode cX1_addIncumbent 0 = .ok (.iconst 3, 1) := dk_6 (dk_at dksX1_addIncumbent_0 0 rfl rfl)
theorem dX1_addIncumbent_1 : decode cX1_addIncumbent 1 = .ok (.newarray .boolean, 2) := dk_188_4 (dk_at dksX1_addIncumbent_0 1 rfl rfl)
theorem dX1_addIncumbent_3 : decode cX1_addIncumbent 3 = .ok (.dup, 1) := dk_89 (dk_at dksX1_addIncumbent_0 3 rfl rfl)
theorem dX1_addIncumbent_4 : decode cX1_addIncumbent 4 = .ok (.iconst 0, 1) := dk_3 (dk_at dksX1_addIncumbent_0 4 rfl rfl)
theorem dX1_addIncumbent_5 : decode cX1_addIncumbent 5 = .ok (.aload_n 0, 1) := dk_42 (dk_at dksX1_addIncumbent_0 5 rfl rfl)
theorem dX1_addIncumbent_6 : decode cX1_addIncumbent 6 = .ok (.invokevirtual 54, 3) := dk_182 0 54 (dk_at dksX1_addIncumbent_0 6 rfl rfl)
theorem dX1_addIncumbent_9 : decode cX1_addIncumbent 9 = .ok (.getfield 58, 3) := dk_180 0 58 (dk_at dksX1_addIncumbent_0 9 rfl rfl)
theorem dX1_addIncumbent_12 : decode cX1_addIncumbent 12 = .ok (.iload_n 1, 1) := dk_27 (dk_at dksX1_addIncumbent_0 12 rfl rfl)
theorem dX1_addIncumbent_13 : decode cX1_addIncumbent 13 = .ok (.iload_n 2, 1) := dk_28 (dk_at dksX1_addIncumbent_0 13 rfl rfl)
theorem dX1_addIncumbent_14 : decode cX1_addIncumbent 14 = .ok (.invokevirtual 90, 3) := dk_182 0 90 (dk_at dksX1_addIncumbent_0 14 rfl rfl)
theorem dX1_addIncumbent_17 : decode cX1_addIncumbent 17 = .ok (.bastore, 1) := dk_84 (dk_at dksX1_addIncumbent_0 17 rfl rfl)
theorem dX1_addIncumbent_18 : decode cX1_addIncumbent 18 = .ok (.dup, 1) := dk_89 (dk_at dksX1_addIncumbent_0 18 rfl rfl)
theorem dX1_addIncumbent_19 : decode cX1_addIncumbent 19 = .ok (.iconst 1, 1) := dk_4 (dk_at dksX1_addIncumbent_0 19 rfl rfl)
theorem dX1_addIncumbent_20 : decode cX1_addIncumbent 20 = .ok (.aload_n 0, 1) := dk_42 (dk_at dksX1_addIncumbent_0 20 rfl rfl)
theorem dX1_addIncumbent_21 : decode cX1_addIncumbent 21 = .ok (.iload_n 3, 1) := dk_29 (dk_at dksX1_addIncumbent_0 21 rfl rfl)
theorem dX1_addIncumbent_22 : decode cX1_addIncumbent 22 = .ok (.invokevirtual 94, 3) := dk_182 0 94 (dk_at dksX1_addIncumbent_1 0 rfl rfl)
theorem dX1_addIncumbent_25 : decode cX1_addIncumbent 25 = .ok (.bastore, 1) := dk_84 (dk_at dksX1_addIncumbent_1 3 rfl rfl)
theorem dX1_addIncumbent_26 : decode cX1_addIncumbent 26 = .ok (.dup, 1) := dk_89 (dk_at dksX1_addIncumbent_1 4 rfl rfl)
theorem dX1_addIncumbent_27 : decode cX1_addIncumbent 27 = .ok (.iconst 2, 1) := dk_5 (dk_at dksX1_addIncumbent_1 5 rfl rfl)
theorem dX1_addIncumbent_28 : decode cX1_addIncumbent 28 = .ok (.aload_n 0, 1) := dk_42 (dk_at dksX1_addIncumbent_1 6 rfl rfl)
theorem dX1_addIncumbent_29 : decode cX1_addIncumbent 29 = .ok (.iload 4, 2) := dk_21 4 (dk_at dksX1_addIncumbent_1 7 rfl rfl)
theorem dX1_addIncumbent_31 : decode cX1_addIncumbent 31 = .ok (.invokevirtual 94, 3) := dk_182 0 94 (dk_at dksX1_addIncumbent_1 9 rfl rfl)
theorem dX1_addIncumbent_34 : decode cX1_addIncumbent 34 = .ok (.bastore, 1) := dk_84 (dk_at dksX1_addIncumbent_1 12 rfl rfl)
theorem dX1_addIncumbent_35 : decode cX1_addIncumbent 35 = .ok (.invokestatic 77, 3) := dk_184 0 77 (dk_at dksX1_addIncumbent_1 13 rfl rfl)
theorem dX1_addIncumbent_38 : decode cX1_addIncumbent 38 = .ok (.iconst 3, 1) := dk_6 (dk_at dksX1_addIncumbent_1 16 rfl rfl)
theorem dX1_addIncumbent_39 : decode cX1_addIncumbent 39 = .ok (.newarray .boolean, 2) := dk_188_4 (dk_at dksX1_addIncumbent_1 17 rfl rfl)
theorem dX1_addIncumbent_41 : decode cX1_addIncumbent 41 = .ok (.dup, 1) := dk_89 (dk_at dksX1_addIncumbent_1 19 rfl rfl)
theorem dX1_addIncumbent_42 : decode cX1_addIncumbent 42 = .ok (.iconst 0, 1) := dk_3 (dk_at dksX1_addIncumbent_1 20 rfl rfl)
theorem dX1_addIncumbent_43 : decode cX1_addIncumbent 43 = .ok (.iload 4, 2) := dk_21 4 (dk_at dksX1_addIncumbent_1 21 rfl rfl)
theorem dX1_addIncumbent_45 : decode cX1_addIncumbent 45 = .ok (.iload_n 3, 1) := dk_29 (dk_at dksX1_addIncumbent_1 23 rfl rfl)
theorem dX1_addIncumbent_46 : decode cX1_addIncumbent 46 = .ok (.if_icmp .lt 7, 3) := dk_161 0 7 (dk_at dksX1_addIncumbent_2 0 rfl rfl)
theorem dX1_addIncumbent_49 : decode cX1_addIncumbent 49 = .ok (.iconst 1, 1) := dk_4 (dk_at dksX1_addIncumbent_2 3 rfl rfl)
theorem dX1_addIncumbent_50 : decode cX1_addIncumbent 50 = .ok (.goto 4, 3) := dk_167 0 4 (dk_at dksX1_addIncumbent_2 4 rfl rfl)
theorem dX1_addIncumbent_53 : decode cX1_addIncumbent 53 = .ok (.iconst 0, 1) := dk_3 (dk_at dksX1_addIncumbent_2 7 rfl rfl)
theorem dX1_addIncumbent_54 : decode cX1_addIncumbent 54 = .ok (.bastore, 1) := dk_84 (dk_at dksX1_addIncumbent_2 8 rfl rfl)
theorem dX1_addIncumbent_55 : decode cX1_addIncumbent 55 = .ok (.dup, 1) := dk_89 (dk_at dksX1_addIncumbent_2 9 rfl rfl)
theorem dX1_addIncumbent_56 : decode cX1_addIncumbent 56 = .ok (.iconst 1, 1) := dk_4 (dk_at dksX1_addIncumbent_2 10 rfl rfl)
theorem dX1_addIncumbent_57 : decode cX1_addIncumbent 57 = .ok (.iload 5, 2) := dk_21 5 (dk_at dksX1_addIncumbent_2 11 rfl rfl)
theorem dX1_addIncumbent_59 : decode cX1_addIncumbent 59 = .ok (.i2l, 1) := dk_133 (dk_at dksX1_addIncumbent_2 13 rfl rfl)
theorem dX1_addIncumbent_60 : decode cX1_addIncumbent 60 = .ok (.lconst 0, 1) := dk_9 (dk_at dksX1_addIncumbent_2 14 rfl rfl)
theorem dX1_addIncumbent_61 : decode cX1_addIncumbent 61 = .ok (.ldc2_w 353, 3) := dk_20 1 97 (dk_at dksX1_addIncumbent_2 15 rfl rfl)
theorem dX1_addIncumbent_64 : decode cX1_addIncumbent 64 = .ok (.invokestatic 73, 3) := dk_184 0 73 (dk_at dksX1_addIncumbent_2 18 rfl rfl)
theorem dX1_addIncumbent_67 : decode cX1_addIncumbent 67 = .ok (.bastore, 1) := dk_84 (dk_at dksX1_addIncumbent_2 21 rfl rfl)
theorem dX1_addIncumbent_68 : decode cX1_addIncumbent 68 = .ok (.dup, 1) := dk_89 (dk_at dksX1_addIncumbent_2 22 rfl rfl)
theorem dX1_addIncumbent_69 : decode cX1_addIncumbent 69 = .ok (.iconst 2, 1) := dk_5 (dk_at dksX1_addIncumbent_2 23 rfl rfl)
theorem dX1_addIncumbent_70 : decode cX1_addIncumbent 70 = .ok (.iload 6, 2) := dk_21 6 (dk_at dksX1_addIncumbent_3 0 rfl rfl)
theorem dX1_addIncumbent_72 : decode cX1_addIncumbent 72 = .ok (.i2l, 1) := dk_133 (dk_at dksX1_addIncumbent_3 2 rfl rfl)
theorem dX1_addIncumbent_73 : decode cX1_addIncumbent 73 = .ok (.lconst 1, 1) := dk_10 (dk_at dksX1_addIncumbent_3 3 rfl rfl)
theorem dX1_addIncumbent_74 : decode cX1_addIncumbent 74 = .ok (.ldc2_w 342, 3) := dk_20 1 86 (dk_at dksX1_addIncumbent_3 4 rfl rfl)
theorem dX1_addIncumbent_77 : decode cX1_addIncumbent 77 = .ok (.invokestatic 73, 3) := dk_184 0 73 (dk_at dksX1_addIncumbent_3 7 rfl rfl)
theorem dX1_addIncumbent_80 : decode cX1_addIncumbent 80 = .ok (.bastore, 1) := dk_84 (dk_at dksX1_addIncumbent_3 10 rfl rfl)
theorem dX1_addIncumbent_81 : decode cX1_addIncumbent 81 = .ok (.invokestatic 277, 3) := dk_184 1 21 (dk_at dksX1_addIncumbent_3 11 rfl rfl)
theorem dX1_addIncumbent_84 : decode cX1_addIncumbent 84 = .ok (.aload_n 0, 1) := dk_42 (dk_at dksX1_addIncumbent_3 14 rfl rfl)
theorem dX1_addIncumbent_85 : decode cX1_addIncumbent 85 = .ok (.invokevirtual 330, 3) := dk_182 1 74 (dk_at dksX1_addIncumbent_3 15 rfl rfl)
theorem dX1_addIncumbent_88 : decode cX1_addIncumbent 88 = .ok (.bipush 10, 2) := dk_16 10 (dk_at dksX1_addIncumbent_3 18 rfl rfl)
theorem dX1_addIncumbent_90 : decode cX1_addIncumbent 90 = .ok (.if_icmp .ge 7, 3) := dk_162 0 7 (dk_at dksX1_addIncumbent_3 20 rfl rfl)
theorem dX1_addIncumbent_93 : decode cX1_addIncumbent 93 = .ok (.iconst 1, 1) := dk_4 (dk_at dksX1_addIncumbent_3 23 rfl rfl)
theorem dX1_addIncumbent_94 : decode cX1_addIncumbent 94 = .ok (.goto 4, 3) := dk_167 0 4 (dk_at dksX1_addIncumbent_4 0 rfl rfl)
theorem dX1_addIncumbent_97 : decode cX1_addIncumbent 97 = .ok (.iconst 0, 1) := dk_3 (dk_at dksX1_addIncumbent_4 3 rfl rfl)
theorem dX1_addIncumbent_98 : decode cX1_addIncumbent 98 = .ok (.invokestatic 50, 3) := dk_184 0 50 (dk_at dksX1_addIncumbent_4 4 rfl rfl)
theorem dX1_addIncumbent_101 : decode cX1_addIncumbent 101 = .ok (.aload_n 0, 1) := dk_42 (dk_at dksX1_addIncumbent_4 7 rfl rfl)
theorem dX1_addIncumbent_102 : decode cX1_addIncumbent 102 = .ok (.invokevirtual 339, 3) := dk_182 1 83 (dk_at dksX1_addIncumbent_4 8 rfl rfl)
theorem dX1_addIncumbent_105 : decode cX1_addIncumbent 105 = .ok (.aload_n 0, 1) := dk_42 (dk_at dksX1_addIncumbent_4 11 rfl rfl)
theorem dX1_addIncumbent_106 : decode cX1_addIncumbent 106 = .ok (.getfield 46, 3) := dk_180 0 46 (dk_at dksX1_addIncumbent_4 12 rfl rfl)
theorem dX1_addIncumbent_109 : decode cX1_addIncumbent 109 = .ok (.getfield 126, 3) := dk_180 0 126 (dk_at dksX1_addIncumbent_4 15 rfl rfl)
theorem dX1_addIncumbent_112 : decode cX1_addIncumbent 112 = .ok (.iconst 1, 1) := dk_4 (dk_at dksX1_addIncumbent_4 18 rfl rfl)
theorem dX1_addIncumbent_113 : decode cX1_addIncumbent 113 = .ok (.iadd, 1) := dk_96 (dk_at dksX1_addIncumbent_4 19 rfl rfl)
theorem dX1_addIncumbent_114 : decode cX1_addIncumbent 114 = .ok (.istore 7, 2) := dk_54 7 (dk_at dksX1_addIncumbent_4 20 rfl rfl)
theorem dX1_addIncumbent_116 : decode cX1_addIncumbent 116 = .ok (.aload_n 0, 1) := dk_42 (dk_at dksX1_addIncumbent_4 22 rfl rfl)
theorem dX1_addIncumbent_117 : decode cX1_addIncumbent 117 = .ok (.getfield 46, 3) := dk_180 0 46 (dk_at dksX1_addIncumbent_5 0 rfl rfl)
theorem dX1_addIncumbent_120 : decode cX1_addIncumbent 120 = .ok (.new 137, 3) := dk_187 0 137 (dk_at dksX1_addIncumbent_5 3 rfl rfl)
theorem dX1_addIncumbent_123 : decode cX1_addIncumbent 123 = .ok (.dup, 1) := dk_89 (dk_at dksX1_addIncumbent_5 6 rfl rfl)
theorem dX1_addIncumbent_124 : decode cX1_addIncumbent 124 = .ok (.new 243, 3) := dk_187 0 243 (dk_at dksX1_addIncumbent_5 7 rfl rfl)
theorem dX1_addIncumbent_127 : decode cX1_addIncumbent 127 = .ok (.dup, 1) := dk_89 (dk_at dksX1_addIncumbent_5 10 rfl rfl)
theorem dX1_addIncumbent_128 : decode cX1_addIncumbent 128 = .ok (.iload_n 1, 1) := dk_27 (dk_at dksX1_addIncumbent_5 11 rfl rfl)
theorem dX1_addIncumbent_129 : decode cX1_addIncumbent 129 = .ok (.iload_n 2, 1) := dk_28 (dk_at dksX1_addIncumbent_5 12 rfl rfl)
theorem dX1_addIncumbent_130 : decode cX1_addIncumbent 130 = .ok (.invokespecial 245, 3) := dk_183 0 245 (dk_at dksX1_addIncumbent_5 13 rfl rfl)
theorem dX1_addIncumbent_133 : decode cX1_addIncumbent 133 = .ok (.iload_n 3, 1) := dk_29 (dk_at dksX1_addIncumbent_5 16 rfl rfl)
theorem dX1_addIncumbent_134 : decode cX1_addIncumbent 134 = .ok (.iload 4, 2) := dk_21 4 (dk_at dksX1_addIncumbent_5 17 rfl rfl)
theorem dX1_addIncumbent_136 : decode cX1_addIncumbent 136 = .ok (.iload 5, 2) := dk_21 5 (dk_at dksX1_addIncumbent_5 19 rfl rfl)
theorem dX1_addIncumbent_138 : decode cX1_addIncumbent 138 = .ok (.iload 7, 2) := dk_21 7 (dk_at dksX1_addIncumbent_5 21 rfl rfl)
theorem dX1_addIncumbent_140 : decode cX1_addIncumbent 140 = .ok (.iconst 1, 1) := dk_4 (dk_at dksX1_addIncumbent_5 23 rfl rfl)
theorem dX1_addIncumbent_141 : decode cX1_addIncumbent 141 = .ok (.invokespecial 355, 3) := dk_183 1 99 (dk_at dksX1_addIncumbent_6 0 rfl rfl)
theorem dX1_addIncumbent_144 : decode cX1_addIncumbent 144 = .ok (.iload 7, 2) := dk_21 7 (dk_at dksX1_addIncumbent_6 3 rfl rfl)
theorem dX1_addIncumbent_146 : decode cX1_addIncumbent 146 = .ok (.iload 6, 2) := dk_21 6 (dk_at dksX1_addIncumbent_6 5 rfl rfl)
theorem dX1_addIncumbent_148 : decode cX1_addIncumbent 148 = .ok (.iadd, 1) := dk_96 (dk_at dksX1_addIncumbent_6 7 rfl rfl)
theorem dX1_addIncumbent_149 : decode cX1_addIncumbent 149 = .ok (.invokevirtual 358, 3) := dk_182 1 102 (dk_at dksX1_addIncumbent_6 8 rfl rfl)
theorem dX1_addIncumbent_152 : decode cX1_addIncumbent 152 = .ok (.ireturn, 1) := dk_172 (dk_at dksX1_addIncumbent_6 11 rfl rfl)
abbrev cX1_endIncumbent : ByteArray := prog_1_method_70_code
def yX1_endIncumbent : MethodName := ⟨RX1, "endIncumbent", "(I)I"⟩
def dkwX1_endIncumbent_2 : List UInt8 := [180, 1, 105, 27, 46, 61, 42, 180, 0, 46, 180, 1, 105, 27, 42, 180, 0, 46, 180, 0, 126, 79, 28, 172]
abbrev dktX1_endIncumbent_2 : List UInt8 := dkwX1_endIncumbent_2 ++ []
def dkwX1_endIncumbent_1 : List UInt8 := [180, 0, 126, 164, 0, 7, 4, 167, 0, 4, 3, 84, 184, 1, 21, 42, 182, 1, 83, 42, 180, 0, 46]
abbrev dktX1_endIncumbent_1 : List UInt8 := dkwX1_endIncumbent_1 ++ dktX1_endIncumbent_2
def dkwX1_endIncumbent_0 : List UInt8 := [42, 27, 182, 0, 129, 87, 4, 188, 4, 89, 3, 42, 180, 0, 46, 180, 1, 105, 27, 46, 42, 180, 0, 46]
abbrev dktX1_endIncumbent_0 : List UInt8 := dkwX1_endIncumbent_0 ++ dktX1_endIncumbent_1
theorem dksX1_endIncumbent_0 : cX1_endIncumbent.data.toList.drop 0 = dktX1_endIncumbent_0 := by decide +kernel
theorem dksX1_endIncumbent_1 : cX1_endIncumbent.data.toList.drop 24 = dktX1_endIncumbent_1 := dk_seg dksX1_endIncumbent_0 24 rfl rfl
theorem dksX1_endIncumbent_2 : cX1_endIncumbent.data.toList.drop 47 = dktX1_endIncumbent_2 := dk_seg dksX1_endIncumbent_1 23 rfl rfl
theorem dX1_endIncumbent_0 : decode cX1_endIncumbent 0 = .ok (.aload_n 0, 1) := dk_42 (dk_at dksX1_endIncumbent_0 0 rfl rfl)
theorem dX1_endIncumbent_1 : decode cX1_endIncumbent 1 = .ok (.iload_n 1, 1) := dk_27 (dk_at dksX1_endIncumbent_0 1 rfl rfl)
theorem dX1_endIncumbent_2 : decode cX1_endIncumbent 2 = .ok (.invokevirtual 129, 3) := dk_182 0 129 (dk_at dksX1_endIncumbent_0 2 rfl rfl)
theorem dX1_endIncumbent_5 : decode cX1_endIncumbent 5 = .ok (.pop, 1) := dk_87 (dk_at dksX1_endIncumbent_0 5 rfl rfl)
theorem dX1_endIncumbent_6 : decode cX1_endIncumbent 6 = .ok (.iconst 1, 1) := dk_4 (dk_at dksX1_endIncumbent_0 6 rfl rfl)
theorem dX1_endIncumbent_7 : decode cX1_endIncumbent 7 = .ok (.newarray .boolean, 2) := dk_188_4 (dk_at dksX1_endIncumbent_0 7 rfl rfl)
theorem dX1_endIncumbent_9 : decode cX1_endIncumbent 9 = .ok (.dup, 1) := dk_89 (dk_at dksX1_endIncumbent_0 9 rfl rfl)
theorem dX1_endIncumbent_10 : decode cX1_endIncumbent 10 = .ok (.iconst 0, 1) := dk_3 (dk_at dksX1_endIncumbent_0 10 rfl rfl)
theorem dX1_endIncumbent_11 : decode cX1_endIncumbent 11 = .ok (.aload_n 0, 1) := dk_42 (dk_at dksX1_endIncumbent_0 11 rfl rfl)
theorem dX1_endIncumbent_12 : decode cX1_endIncumbent 12 = .ok (.getfield 46, 3) := dk_180 0 46 (dk_at dksX1_endIncumbent_0 12 rfl rfl)
theorem dX1_endIncumbent_15 : decode cX1_endIncumbent 15 = .ok (.getfield 361, 3) := dk_180 1 105 (dk_at dksX1_endIncumbent_0 15 rfl rfl)
theorem dX1_endIncumbent_18 : decode cX1_endIncumbent 18 = .ok (.iload_n 1, 1) := dk_27 (dk_at dksX1_endIncumbent_0 18 rfl rfl)
theorem dX1_endIncumbent_19 : decode cX1_endIncumbent 19 = .ok (.iaload, 1) := dk_46 (dk_at dksX1_endIncumbent_0 19 rfl rfl)
theorem dX1_endIncumbent_20 : decode cX1_endIncumbent 20 = .ok (.aload_n 0, 1) := dk_42 (dk_at dksX1_endIncumbent_0 20 rfl rfl)
theorem dX1_endIncumbent_21 : decode cX1_endIncumbent 21 = .ok (.getfield 46, 3) := dk_180 0 46 (dk_at dksX1_endIncumbent_0 21 rfl rfl)
theorem dX1_endIncumbent_24 : decode cX1_endIncumbent 24 = .ok (.getfield 126, 3) := dk_180 0 126 (dk_at dksX1_endIncumbent_1 0 rfl rfl)
theorem dX1_endIncumbent_27 : decode cX1_endIncumbent 27 = .ok (.if_icmp .le 7, 3) := dk_164 0 7 (dk_at dksX1_endIncumbent_1 3 rfl rfl)
theorem dX1_endIncumbent_30 : decode cX1_endIncumbent 30 = .ok (.iconst 1, 1) := dk_4 (dk_at dksX1_endIncumbent_1 6 rfl rfl)
theorem dX1_endIncumbent_31 : decode cX1_endIncumbent 31 = .ok (.goto 4, 3) := dk_167 0 4 (dk_at dksX1_endIncumbent_1 7 rfl rfl)
theorem dX1_endIncumbent_34 : decode cX1_endIncumbent 34 = .ok (.iconst 0, 1) := dk_3 (dk_at dksX1_endIncumbent_1 10 rfl rfl)
theorem dX1_endIncumbent_35 : decode cX1_endIncumbent 35 = .ok (.bastore, 1) := dk_84 (dk_at dksX1_endIncumbent_1 11 rfl rfl)
theorem dX1_endIncumbent_36 : decode cX1_endIncumbent 36 = .ok (.invokestatic 277, 3) := dk_184 1 21 (dk_at dksX1_endIncumbent_1 12 rfl rfl)
theorem dX1_endIncumbent_39 : decode cX1_endIncumbent 39 = .ok (.aload_n 0, 1) := dk_42 (dk_at dksX1_endIncumbent_1 15 rfl rfl)
theorem dX1_endIncumbent_40 : decode cX1_endIncumbent 40 = .ok (.invokevirtual 339, 3) := dk_182 1 83 (dk_at dksX1_endIncumbent_1 16 rfl rfl)
theorem dX1_endIncumbent_43 : decode cX1_endIncumbent 43 = .ok (.aload_n 0, 1) := dk_42 (dk_at dksX1_endIncumbent_1 19 rfl rfl)
theorem dX1_endIncumbent_44 : decode cX1_endIncumbent 44 = .ok (.getfield 46, 3) := dk_180 0 46 (dk_at dksX1_endIncumbent_1 20 rfl rfl)
theorem dX1_endIncumbent_47 : decode cX1_endIncumbent 47 = .ok (.getfield 361, 3) := dk_180 1 105 (dk_at dksX1_endIncumbent_2 0 rfl rfl)
theorem dX1_endIncumbent_50 : decode cX1_endIncumbent 50 = .ok (.iload_n 1, 1) := dk_27 (dk_at dksX1_endIncumbent_2 3 rfl rfl)
theorem dX1_endIncumbent_51 : decode cX1_endIncumbent 51 = .ok (.iaload, 1) := dk_46 (dk_at dksX1_endIncumbent_2 4 rfl rfl)
theorem dX1_endIncumbent_52 : decode cX1_endIncumbent 52 = .ok (.istore_n 2, 1) := dk_61 (dk_at dksX1_endIncumbent_2 5 rfl rfl)
theorem dX1_endIncumbent_53 : decode cX1_endIncumbent 53 = .ok (.aload_n 0, 1) := dk_42 (dk_at dksX1_endIncumbent_2 6 rfl rfl)
theorem dX1_endIncumbent_54 : decode cX1_endIncumbent 54 = .ok (.getfield 46, 3) := dk_180 0 46 (dk_at dksX1_endIncumbent_2 7 rfl rfl)
theorem dX1_endIncumbent_57 : decode cX1_endIncumbent 57 = .ok (.getfield 361, 3) := dk_180 1 105 (dk_at dksX1_endIncumbent_2 10 rfl rfl)
theorem dX1_endIncumbent_60 : decode cX1_endIncumbent 60 = .ok (.iload_n 1, 1) := dk_27 (dk_at dksX1_endIncumbent_2 13 rfl rfl)
theorem dX1_endIncumbent_61 : decode cX1_endIncumbent 61 = .ok (.aload_n 0, 1) := dk_42 (dk_at dksX1_endIncumbent_2 14 rfl rfl)
theorem dX1_endIncumbent_62 : decode cX1_endIncumbent 62 = .ok (.getfield 46, 3) := dk_180 0 46 (dk_at dksX1_endIncumbent_2 15 rfl rfl)
theorem dX1_endIncumbent_65 : decode cX1_endIncumbent 65 = .ok (.getfield 126, 3) := dk_180 0 126 (dk_at dksX1_endIncumbent_2 18 rfl rfl)
theorem dX1_endIncumbent_68 : decode cX1_endIncumbent 68 = .ok (.iastore, 1) := dk_79 (dk_at dksX1_endIncumbent_2 21 rfl rfl)
theorem dX1_endIncumbent_69 : decode cX1_endIncumbent 69 = .ok (.iload_n 2, 1) := dk_28 (dk_at dksX1_endIncumbent_2 22 rfl rfl)
theorem dX1_endIncumbent_70 : decode cX1_endIncumbent 70 = .ok (.ireturn, 1) := dk_172 (dk_at dksX1_endIncumbent_2 23 rfl rfl)
abbrev cX1_undo : ByteArray := prog_1_method_71_code
def yX1_undo : MethodName := ⟨RX1, "undo", "()I"⟩
def dkwX1_undo_2 : List UInt8 := [181, 0, 46, 42, 180, 0, 27, 185, 0, 67, 1, 0, 172]
abbrev dktX1_undo_2 : List UInt8 := dkwX1_undo_2 ++ []
def dkwX1_undo_1 : List UInt8 := [180, 0, 27, 42, 180, 0, 27, 185, 0, 67, 1, 0, 4, 100, 185, 1, 76, 2, 0, 192, 0, 31]
abbrev dktX1_undo_1 : List UInt8 := dkwX1_undo_1 ++ dktX1_undo_2
def dkwX1_undo_0 : List UInt8 := [42, 180, 0, 27, 185, 1, 108, 1, 0, 154, 0, 7, 4, 167, 0, 4, 3, 184, 0, 50, 42, 42]
abbrev dktX1_undo_0 : List UInt8 := dkwX1_undo_0 ++ dktX1_undo_1
theorem dksX1_undo_0 : cX1_undo.data.toList.drop 0 = dktX1_undo_0 := by decide +kernel
theorem dksX1_undo_1 : cX1_undo.data.toList.drop 22 = dktX1_undo_1 := dk_seg dksX1_undo_0 22 rfl rfl
theorem dksX1_undo_2 : cX1_undo.data.toList.drop 44 = dktX1_undo_2 := dk_seg dksX1_undo_1 22 rfl rfl
theorem dX1_undo_0 : decode cX1_undo 0 = .ok (.aload_n 0, 1) := dk_42 (dk_at dksX1_undo_0 0 rfl rfl)
theorem dX1_undo_1 : decode cX1_undo 1 = .ok (.getfield 27, 3) := dk_180 0 27 (dk_at dksX1_undo_0 1 rfl rfl)
theorem dX1_undo_4 : decode cX1_undo 4 = .ok (.invokeinterface 364 1, 5) := by decide +kernel
theorem dX1_undo_9 : decode cX1_undo 9 = .ok (.ifCond .ne 7, 3) := dk_154 0 7 (dk_at dksX1_undo_0 9 rfl rfl)
theorem dX1_undo_12 : decode cX1_undo 12 = .ok (.iconst 1, 1) := dk_4 (dk_at dksX1_undo_0 12 rfl rfl)
theorem dX1_undo_13 : decode cX1_undo 13 = .ok (.goto 4, 3) := dk_167 0 4 (dk_at dksX1_undo_0 13 rfl rfl)
theorem dX1_undo_16 : decode cX1_undo 16 = .ok (.iconst 0, 1) := dk_3 (dk_at dksX1_undo_0 16 rfl rfl)
theorem dX1_undo_17 : decode cX1_undo 17 = .ok (.invokestatic 50, 3) := dk_184 0 50 (dk_at dksX1_undo_0 17 rfl rfl)
theorem dX1_undo_20 : decode cX1_undo 20 = .ok (.aload_n 0, 1) := dk_42 (dk_at dksX1_undo_0 20 rfl rfl)
theorem dX1_undo_21 : decode cX1_undo 21 = .ok (.aload_n 0, 1) := dk_42 (dk_at dksX1_undo_0 21 rfl rfl)
theorem dX1_undo_22 : decode cX1_undo 22 = .ok (.getfield 27, 3) := dk_180 0 27 (dk_at dksX1_undo_1 0 rfl rfl)
theorem dX1_undo_25 : decode cX1_undo 25 = .ok (.aload_n 0, 1) := dk_42 (dk_at dksX1_undo_1 3 rfl rfl)
theorem dX1_undo_26 : decode cX1_undo 26 = .ok (.getfield 27, 3) := dk_180 0 27 (dk_at dksX1_undo_1 4 rfl rfl)
theorem dX1_undo_29 : decode cX1_undo 29 = .ok (.invokeinterface 67 1, 5) := by decide +kernel
theorem dX1_undo_34 : decode cX1_undo 34 = .ok (.iconst 1, 1) := dk_4 (dk_at dksX1_undo_1 12 rfl rfl)
theorem dX1_undo_35 : decode cX1_undo 35 = .ok (.isub, 1) := dk_100 (dk_at dksX1_undo_1 13 rfl rfl)
theorem dX1_undo_36 : decode cX1_undo 36 = .ok (.invokeinterface 332 2, 5) := by decide +kernel
theorem dX1_undo_41 : decode cX1_undo 41 = .ok (.checkcast 31, 3) := dk_192 0 31 (dk_at dksX1_undo_1 19 rfl rfl)
theorem dX1_undo_44 : decode cX1_undo 44 = .ok (.putfield 46, 3) := dk_181 0 46 (dk_at dksX1_undo_2 0 rfl rfl)
theorem dX1_undo_47 : decode cX1_undo 47 = .ok (.aload_n 0, 1) := dk_42 (dk_at dksX1_undo_2 3 rfl rfl)
theorem dX1_undo_48 : decode cX1_undo 48 = .ok (.getfield 27, 3) := dk_180 0 27 (dk_at dksX1_undo_2 4 rfl rfl)
theorem dX1_undo_51 : decode cX1_undo 51 = .ok (.invokeinterface 67 1, 5) := by decide +kernel
theorem dX1_undo_56 : decode cX1_undo 56 = .ok (.ireturn, 1) := dk_172 (dk_at dksX1_undo_2 12 rfl rfl)
abbrev cX1_save : ByteArray := prog_1_method_73_code
def yX1_save : MethodName := ⟨RX1, "save", "(I)I"⟩
def dkwX1_save_1 : List UInt8 := [180, 0, 33, 27, 42, 180, 0, 46, 182, 0, 224, 83, 42, 180, 0, 46, 180, 0, 126, 172]
abbrev dktX1_save_1 : List UInt8 := dkwX1_save_1 ++ []
def dkwX1_save_0 : List UInt8 := [42, 182, 0, 54, 87, 4, 188, 4, 89, 3, 27, 133, 9, 10, 184, 0, 73, 84, 184, 0, 77, 42]
abbrev dktX1_save_0 : List UInt8 := dkwX1_save_0 ++ dktX1_save_1
theorem dksX1_save_0 : cX1_save.data.toList.drop 0 = dktX1_save_0 := by decide +kernel
theorem dksX1_save_1 : cX1_save.data.toList.drop 22 = dktX1_save_1 := dk_seg dksX1_save_0 22 rfl rfl
theorem dX1_save_0 : decode cX1_save 0 = .ok (.aload_n 0, 1) := dk_42 (dk_at dksX1_save_0 0 rfl rfl)
theorem dX1_save_1 : decode cX1_save 1 = .ok (.invokevirtual 54, 3) := dk_182 0 54 (dk_at dksX1_save_0 1 rfl rfl)
theorem dX1_save_4 : decode cX1_save 4 = .ok (.pop, 1) := dk_87 (dk_at dksX1_save_0 4 rfl rfl)
theorem dX1_save_5 : decode cX1_save 5 = .ok (.iconst 1, 1) := dk_4 (dk_at dksX1_save_0 5 rfl rfl)
theorem dX1_save_6 : decode cX1_save 6 = .ok (.newarray .boolean, 2) := dk_188_4 (dk_at dksX1_save_0 6 rfl rfl)
theorem dX1_save_8 : decode cX1_save 8 = .ok (.dup, 1) := dk_89 (dk_at dksX1_save_0 8 rfl rfl)
theorem dX1_save_9 : decode cX1_save 9 = .ok (.iconst 0, 1) := dk_3 (dk_at dksX1_save_0 9 rfl rfl)
theorem dX1_save_10 : decode cX1_save 10 = .ok (.iload_n 1, 1) := dk_27 (dk_at dksX1_save_0 10 rfl rfl)
theorem dX1_save_11 : decode cX1_save 11 = .ok (.i2l, 1) := dk_133 (dk_at dksX1_save_0 11 rfl rfl)
theorem dX1_save_12 : decode cX1_save 12 = .ok (.lconst 0, 1) := dk_9 (dk_at dksX1_save_0 12 rfl rfl)
theorem dX1_save_13 : decode cX1_save 13 = .ok (.lconst 1, 1) := dk_10 (dk_at dksX1_save_0 13 rfl rfl)
theorem dX1_save_14 : decode cX1_save 14 = .ok (.invokestatic 73, 3) := dk_184 0 73 (dk_at dksX1_save_0 14 rfl rfl)
theorem dX1_save_17 : decode cX1_save 17 = .ok (.bastore, 1) := dk_84 (dk_at dksX1_save_0 17 rfl rfl)
theorem dX1_save_18 : decode cX1_save 18 = .ok (.invokestatic 77, 3) := dk_184 0 77 (dk_at dksX1_save_0 18 rfl rfl)
theorem dX1_save_21 : decode cX1_save 21 = .ok (.aload_n 0, 1) := dk_42 (dk_at dksX1_save_0 21 rfl rfl)
theorem dX1_save_22 : decode cX1_save 22 = .ok (.getfield 33, 3) := dk_180 0 33 (dk_at dksX1_save_1 0 rfl rfl)
theorem dX1_save_25 : decode cX1_save 25 = .ok (.iload_n 1, 1) := dk_27 (dk_at dksX1_save_1 3 rfl rfl)
theorem dX1_save_26 : decode cX1_save 26 = .ok (.aload_n 0, 1) := dk_42 (dk_at dksX1_save_1 4 rfl rfl)
theorem dX1_save_27 : decode cX1_save 27 = .ok (.getfield 46, 3) := dk_180 0 46 (dk_at dksX1_save_1 5 rfl rfl)
theorem dX1_save_30 : decode cX1_save 30 = .ok (.invokevirtual 224, 3) := dk_182 0 224 (dk_at dksX1_save_1 8 rfl rfl)
theorem dX1_save_33 : decode cX1_save 33 = .ok (.aastore, 1) := dk_83 (dk_at dksX1_save_1 11 rfl rfl)
theorem dX1_save_34 : decode cX1_save 34 = .ok (.aload_n 0, 1) := dk_42 (dk_at dksX1_save_1 12 rfl rfl)
theorem dX1_save_35 : decode cX1_save 35 = .ok (.getfield 46, 3) := dk_180 0 46 (dk_at dksX1_save_1 13 rfl rfl)
theorem dX1_save_38 : decode cX1_save 38 = .ok (.getfield 126, 3) := dk_180 0 126 (dk_at dksX1_save_1 16 rfl rfl)
theorem dX1_save_41 : decode cX1_save 41 = .ok (.ireturn, 1) := dk_172 (dk_at dksX1_save_1 19 rfl rfl)
abbrev cX1_restore : ByteArray := prog_1_method_74_code
def yX1_restore : MethodName := ⟨RX1, "restore", "(I)I"⟩
def dkwX1_restore_2 : List UInt8 := [42, 180, 0, 27, 185, 0, 112, 1, 0, 42, 180, 0, 46, 180, 0, 126, 172]
abbrev dktX1_restore_2 : List UInt8 := dkwX1_restore_2 ++ []
def dkwX1_restore_1 : List UInt8 := [198, 0, 7, 4, 167, 0, 4, 3, 184, 0, 50, 42, 42, 180, 0, 33, 27, 50, 182, 0, 224, 181, 0, 46]
abbrev dktX1_restore_1 : List UInt8 := dkwX1_restore_1 ++ dktX1_restore_2
def dkwX1_restore_0 : List UInt8 := [4, 188, 4, 89, 3, 27, 133, 9, 10, 184, 0, 73, 84, 184, 0, 77, 42, 180, 0, 33, 27, 50]
abbrev dktX1_restore_0 : List UInt8 := dkwX1_restore_0 ++ dktX1_restore_1
theorem dksX1_restore_0 : cX1_restore.data.toList.drop 0 = dktX1_restore_0 := by decide +kernel
theorem dksX1_restore_1 : cX1_restore.data.toList.drop 22 = dktX1_restore_1 := dk_seg dksX1_restore_0 22 rfl rfl
theorem dksX1_restore_2 : cX1_restore.data.toList.drop 46 = dktX1_restore_2 := dk_seg dksX1_restore_1 24 rfl rfl
theorem dX1_restore_0 : decode cX1_restore 0 = .ok (.iconst 1, 1) := dk_4 (dk_at dksX1_restore_0 0 rfl rfl)
theorem dX1_restore_1 : decode cX1_restore 1 = .ok (.newarray .boolean, 2) := dk_188_4 (dk_at dksX1_restore_0 1 rfl rfl)
theorem dX1_restore_3 : decode cX1_restore 3 = .ok (.dup, 1) := dk_89 (dk_at dksX1_restore_0 3 rfl rfl)
theorem dX1_restore_4 : decode cX1_restore 4 = .ok (.iconst 0, 1) := dk_3 (dk_at dksX1_restore_0 4 rfl rfl)
theorem dX1_restore_5 : decode cX1_restore 5 = .ok (.iload_n 1, 1) := dk_27 (dk_at dksX1_restore_0 5 rfl rfl)
theorem dX1_restore_6 : decode cX1_restore 6 = .ok (.i2l, 1) := dk_133 (dk_at dksX1_restore_0 6 rfl rfl)
theorem dX1_restore_7 : decode cX1_restore 7 = .ok (.lconst 0, 1) := dk_9 (dk_at dksX1_restore_0 7 rfl rfl)
theorem dX1_restore_8 : decode cX1_restore 8 = .ok (.lconst 1, 1) := dk_10 (dk_at dksX1_restore_0 8 rfl rfl)
theorem dX1_restore_9 : decode cX1_restore 9 = .ok (.invokestatic 73, 3) := dk_184 0 73 (dk_at dksX1_restore_0 9 rfl rfl)
theorem dX1_restore_12 : decode cX1_restore 12 = .ok (.bastore, 1) := dk_84 (dk_at dksX1_restore_0 12 rfl rfl)
theorem dX1_restore_13 : decode cX1_restore 13 = .ok (.invokestatic 77, 3) := dk_184 0 77 (dk_at dksX1_restore_0 13 rfl rfl)
theorem dX1_restore_16 : decode cX1_restore 16 = .ok (.aload_n 0, 1) := dk_42 (dk_at dksX1_restore_0 16 rfl rfl)
theorem dX1_restore_17 : decode cX1_restore 17 = .ok (.getfield 33, 3) := dk_180 0 33 (dk_at dksX1_restore_0 17 rfl rfl)
theorem dX1_restore_20 : decode cX1_restore 20 = .ok (.iload_n 1, 1) := dk_27 (dk_at dksX1_restore_0 20 rfl rfl)
theorem dX1_restore_21 : decode cX1_restore 21 = .ok (.aaload, 1) := dk_50 (dk_at dksX1_restore_0 21 rfl rfl)
theorem dX1_restore_22 : decode cX1_restore 22 = .ok (.ifnull 7, 3) := dk_198 0 7 (dk_at dksX1_restore_1 0 rfl rfl)
theorem dX1_restore_25 : decode cX1_restore 25 = .ok (.iconst 1, 1) := dk_4 (dk_at dksX1_restore_1 3 rfl rfl)
theorem dX1_restore_26 : decode cX1_restore 26 = .ok (.goto 4, 3) := dk_167 0 4 (dk_at dksX1_restore_1 4 rfl rfl)
theorem dX1_restore_29 : decode cX1_restore 29 = .ok (.iconst 0, 1) := dk_3 (dk_at dksX1_restore_1 7 rfl rfl)
theorem dX1_restore_30 : decode cX1_restore 30 = .ok (.invokestatic 50, 3) := dk_184 0 50 (dk_at dksX1_restore_1 8 rfl rfl)
theorem dX1_restore_33 : decode cX1_restore 33 = .ok (.aload_n 0, 1) := dk_42 (dk_at dksX1_restore_1 11 rfl rfl)
theorem dX1_restore_34 : decode cX1_restore 34 = .ok (.aload_n 0, 1) := dk_42 (dk_at dksX1_restore_1 12 rfl rfl)
theorem dX1_restore_35 : decode cX1_restore 35 = .ok (.getfield 33, 3) := dk_180 0 33 (dk_at dksX1_restore_1 13 rfl rfl)
theorem dX1_restore_38 : decode cX1_restore 38 = .ok (.iload_n 1, 1) := dk_27 (dk_at dksX1_restore_1 16 rfl rfl)
theorem dX1_restore_39 : decode cX1_restore 39 = .ok (.aaload, 1) := dk_50 (dk_at dksX1_restore_1 17 rfl rfl)
theorem dX1_restore_40 : decode cX1_restore 40 = .ok (.invokevirtual 224, 3) := dk_182 0 224 (dk_at dksX1_restore_1 18 rfl rfl)
theorem dX1_restore_43 : decode cX1_restore 43 = .ok (.putfield 46, 3) := dk_181 0 46 (dk_at dksX1_restore_1 21 rfl rfl)
theorem dX1_restore_46 : decode cX1_restore 46 = .ok (.aload_n 0, 1) := dk_42 (dk_at dksX1_restore_2 0 rfl rfl)
theorem dX1_restore_47 : decode cX1_restore 47 = .ok (.getfield 27, 3) := dk_180 0 27 (dk_at dksX1_restore_2 1 rfl rfl)
theorem dX1_restore_50 : decode cX1_restore 50 = .ok (.invokeinterface 112 1, 5) := by decide +kernel
theorem dX1_restore_55 : decode cX1_restore 55 = .ok (.aload_n 0, 1) := dk_42 (dk_at dksX1_restore_2 9 rfl rfl)
theorem dX1_restore_56 : decode cX1_restore 56 = .ok (.getfield 46, 3) := dk_180 0 46 (dk_at dksX1_restore_2 10 rfl rfl)
theorem dX1_restore_59 : decode cX1_restore 59 = .ok (.getfield 126, 3) := dk_180 0 126 (dk_at dksX1_restore_2 13 rfl rfl)
theorem dX1_restore_62 : decode cX1_restore 62 = .ok (.ireturn, 1) := dk_172 (dk_at dksX1_restore_2 16 rfl rfl)
theorem q140 : (Jvm.Cond.initialized "SpectrumAccess") ∈ lw_all := lw_g (lw_at lw_m1 1 rfl) rfl
theorem q191 : (Jvm.Cond.instantiable "SpectrumAccess" (8 : Nat)) ∈ lw_all := lw_g (lw_at lw_m1 52 rfl) rfl
theorem q193 : (Jvm.Cond.instanceMethod ({ cls := "SpectrumAccess", name := "<init>", desc := "()V" } : Jvm.MethodName)) ∈ lw_all := lw_g (lw_at lw_m1 54 rfl) rfl
theorem q194 : (Jvm.Cond.code ({ cls := "SpectrumAccess", name := "<init>", desc := "()V" } : Jvm.MethodName) prog_1_method_2_code (1 : Nat) (Option.none : Option Jvm.ClassFile.FieldType)) ∈ lw_all := lw_g (lw_at lw_m1 55 rfl) rfl
theorem q195 : (Jvm.Cond.methodLink "SpectrumAccess" (1 : Nat) ({ cls := "java/lang/Object", name := "<init>", desc := "()V" } : Jvm.MethodName)) ∈ lw_all := lw_g (lw_at lw_m1 56 rfl) rfl
theorem q198 : (Jvm.Cond.classLink "SpectrumAccess" (7 : Nat) "java/lang/StringBuilder") ∈ lw_all := lw_g (lw_at lw_m1 59 rfl) rfl
theorem q200 : (Jvm.Cond.methodLink "SpectrumAccess" (9 : Nat) ({ cls := "java/lang/StringBuilder", name := "<init>", desc := "()V" } : Jvm.MethodName)) ∈ lw_all := lw_g (lw_at lw_m1 61 rfl) rfl
theorem q231 : (Jvm.Cond.classLink "SpectrumAccess" (24 : Nat) "java/util/ArrayList") ∈ lw_all := lw_g (lw_at lw_m1 92 rfl) rfl
theorem q233 : (Jvm.Cond.methodLink "SpectrumAccess" (26 : Nat) ({ cls := "java/util/ArrayList", name := "<init>", desc := "()V" } : Jvm.MethodName)) ∈ lw_all := lw_g (lw_at lw_m1 94 rfl) rfl
theorem q257 : (Jvm.Cond.classLink "SpectrumAccess" (31 : Nat) "SpectrumAccess$State") ∈ lw_all := lw_g (lw_at lw_m1 118 rfl) rfl
theorem q259 : (Jvm.Cond.fieldLink "SpectrumAccess" (10 : Nat) "SpectrumAccess" "label" "Ljava/lang/StringBuilder;") ∈ lw_all := lw_g (lw_at lw_m1 120 rfl) rfl
theorem q260 : (Jvm.Cond.fieldLink "SpectrumAccess" (16 : Nat) "SpectrumAccess" "buffer" "[B") ∈ lw_all := lw_g (lw_at lw_m1 121 rfl) rfl
theorem q261 : (Jvm.Cond.fieldLink "SpectrumAccess" (98 : Nat) "SpectrumAccess" "buffered" "I") ∈ lw_all := lw_g (lw_at lw_m1 122 rfl) rfl
theorem q262 : (Jvm.Cond.fieldLink "SpectrumAccess" (101 : Nat) "SpectrumAccess" "parseError" "I") ∈ lw_all := lw_g (lw_at lw_m1 123 rfl) rfl
theorem q263 : (Jvm.Cond.fieldLink "SpectrumAccess" (20 : Nat) "SpectrumAccess" "errorPosition" "I") ∈ lw_all := lw_g (lw_at lw_m1 124 rfl) rfl
theorem q264 : (Jvm.Cond.fieldLink "SpectrumAccess" (46 : Nat) "SpectrumAccess" "state" "LSpectrumAccess$State;") ∈ lw_all := lw_g (lw_at lw_m1 125 rfl) rfl
theorem q265 : (Jvm.Cond.fieldLink "SpectrumAccess" (27 : Nat) "SpectrumAccess" "past" "Ljava/util/List;") ∈ lw_all := lw_g (lw_at lw_m1 126 rfl) rfl
theorem q266 : (Jvm.Cond.fieldLink "SpectrumAccess" (33 : Nat) "SpectrumAccess" "saved" "[LSpectrumAccess$State;") ∈ lw_all := lw_g (lw_at lw_m1 127 rfl) rfl
theorem q267 : (Jvm.Cond.laysFinal "SpectrumAccess" "SpectrumAccess" "label" "Ljava/lang/StringBuilder;") ∈ lw_all := lw_g (lw_at lw_m1 128 rfl) rfl
theorem q268 : (Jvm.Cond.soleField "SpectrumAccess" "label") ∈ lw_all := lw_g (lw_at lw_m1 129 rfl) rfl
theorem q269 : (Jvm.Cond.laysFinal "SpectrumAccess" "SpectrumAccess" "buffer" "[B") ∈ lw_all := lw_g (lw_at lw_m1 130 rfl) rfl
theorem q270 : (Jvm.Cond.soleField "SpectrumAccess" "buffer") ∈ lw_all := lw_g (lw_at lw_m1 131 rfl) rfl
theorem q271 : (Jvm.Cond.lays "SpectrumAccess" "SpectrumAccess" "buffered" "I") ∈ lw_all := lw_g (lw_at lw_m1 132 rfl) rfl
theorem q272 : (Jvm.Cond.soleField "SpectrumAccess" "buffered") ∈ lw_all := lw_g (lw_at lw_m1 133 rfl) rfl
theorem q273 : (Jvm.Cond.lays "SpectrumAccess" "SpectrumAccess" "parseError" "I") ∈ lw_all := lw_g (lw_at lw_m1 134 rfl) rfl
theorem q274 : (Jvm.Cond.soleField "SpectrumAccess" "parseError") ∈ lw_all := lw_g (lw_at lw_m1 135 rfl) rfl
theorem q275 : (Jvm.Cond.lays "SpectrumAccess" "SpectrumAccess" "errorPosition" "I") ∈ lw_all := lw_g (lw_at lw_m1 136 rfl) rfl
theorem q276 : (Jvm.Cond.soleField "SpectrumAccess" "errorPosition") ∈ lw_all := lw_g (lw_at lw_m1 137 rfl) rfl
theorem q277 : (Jvm.Cond.lays "SpectrumAccess" "SpectrumAccess" "state" "LSpectrumAccess$State;") ∈ lw_all := lw_g (lw_at lw_m1 138 rfl) rfl
theorem q278 : (Jvm.Cond.soleField "SpectrumAccess" "state") ∈ lw_all := lw_g (lw_at lw_m1 139 rfl) rfl
theorem q279 : (Jvm.Cond.laysFinal "SpectrumAccess" "SpectrumAccess" "past" "Ljava/util/List;") ∈ lw_all := lw_g (lw_at lw_m1 140 rfl) rfl
theorem q280 : (Jvm.Cond.soleField "SpectrumAccess" "past") ∈ lw_all := lw_g (lw_at lw_m1 141 rfl) rfl
theorem q281 : (Jvm.Cond.laysFinal "SpectrumAccess" "SpectrumAccess" "saved" "[LSpectrumAccess$State;") ∈ lw_all := lw_g (lw_at lw_m1 142 rfl) rfl
theorem q282 : (Jvm.Cond.soleField "SpectrumAccess" "saved") ∈ lw_all := lw_g (lw_at lw_m1 143 rfl) rfl
theorem q283 : (Jvm.Cond.superclass "SpectrumAccess" "java/lang/Object") ∈ lw_all := lw_g (lw_at lw_m1 144 rfl) rfl
theorem q285 : (Jvm.Cond.instanceMethod ({ cls := "SpectrumAccess", name := "append", desc := "(IIIII)I" } : Jvm.MethodName)) ∈ lw_all := lw_g (lw_at lw_m1 146 rfl) rfl
theorem q286 : (Jvm.Cond.selects "SpectrumAccess" ({ cls := "SpectrumAccess", name := "append", desc := "(IIIII)I" } : Jvm.MethodName) ({ cls := "SpectrumAccess", name := "append", desc := "(IIIII)I" } : Jvm.MethodName)) ∈ lw_all := lw_g (lw_at lw_m1 147 rfl) rfl
theorem q287 : (Jvm.Cond.code ({ cls := "SpectrumAccess", name := "append", desc := "(IIIII)I" } : Jvm.MethodName) prog_1_method_12_code (11 : Nat) (Option.some Jvm.ClassFile.FieldType.int)) ∈ lw_all := lw_g (lw_at lw_m1 148 rfl) rfl
theorem q290 : (Jvm.Cond.instanceMethod ({ cls := "SpectrumAccess", name := "parseError", desc := "()I" } : Jvm.MethodName)) ∈ lw_all := lw_g (lw_at lw_m1 151 rfl) rfl
theorem q291 : (Jvm.Cond.selects "SpectrumAccess" ({ cls := "SpectrumAccess", name := "parseError", desc := "()I" } : Jvm.MethodName) ({ cls := "SpectrumAccess", name := "parseError", desc := "()I" } : Jvm.MethodName)) ∈ lw_all := lw_g (lw_at lw_m1 152 rfl) rfl
theorem q292 : (Jvm.Cond.code ({ cls := "SpectrumAccess", name := "parseError", desc := "()I" } : Jvm.MethodName) prog_1_method_14_code (1 : Nat) (Option.some Jvm.ClassFile.FieldType.int)) ∈ lw_all := lw_g (lw_at lw_m1 153 rfl) rfl
theorem q294 : (Jvm.Cond.instanceMethod ({ cls := "SpectrumAccess", name := "errorPosition", desc := "()I" } : Jvm.MethodName)) ∈ lw_all := lw_g (lw_at lw_m1 155 rfl) rfl
theorem q295 : (Jvm.Cond.selects "SpectrumAccess" ({ cls := "SpectrumAccess", name := "errorPosition", desc := "()I" } : Jvm.MethodName) ({ cls := "SpectrumAccess", name := "errorPosition", desc := "()I" } : Jvm.MethodName)) ∈ lw_all := lw_g (lw_at lw_m1 156 rfl) rfl
theorem q296 : (Jvm.Cond.code ({ cls := "SpectrumAccess", name := "errorPosition", desc := "()I" } : Jvm.MethodName) prog_1_method_15_code (1 : Nat) (Option.some Jvm.ClassFile.FieldType.int)) ∈ lw_all := lw_g (lw_at lw_m1 157 rfl) rfl
theorem q298 : (Jvm.Cond.instanceMethod ({ cls := "SpectrumAccess", name := "buffered", desc := "()I" } : Jvm.MethodName)) ∈ lw_all := lw_g (lw_at lw_m1 159 rfl) rfl
theorem q299 : (Jvm.Cond.selects "SpectrumAccess" ({ cls := "SpectrumAccess", name := "buffered", desc := "()I" } : Jvm.MethodName) ({ cls := "SpectrumAccess", name := "buffered", desc := "()I" } : Jvm.MethodName)) ∈ lw_all := lw_g (lw_at lw_m1 160 rfl) rfl
theorem q300 : (Jvm.Cond.code ({ cls := "SpectrumAccess", name := "buffered", desc := "()I" } : Jvm.MethodName) prog_1_method_16_code (1 : Nat) (Option.some Jvm.ClassFile.FieldType.int)) ∈ lw_all := lw_g (lw_at lw_m1 161 rfl) rfl
theorem q302 : (Jvm.Cond.instanceMethod ({ cls := "SpectrumAccess", name := "channels", desc := "()I" } : Jvm.MethodName)) ∈ lw_all := lw_g (lw_at lw_m1 163 rfl) rfl
theorem q303 : (Jvm.Cond.selects "SpectrumAccess" ({ cls := "SpectrumAccess", name := "channels", desc := "()I" } : Jvm.MethodName) ({ cls := "SpectrumAccess", name := "channels", desc := "()I" } : Jvm.MethodName)) ∈ lw_all := lw_g (lw_at lw_m1 164 rfl) rfl
theorem q304 : (Jvm.Cond.code ({ cls := "SpectrumAccess", name := "channels", desc := "()I" } : Jvm.MethodName) prog_1_method_17_code (1 : Nat) (Option.some Jvm.ClassFile.FieldType.int)) ∈ lw_all := lw_g (lw_at lw_m1 165 rfl) rfl
theorem q306 : (Jvm.Cond.instanceMethod ({ cls := "SpectrumAccess", name := "incumbents", desc := "()I" } : Jvm.MethodName)) ∈ lw_all := lw_g (lw_at lw_m1 167 rfl) rfl
theorem q307 : (Jvm.Cond.selects "SpectrumAccess" ({ cls := "SpectrumAccess", name := "incumbents", desc := "()I" } : Jvm.MethodName) ({ cls := "SpectrumAccess", name := "incumbents", desc := "()I" } : Jvm.MethodName)) ∈ lw_all := lw_g (lw_at lw_m1 168 rfl) rfl
theorem q308 : (Jvm.Cond.code ({ cls := "SpectrumAccess", name := "incumbents", desc := "()I" } : Jvm.MethodName) prog_1_method_18_code (1 : Nat) (Option.some Jvm.ClassFile.FieldType.int)) ∈ lw_all := lw_g (lw_at lw_m1 169 rfl) rfl
theorem q309 : (Jvm.Cond.interfaceEntry "SpectrumAccess" (67 : Nat)) ∈ lw_tbl := lw_at lw_m1 170 rfl
theorem q310 : (Jvm.Cond.methodLink "SpectrumAccess" (67 : Nat) ({ cls := "java/util/List", name := "size", desc := "()I" } : Jvm.MethodName)) ∈ lw_all := lw_g (lw_at lw_m1 171 rfl) rfl
theorem q320 : (Jvm.Cond.instanceMethod ({ cls := "SpectrumAccess", name := "licences", desc := "()I" } : Jvm.MethodName)) ∈ lw_all := lw_g (lw_at lw_m1 181 rfl) rfl
theorem q321 : (Jvm.Cond.selects "SpectrumAccess" ({ cls := "SpectrumAccess", name := "licences", desc := "()I" } : Jvm.MethodName) ({ cls := "SpectrumAccess", name := "licences", desc := "()I" } : Jvm.MethodName)) ∈ lw_all := lw_g (lw_at lw_m1 182 rfl) rfl
theorem q322 : (Jvm.Cond.code ({ cls := "SpectrumAccess", name := "licences", desc := "()I" } : Jvm.MethodName) prog_1_method_19_code (1 : Nat) (Option.some Jvm.ClassFile.FieldType.int)) ∈ lw_all := lw_g (lw_at lw_m1 183 rfl) rfl
theorem q324 : (Jvm.Cond.instanceMethod ({ cls := "SpectrumAccess", name := "devices", desc := "()I" } : Jvm.MethodName)) ∈ lw_all := lw_g (lw_at lw_m1 185 rfl) rfl
theorem q325 : (Jvm.Cond.selects "SpectrumAccess" ({ cls := "SpectrumAccess", name := "devices", desc := "()I" } : Jvm.MethodName) ({ cls := "SpectrumAccess", name := "devices", desc := "()I" } : Jvm.MethodName)) ∈ lw_all := lw_g (lw_at lw_m1 186 rfl) rfl
theorem q326 : (Jvm.Cond.code ({ cls := "SpectrumAccess", name := "devices", desc := "()I" } : Jvm.MethodName) prog_1_method_20_code (1 : Nat) (Option.some Jvm.ClassFile.FieldType.int)) ∈ lw_all := lw_g (lw_at lw_m1 187 rfl) rfl
theorem q328 : (Jvm.Cond.instanceMethod ({ cls := "SpectrumAccess", name := "denials", desc := "()I" } : Jvm.MethodName)) ∈ lw_all := lw_g (lw_at lw_m1 189 rfl) rfl
theorem q329 : (Jvm.Cond.selects "SpectrumAccess" ({ cls := "SpectrumAccess", name := "denials", desc := "()I" } : Jvm.MethodName) ({ cls := "SpectrumAccess", name := "denials", desc := "()I" } : Jvm.MethodName)) ∈ lw_all := lw_g (lw_at lw_m1 190 rfl) rfl
theorem q330 : (Jvm.Cond.code ({ cls := "SpectrumAccess", name := "denials", desc := "()I" } : Jvm.MethodName) prog_1_method_21_code (1 : Nat) (Option.some Jvm.ClassFile.FieldType.int)) ∈ lw_all := lw_g (lw_at lw_m1 191 rfl) rfl
theorem q332 : (Jvm.Cond.instanceMethod ({ cls := "SpectrumAccess", name := "time", desc := "()I" } : Jvm.MethodName)) ∈ lw_all := lw_g (lw_at lw_m1 193 rfl) rfl
theorem q333 : (Jvm.Cond.selects "SpectrumAccess" ({ cls := "SpectrumAccess", name := "time", desc := "()I" } : Jvm.MethodName) ({ cls := "SpectrumAccess", name := "time", desc := "()I" } : Jvm.MethodName)) ∈ lw_all := lw_g (lw_at lw_m1 194 rfl) rfl
theorem q334 : (Jvm.Cond.code ({ cls := "SpectrumAccess", name := "time", desc := "()I" } : Jvm.MethodName) prog_1_method_22_code (1 : Nat) (Option.some Jvm.ClassFile.FieldType.int)) ∈ lw_all := lw_g (lw_at lw_m1 195 rfl) rfl
theorem q336 : (Jvm.Cond.instanceMethod ({ cls := "SpectrumAccess", name := "waiting", desc := "()I" } : Jvm.MethodName)) ∈ lw_all := lw_g (lw_at lw_m1 197 rfl) rfl
theorem q337 : (Jvm.Cond.selects "SpectrumAccess" ({ cls := "SpectrumAccess", name := "waiting", desc := "()I" } : Jvm.MethodName) ({ cls := "SpectrumAccess", name := "waiting", desc := "()I" } : Jvm.MethodName)) ∈ lw_all := lw_g (lw_at lw_m1 198 rfl) rfl
theorem q338 : (Jvm.Cond.code ({ cls := "SpectrumAccess", name := "waiting", desc := "()I" } : Jvm.MethodName) prog_1_method_47_code (1 : Nat) (Option.some Jvm.ClassFile.FieldType.int)) ∈ lw_all := lw_g (lw_at lw_m1 199 rfl) rfl
theorem q339 : (Jvm.Cond.methodLink "SpectrumAccess" (257 : Nat) ({ cls := "SpectrumAccess$State", name := "count", desc := "(I)I" } : Jvm.MethodName)) ∈ lw_all := lw_g (lw_at lw_m1 200 rfl) rfl
theorem q346 : (Jvm.Cond.instanceMethod ({ cls := "SpectrumAccess", name := "moves", desc := "()I" } : Jvm.MethodName)) ∈ lw_all := lw_g (lw_at lw_m1 207 rfl) rfl
theorem q347 : (Jvm.Cond.selects "SpectrumAccess" ({ cls := "SpectrumAccess", name := "moves", desc := "()I" } : Jvm.MethodName) ({ cls := "SpectrumAccess", name := "moves", desc := "()I" } : Jvm.MethodName)) ∈ lw_all := lw_g (lw_at lw_m1 208 rfl) rfl
theorem q348 : (Jvm.Cond.code ({ cls := "SpectrumAccess", name := "moves", desc := "()I" } : Jvm.MethodName) prog_1_method_50_code (1 : Nat) (Option.some Jvm.ClassFile.FieldType.int)) ∈ lw_all := lw_g (lw_at lw_m1 209 rfl) rfl
theorem q350 : (Jvm.Cond.instanceMethod ({ cls := "SpectrumAccess", name := "leaseEnds", desc := "()I" } : Jvm.MethodName)) ∈ lw_all := lw_g (lw_at lw_m1 211 rfl) rfl
theorem q351 : (Jvm.Cond.selects "SpectrumAccess" ({ cls := "SpectrumAccess", name := "leaseEnds", desc := "()I" } : Jvm.MethodName) ({ cls := "SpectrumAccess", name := "leaseEnds", desc := "()I" } : Jvm.MethodName)) ∈ lw_all := lw_g (lw_at lw_m1 212 rfl) rfl
theorem q352 : (Jvm.Cond.code ({ cls := "SpectrumAccess", name := "leaseEnds", desc := "()I" } : Jvm.MethodName) prog_1_method_51_code (1 : Nat) (Option.some Jvm.ClassFile.FieldType.int)) ∈ lw_all := lw_g (lw_at lw_m1 213 rfl) rfl
theorem q354 : (Jvm.Cond.instanceMethod ({ cls := "SpectrumAccess", name := "events", desc := "()I" } : Jvm.MethodName)) ∈ lw_all := lw_g (lw_at lw_m1 215 rfl) rfl
theorem q355 : (Jvm.Cond.selects "SpectrumAccess" ({ cls := "SpectrumAccess", name := "events", desc := "()I" } : Jvm.MethodName) ({ cls := "SpectrumAccess", name := "events", desc := "()I" } : Jvm.MethodName)) ∈ lw_all := lw_g (lw_at lw_m1 216 rfl) rfl
theorem q356 : (Jvm.Cond.code ({ cls := "SpectrumAccess", name := "events", desc := "()I" } : Jvm.MethodName) prog_1_method_52_code (1 : Nat) (Option.some Jvm.ClassFile.FieldType.int)) ∈ lw_all := lw_g (lw_at lw_m1 217 rfl) rfl
theorem q358 : (Jvm.Cond.instanceMethod ({ cls := "SpectrumAccess", name := "undoable", desc := "()I" } : Jvm.MethodName)) ∈ lw_all := lw_g (lw_at lw_m1 219 rfl) rfl
theorem q359 : (Jvm.Cond.selects "SpectrumAccess" ({ cls := "SpectrumAccess", name := "undoable", desc := "()I" } : Jvm.MethodName) ({ cls := "SpectrumAccess", name := "undoable", desc := "()I" } : Jvm.MethodName)) ∈ lw_all := lw_g (lw_at lw_m1 220 rfl) rfl
theorem q360 : (Jvm.Cond.code ({ cls := "SpectrumAccess", name := "undoable", desc := "()I" } : Jvm.MethodName) prog_1_method_72_code (1 : Nat) (Option.some Jvm.ClassFile.FieldType.int)) ∈ lw_all := lw_g (lw_at lw_m1 221 rfl) rfl
theorem q445 : (Jvm.Cond.instanceMethod ({ cls := "SpectrumAccess", name := "load", desc := "(I)I" } : Jvm.MethodName)) ∈ lw_all := lw_g (lw_at lw_m2 66 rfl) rfl
theorem q446 : (Jvm.Cond.selects "SpectrumAccess" ({ cls := "SpectrumAccess", name := "load", desc := "(I)I" } : Jvm.MethodName) ({ cls := "SpectrumAccess", name := "load", desc := "(I)I" } : Jvm.MethodName)) ∈ lw_all := lw_g (lw_at lw_m2 67 rfl) rfl
theorem q447 : (Jvm.Cond.codeWith ({ cls := "SpectrumAccess", name := "load", desc := "(I)I" } : Jvm.MethodName) prog_1_method_13_code (4 : Nat) (Option.some Jvm.ClassFile.FieldType.int) [((30 : Nat), (94 : Nat), (101 : Nat), (115 : Nat)), ((30 : Nat), (94 : Nat), (126 : Nat), (0 : Nat)), ((101 : Nat), (127 : Nat), (126 : Nat), (0 : Nat))]) ∈ lw_all := lw_g (lw_at lw_m2 68 rfl) rfl
theorem q448 : (Jvm.Cond.classLink "SpectrumAccess" (115 : Nat) "SpectrumAccess$Flaw") ∈ lw_all := lw_g (lw_at lw_m2 69 rfl) rfl
theorem q449 : (Jvm.Cond.methodLink "SpectrumAccess" (73 : Nat) ({ cls := "SpectrumAccess", name := "in", desc := "(JJJ)Z" } : Jvm.MethodName)) ∈ lw_all := lw_g (lw_at lw_m2 70 rfl) rfl
theorem q450 : (Jvm.Cond.static ({ cls := "SpectrumAccess", name := "in", desc := "(JJJ)Z" } : Jvm.MethodName)) ∈ lw_all := lw_g (lw_at lw_m2 71 rfl) rfl
theorem q451 : (Jvm.Cond.code ({ cls := "SpectrumAccess", name := "in", desc := "(JJJ)Z" } : Jvm.MethodName) prog_1_method_1_code (6 : Nat) (Option.some Jvm.ClassFile.FieldType.boolean)) ∈ lw_all := lw_g (lw_at lw_m2 72 rfl) rfl
theorem q452 : (Jvm.Cond.methodLink "SpectrumAccess" (77 : Nat) ({ cls := "SpectrumAccess", name := "checkIndex", desc := "([Z)V" } : Jvm.MethodName)) ∈ lw_all := lw_g (lw_at lw_m2 73 rfl) rfl
theorem q453 : (Jvm.Cond.static ({ cls := "SpectrumAccess", name := "checkIndex", desc := "([Z)V" } : Jvm.MethodName)) ∈ lw_all := lw_g (lw_at lw_m2 74 rfl) rfl
theorem q454 : (Jvm.Cond.code ({ cls := "SpectrumAccess", name := "checkIndex", desc := "([Z)V" } : Jvm.MethodName) prog_1_method_4_code (5 : Nat) (Option.none : Option Jvm.ClassFile.FieldType)) ∈ lw_all := lw_g (lw_at lw_m2 75 rfl) rfl
theorem q455 : (Jvm.Cond.classLink "SpectrumAccess" (40 : Nat) "java/lang/IndexOutOfBoundsException") ∈ lw_all := lw_g (lw_at lw_m2 76 rfl) rfl
theorem q464 : (Jvm.Cond.methodLink "SpectrumAccess" (42 : Nat) ({ cls := "java/lang/IndexOutOfBoundsException", name := "<init>", desc := "()V" } : Jvm.MethodName)) ∈ lw_all := lw_g (lw_at lw_m2 85 rfl) rfl
theorem q477 : (Jvm.Cond.classLink "SpectrumAccess" (104 : Nat) "SpectrumAccess$Parser") ∈ lw_all := lw_g (lw_at lw_m2 98 rfl) rfl
theorem q479 : (Jvm.Cond.methodLink "SpectrumAccess" (106 : Nat) ({ cls := "SpectrumAccess$Parser", name := "<init>", desc := "([BI)V" } : Jvm.MethodName)) ∈ lw_all := lw_g (lw_at lw_m2 100 rfl) rfl
theorem q869 : (Jvm.Cond.selects "SpectrumAccess" ({ cls := "java/lang/Object", name := "getClass", desc := "()Ljava/lang/Class;" } : Jvm.MethodName) ({ cls := "java/lang/Object", name := "getClass", desc := "()Ljava/lang/Class;" } : Jvm.MethodName)) ∈ lw_all := lw_g (lw_at lw_m4 10 rfl) rfl
theorem q908 : (Jvm.Cond.fieldLinkNest "SpectrumAccess" (84 : Nat) "SpectrumAccess$Region" "licences" "Ljava/util/List;" "SpectrumAccess") ∈ lw_tbl := lw_at lw_m4 49 rfl
theorem q913 : (Jvm.Cond.fieldLinkNest "SpectrumAccess" (62 : Nat) "SpectrumAccess$Region" "devices" "Ljava/util/List;" "SpectrumAccess") ∈ lw_tbl := lw_at lw_m4 54 rfl
theorem q918 : (Jvm.Cond.fieldLinkNest "SpectrumAccess" (123 : Nat) "SpectrumAccess$Region" "denials" "Ljava/util/List;" "SpectrumAccess") ∈ lw_tbl := lw_at lw_m4 59 rfl
theorem q923 : (Jvm.Cond.fieldLinkNest "SpectrumAccess" (254 : Nat) "SpectrumAccess$Region" "width" "I" "SpectrumAccess") ∈ lw_tbl := lw_at lw_m4 64 rfl
theorem q926 : (Jvm.Cond.fieldLinkNest "SpectrumAccess" (251 : Nat) "SpectrumAccess$Region" "height" "I" "SpectrumAccess") ∈ lw_tbl := lw_at lw_m4 67 rfl
theorem q928 : (Jvm.Cond.fieldLinkNest "SpectrumAccess" (87 : Nat) "SpectrumAccess$Region" "channels" "I" "SpectrumAccess") ∈ lw_tbl := lw_at lw_m4 69 rfl
theorem q939 : (Jvm.Cond.fieldLinkNest "SpectrumAccess" (194 : Nat) "SpectrumAccess$Region" "lease" "I" "SpectrumAccess") ∈ lw_tbl := lw_at lw_m4 80 rfl
theorem q944 : (Jvm.Cond.fieldLinkNest "SpectrumAccess" (200 : Nat) "SpectrumAccess$Region" "everyone" "LSpectrumAccess$Some;" "SpectrumAccess") ∈ lw_tbl := lw_at lw_m4 85 rfl
theorem q947 : (Jvm.Cond.fieldLinkNest "SpectrumAccess" (204 : Nat) "SpectrumAccess$Region" "licensed" "LSpectrumAccess$Some;" "SpectrumAccess") ∈ lw_tbl := lw_at lw_m4 88 rfl
theorem q950 : (Jvm.Cond.fieldLinkNest "SpectrumAccess" (207 : Nat) "SpectrumAccess$Region" "general" "LSpectrumAccess$Some;" "SpectrumAccess") ∈ lw_tbl := lw_at lw_m4 91 rfl
theorem q957 : (Jvm.Cond.fieldLinkNest "SpectrumAccess" (263 : Nat) "SpectrumAccess$Region" "order" "[I" "SpectrumAccess") ∈ lw_tbl := lw_at lw_m4 98 rfl
theorem q1008 : (Jvm.Cond.fieldLinkNest "SpectrumAccess" (58 : Nat) "SpectrumAccess$State" "region" "LSpectrumAccess$Region;" "SpectrumAccess") ∈ lw_tbl := lw_at lw_m4 149 rfl
theorem q1010 : (Jvm.Cond.fieldLinkNest "SpectrumAccess" (81 : Nat) "SpectrumAccess$State" "incumbents" "Ljava/util/List;" "SpectrumAccess") ∈ lw_tbl := lw_at lw_m4 151 rfl
theorem q1013 : (Jvm.Cond.fieldLinkNest "SpectrumAccess" (361 : Nat) "SpectrumAccess$State" "until" "[I" "SpectrumAccess") ∈ lw_tbl := lw_at lw_m4 154 rfl
theorem q1015 : (Jvm.Cond.fieldLinkNest "SpectrumAccess" (167 : Nat) "SpectrumAccess$State" "states" "[I" "SpectrumAccess") ∈ lw_tbl := lw_at lw_m4 156 rfl
theorem q1017 : (Jvm.Cond.fieldLinkNest "SpectrumAccess" (176 : Nat) "SpectrumAccess$State" "channel" "[I" "SpectrumAccess") ∈ lw_tbl := lw_at lw_m4 158 rfl
theorem q1019 : (Jvm.Cond.fieldLinkNest "SpectrumAccess" (179 : Nat) "SpectrumAccess$State" "power" "[I" "SpectrumAccess") ∈ lw_tbl := lw_at lw_m4 160 rfl
theorem q1021 : (Jvm.Cond.fieldLinkNest "SpectrumAccess" (344 : Nat) "SpectrumAccess$State" "greatest" "[I" "SpectrumAccess") ∈ lw_tbl := lw_at lw_m4 162 rfl
theorem q1023 : (Jvm.Cond.fieldLinkNest "SpectrumAccess" (182 : Nat) "SpectrumAccess$State" "since" "[I" "SpectrumAccess") ∈ lw_tbl := lw_at lw_m4 164 rfl
theorem q1025 : (Jvm.Cond.fieldLinkNest "SpectrumAccess" (185 : Nat) "SpectrumAccess$State" "moves" "[I" "SpectrumAccess") ∈ lw_tbl := lw_at lw_m4 166 rfl
theorem q1027 : (Jvm.Cond.fieldLinkNest "SpectrumAccess" (188 : Nat) "SpectrumAccess$State" "airtime" "[I" "SpectrumAccess") ∈ lw_tbl := lw_at lw_m4 168 rfl
theorem q1029 : (Jvm.Cond.fieldLinkNest "SpectrumAccess" (280 : Nat) "SpectrumAccess$State" "events" "[[I" "SpectrumAccess") ∈ lw_tbl := lw_at lw_m4 170 rfl
theorem q1031 : (Jvm.Cond.fieldLinkNest "SpectrumAccess" (126 : Nat) "SpectrumAccess$State" "time" "I" "SpectrumAccess") ∈ lw_tbl := lw_at lw_m4 172 rfl
theorem q1033 : (Jvm.Cond.fieldLinkNest "SpectrumAccess" (266 : Nat) "SpectrumAccess$State" "allMoves" "I" "SpectrumAccess") ∈ lw_tbl := lw_at lw_m4 174 rfl
theorem q1035 : (Jvm.Cond.fieldLinkNest "SpectrumAccess" (269 : Nat) "SpectrumAccess$State" "leaseEnds" "I" "SpectrumAccess") ∈ lw_tbl := lw_at lw_m4 176 rfl
theorem q1037 : (Jvm.Cond.fieldLinkNest "SpectrumAccess" (272 : Nat) "SpectrumAccess$State" "eventCount" "I" "SpectrumAccess") ∈ lw_tbl := lw_at lw_m4 178 rfl
theorem q1039 : (Jvm.Cond.fieldLinkNest "SpectrumAccess" (237 : Nat) "SpectrumAccess$State" "grantedPower" "I" "SpectrumAccess") ∈ lw_tbl := lw_at lw_m4 180 rfl
theorem q1107 : (Jvm.Cond.methodLink "SpectrumAccess" (109 : Nat) ({ cls := "SpectrumAccess$Parser", name := "parse", desc := "()LSpectrumAccess$State;" } : Jvm.MethodName)) ∈ lw_all := lw_g (lw_at lw_m5 8 rfl) rfl
theorem q1280 : (Jvm.Cond.fieldLinkNest "SpectrumAccess" (117 : Nat) "SpectrumAccess$Flaw" "code" "I" "SpectrumAccess") ∈ lw_tbl := lw_at lw_m5 181 rfl
theorem q1282 : (Jvm.Cond.fieldLinkNest "SpectrumAccess" (120 : Nat) "SpectrumAccess$Flaw" "position" "I" "SpectrumAccess") ∈ lw_tbl := lw_at lw_m5 183 rfl
theorem q1473 : (Jvm.Cond.fieldLinkNest "SpectrumAccess" (155 : Nat) "SpectrumAccess$Licence" "channels" "I" "SpectrumAccess") ∈ lw_tbl := lw_at lw_m6 134 rfl
theorem q1672 : (Jvm.Cond.fieldLinkNest "SpectrumAccess" (173 : Nat) "SpectrumAccess$Device" "licence" "I" "SpectrumAccess") ∈ lw_tbl := lw_at lw_m7 93 rfl
theorem q1706 : (Jvm.Cond.interfaceEntry "SpectrumAccess" (112 : Nat)) ∈ lw_tbl := lw_at lw_m7 127 rfl
theorem q1707 : (Jvm.Cond.methodLink "SpectrumAccess" (112 : Nat) ({ cls := "java/util/List", name := "clear", desc := "()V" } : Jvm.MethodName)) ∈ lw_all := lw_g (lw_at lw_m7 128 rfl) rfl
theorem q1715 : (Jvm.Cond.classLink "SpectrumAccess" (37 : Nat) "java/lang/IllegalArgumentException") ∈ lw_all := lw_g (lw_at lw_m7 136 rfl) rfl
theorem q1716 : (Jvm.Cond.methodLink "SpectrumAccess" (39 : Nat) ({ cls := "java/lang/IllegalArgumentException", name := "<init>", desc := "()V" } : Jvm.MethodName)) ∈ lw_all := lw_g (lw_at lw_m7 137 rfl) rfl
theorem q1722 : (Jvm.Cond.instanceMethod ({ cls := "SpectrumAccess", name := "isSensed", desc := "(I)Z" } : Jvm.MethodName)) ∈ lw_all := lw_g (lw_at lw_m7 143 rfl) rfl
theorem q1723 : (Jvm.Cond.selects "SpectrumAccess" ({ cls := "SpectrumAccess", name := "isSensed", desc := "(I)Z" } : Jvm.MethodName) ({ cls := "SpectrumAccess", name := "isSensed", desc := "(I)Z" } : Jvm.MethodName)) ∈ lw_all := lw_g (lw_at lw_m7 144 rfl) rfl
theorem q1724 : (Jvm.Cond.code ({ cls := "SpectrumAccess", name := "isSensed", desc := "(I)Z" } : Jvm.MethodName) prog_1_method_23_code (2 : Nat) (Option.some Jvm.ClassFile.FieldType.boolean)) ∈ lw_all := lw_g (lw_at lw_m7 145 rfl) rfl
theorem q1725 : (Jvm.Cond.methodLink "SpectrumAccess" (129 : Nat) ({ cls := "SpectrumAccess", name := "withIncumbent", desc := "(I)LSpectrumAccess$State;" } : Jvm.MethodName)) ∈ lw_all := lw_g (lw_at lw_m7 146 rfl) rfl
theorem q1726 : (Jvm.Cond.privateMethod ({ cls := "SpectrumAccess", name := "withIncumbent", desc := "(I)LSpectrumAccess$State;" } : Jvm.MethodName)) ∈ lw_tbl := lw_at lw_m7 147 rfl
theorem q1727 : (Jvm.Cond.instanceMethod ({ cls := "SpectrumAccess", name := "withIncumbent", desc := "(I)LSpectrumAccess$State;" } : Jvm.MethodName)) ∈ lw_all := lw_g (lw_at lw_m7 148 rfl) rfl
theorem q1728 : (Jvm.Cond.code ({ cls := "SpectrumAccess", name := "withIncumbent", desc := "(I)LSpectrumAccess$State;" } : Jvm.MethodName) prog_1_method_8_code (2 : Nat) (Option.some (Jvm.ClassFile.FieldType.object "SpectrumAccess$State"))) ∈ lw_all := lw_g (lw_at lw_m7 149 rfl) rfl
theorem q1729 : (Jvm.Cond.methodLink "SpectrumAccess" (54 : Nat) ({ cls := "SpectrumAccess", name := "there", desc := "()LSpectrumAccess$State;" } : Jvm.MethodName)) ∈ lw_all := lw_g (lw_at lw_m7 150 rfl) rfl
theorem q1730 : (Jvm.Cond.privateMethod ({ cls := "SpectrumAccess", name := "there", desc := "()LSpectrumAccess$State;" } : Jvm.MethodName)) ∈ lw_tbl := lw_at lw_m7 151 rfl
theorem q1731 : (Jvm.Cond.instanceMethod ({ cls := "SpectrumAccess", name := "there", desc := "()LSpectrumAccess$State;" } : Jvm.MethodName)) ∈ lw_all := lw_g (lw_at lw_m7 152 rfl) rfl
theorem q1732 : (Jvm.Cond.code ({ cls := "SpectrumAccess", name := "there", desc := "()LSpectrumAccess$State;" } : Jvm.MethodName) prog_1_method_6_code (1 : Nat) (Option.some (Jvm.ClassFile.FieldType.object "SpectrumAccess$State"))) ∈ lw_all := lw_g (lw_at lw_m7 153 rfl) rfl
theorem q1733 : (Jvm.Cond.methodLink "SpectrumAccess" (50 : Nat) ({ cls := "SpectrumAccess", name := "checkState", desc := "(Z)V" } : Jvm.MethodName)) ∈ lw_all := lw_g (lw_at lw_m7 154 rfl) rfl
theorem q1734 : (Jvm.Cond.static ({ cls := "SpectrumAccess", name := "checkState", desc := "(Z)V" } : Jvm.MethodName)) ∈ lw_all := lw_g (lw_at lw_m7 155 rfl) rfl
theorem q1735 : (Jvm.Cond.code ({ cls := "SpectrumAccess", name := "checkState", desc := "(Z)V" } : Jvm.MethodName) prog_1_method_5_code (1 : Nat) (Option.none : Option Jvm.ClassFile.FieldType)) ∈ lw_all := lw_g (lw_at lw_m7 156 rfl) rfl
theorem q1736 : (Jvm.Cond.classLink "SpectrumAccess" (43 : Nat) "java/lang/IllegalStateException") ∈ lw_all := lw_g (lw_at lw_m7 157 rfl) rfl
theorem q1745 : (Jvm.Cond.methodLink "SpectrumAccess" (45 : Nat) ({ cls := "java/lang/IllegalStateException", name := "<init>", desc := "()V" } : Jvm.MethodName)) ∈ lw_all := lw_g (lw_at lw_m7 166 rfl) rfl
theorem q1751 : (Jvm.Cond.interfaceEntry "SpectrumAccess" (133 : Nat)) ∈ lw_tbl := lw_at lw_m7 172 rfl
theorem q1752 : (Jvm.Cond.methodLink "SpectrumAccess" (133 : Nat) ({ cls := "java/util/List", name := "get", desc := "(I)Ljava/lang/Object;" } : Jvm.MethodName)) ∈ lw_all := lw_g (lw_at lw_m7 173 rfl) rfl
theorem q1753 : (Jvm.Cond.classLink "SpectrumAccess" (137 : Nat) "SpectrumAccess$Incumbent") ∈ lw_all := lw_g (lw_at lw_m7 174 rfl) rfl
theorem q1754 : (Jvm.Cond.methodLink "SpectrumAccess" (139 : Nat) ({ cls := "SpectrumAccess$Region", name := "isSensed", desc := "(LSpectrumAccess$Incumbent;)Z" } : Jvm.MethodName)) ∈ lw_all := lw_g (lw_at lw_m7 175 rfl) rfl
theorem q1781 : (Jvm.Cond.instanceMethod ({ cls := "SpectrumAccess", name := "isProtected", desc := "(I)Z" } : Jvm.MethodName)) ∈ lw_all := lw_g (lw_at lw_m7 202 rfl) rfl
theorem q1782 : (Jvm.Cond.selects "SpectrumAccess" ({ cls := "SpectrumAccess", name := "isProtected", desc := "(I)Z" } : Jvm.MethodName) ({ cls := "SpectrumAccess", name := "isProtected", desc := "(I)Z" } : Jvm.MethodName)) ∈ lw_all := lw_g (lw_at lw_m7 203 rfl) rfl
theorem q1783 : (Jvm.Cond.code ({ cls := "SpectrumAccess", name := "isProtected", desc := "(I)Z" } : Jvm.MethodName) prog_1_method_24_code (2 : Nat) (Option.some Jvm.ClassFile.FieldType.boolean)) ∈ lw_all := lw_g (lw_at lw_m7 204 rfl) rfl
theorem q1784 : (Jvm.Cond.methodLink "SpectrumAccess" (143 : Nat) ({ cls := "SpectrumAccess$State", name := "isProtected", desc := "(I)Z" } : Jvm.MethodName)) ∈ lw_all := lw_g (lw_at lw_m7 205 rfl) rfl
theorem q1796 : (Jvm.Cond.instanceMethod ({ cls := "SpectrumAccess", name := "headroom", desc := "(I)I" } : Jvm.MethodName)) ∈ lw_all := lw_g (lw_at lw_m7 217 rfl) rfl
theorem q1797 : (Jvm.Cond.selects "SpectrumAccess" ({ cls := "SpectrumAccess", name := "headroom", desc := "(I)I" } : Jvm.MethodName) ({ cls := "SpectrumAccess", name := "headroom", desc := "(I)I" } : Jvm.MethodName)) ∈ lw_all := lw_g (lw_at lw_m7 218 rfl) rfl
theorem q1798 : (Jvm.Cond.code ({ cls := "SpectrumAccess", name := "headroom", desc := "(I)I" } : Jvm.MethodName) prog_1_method_25_code (2 : Nat) (Option.some Jvm.ClassFile.FieldType.int)) ∈ lw_all := lw_g (lw_at lw_m7 219 rfl) rfl
theorem q1799 : (Jvm.Cond.methodLink "SpectrumAccess" (146 : Nat) ({ cls := "SpectrumAccess$State", name := "headroom", desc := "(I)I" } : Jvm.MethodName)) ∈ lw_all := lw_g (lw_at lw_m7 220 rfl) rfl
theorem q1836 : (Jvm.Cond.instanceMethod ({ cls := "SpectrumAccess", name := "licenceChannels", desc := "(I)I" } : Jvm.MethodName)) ∈ lw_all := lw_g (lw_at lw_m8 17 rfl) rfl
theorem q1837 : (Jvm.Cond.selects "SpectrumAccess" ({ cls := "SpectrumAccess", name := "licenceChannels", desc := "(I)I" } : Jvm.MethodName) ({ cls := "SpectrumAccess", name := "licenceChannels", desc := "(I)I" } : Jvm.MethodName)) ∈ lw_all := lw_g (lw_at lw_m8 18 rfl) rfl
theorem q1838 : (Jvm.Cond.code ({ cls := "SpectrumAccess", name := "licenceChannels", desc := "(I)I" } : Jvm.MethodName) prog_1_method_26_code (2 : Nat) (Option.some Jvm.ClassFile.FieldType.int)) ∈ lw_all := lw_g (lw_at lw_m8 19 rfl) rfl
theorem q1839 : (Jvm.Cond.methodLink "SpectrumAccess" (150 : Nat) ({ cls := "SpectrumAccess", name := "withLicence", desc := "(I)LSpectrumAccess$State;" } : Jvm.MethodName)) ∈ lw_all := lw_g (lw_at lw_m8 20 rfl) rfl
theorem q1840 : (Jvm.Cond.privateMethod ({ cls := "SpectrumAccess", name := "withLicence", desc := "(I)LSpectrumAccess$State;" } : Jvm.MethodName)) ∈ lw_tbl := lw_at lw_m8 21 rfl
theorem q1841 : (Jvm.Cond.instanceMethod ({ cls := "SpectrumAccess", name := "withLicence", desc := "(I)LSpectrumAccess$State;" } : Jvm.MethodName)) ∈ lw_all := lw_g (lw_at lw_m8 22 rfl) rfl
theorem q1842 : (Jvm.Cond.code ({ cls := "SpectrumAccess", name := "withLicence", desc := "(I)LSpectrumAccess$State;" } : Jvm.MethodName) prog_1_method_9_code (2 : Nat) (Option.some (Jvm.ClassFile.FieldType.object "SpectrumAccess$State"))) ∈ lw_all := lw_g (lw_at lw_m8 23 rfl) rfl
theorem q1843 : (Jvm.Cond.classLink "SpectrumAccess" (153 : Nat) "SpectrumAccess$Licence") ∈ lw_all := lw_g (lw_at lw_m8 24 rfl) rfl
theorem q1848 : (Jvm.Cond.instanceMethod ({ cls := "SpectrumAccess", name := "licenceAt", desc := "(III)I" } : Jvm.MethodName)) ∈ lw_all := lw_g (lw_at lw_m8 29 rfl) rfl
theorem q1849 : (Jvm.Cond.selects "SpectrumAccess" ({ cls := "SpectrumAccess", name := "licenceAt", desc := "(III)I" } : Jvm.MethodName) ({ cls := "SpectrumAccess", name := "licenceAt", desc := "(III)I" } : Jvm.MethodName)) ∈ lw_all := lw_g (lw_at lw_m8 30 rfl) rfl
theorem q1850 : (Jvm.Cond.code ({ cls := "SpectrumAccess", name := "licenceAt", desc := "(III)I" } : Jvm.MethodName) prog_1_method_27_code (4 : Nat) (Option.some Jvm.ClassFile.FieldType.int)) ∈ lw_all := lw_g (lw_at lw_m8 31 rfl) rfl
theorem q1851 : (Jvm.Cond.methodLink "SpectrumAccess" (156 : Nat) ({ cls := "SpectrumAccess", name := "withPlace", desc := "(III)LSpectrumAccess$State;" } : Jvm.MethodName)) ∈ lw_all := lw_g (lw_at lw_m8 32 rfl) rfl
theorem q1852 : (Jvm.Cond.privateMethod ({ cls := "SpectrumAccess", name := "withPlace", desc := "(III)LSpectrumAccess$State;" } : Jvm.MethodName)) ∈ lw_tbl := lw_at lw_m8 33 rfl
theorem q1853 : (Jvm.Cond.instanceMethod ({ cls := "SpectrumAccess", name := "withPlace", desc := "(III)LSpectrumAccess$State;" } : Jvm.MethodName)) ∈ lw_all := lw_g (lw_at lw_m8 34 rfl) rfl
theorem q1854 : (Jvm.Cond.code ({ cls := "SpectrumAccess", name := "withPlace", desc := "(III)LSpectrumAccess$State;" } : Jvm.MethodName) prog_1_method_11_code (4 : Nat) (Option.some (Jvm.ClassFile.FieldType.object "SpectrumAccess$State"))) ∈ lw_all := lw_g (lw_at lw_m8 35 rfl) rfl
theorem q1855 : (Jvm.Cond.methodLink "SpectrumAccess" (90 : Nat) ({ cls := "SpectrumAccess$Region", name := "isPosition", desc := "(II)Z" } : Jvm.MethodName)) ∈ lw_all := lw_g (lw_at lw_m8 36 rfl) rfl
theorem q1860 : (Jvm.Cond.methodLink "SpectrumAccess" (94 : Nat) ({ cls := "SpectrumAccess", name := "isChannel", desc := "(I)Z" } : Jvm.MethodName)) ∈ lw_all := lw_g (lw_at lw_m8 41 rfl) rfl
theorem q1861 : (Jvm.Cond.privateMethod ({ cls := "SpectrumAccess", name := "isChannel", desc := "(I)Z" } : Jvm.MethodName)) ∈ lw_tbl := lw_at lw_m8 42 rfl
theorem q1862 : (Jvm.Cond.instanceMethod ({ cls := "SpectrumAccess", name := "isChannel", desc := "(I)Z" } : Jvm.MethodName)) ∈ lw_all := lw_g (lw_at lw_m8 43 rfl) rfl
theorem q1863 : (Jvm.Cond.code ({ cls := "SpectrumAccess", name := "isChannel", desc := "(I)Z" } : Jvm.MethodName) prog_1_method_10_code (2 : Nat) (Option.some Jvm.ClassFile.FieldType.boolean)) ∈ lw_all := lw_g (lw_at lw_m8 44 rfl) rfl
theorem q1864 : (Jvm.Cond.methodLink "SpectrumAccess" (160 : Nat) ({ cls := "SpectrumAccess$Region", name := "licenceAt", desc := "(III)I" } : Jvm.MethodName)) ∈ lw_all := lw_g (lw_at lw_m8 45 rfl) rfl
theorem q1876 : (Jvm.Cond.instanceMethod ({ cls := "SpectrumAccess", name := "stateOf", desc := "(I)I" } : Jvm.MethodName)) ∈ lw_all := lw_g (lw_at lw_m8 57 rfl) rfl
theorem q1877 : (Jvm.Cond.selects "SpectrumAccess" ({ cls := "SpectrumAccess", name := "stateOf", desc := "(I)I" } : Jvm.MethodName) ({ cls := "SpectrumAccess", name := "stateOf", desc := "(I)I" } : Jvm.MethodName)) ∈ lw_all := lw_g (lw_at lw_m8 58 rfl) rfl
theorem q1878 : (Jvm.Cond.code ({ cls := "SpectrumAccess", name := "stateOf", desc := "(I)I" } : Jvm.MethodName) prog_1_method_28_code (2 : Nat) (Option.some Jvm.ClassFile.FieldType.int)) ∈ lw_all := lw_g (lw_at lw_m8 59 rfl) rfl
theorem q1879 : (Jvm.Cond.methodLink "SpectrumAccess" (164 : Nat) ({ cls := "SpectrumAccess", name := "withDevice", desc := "(I)LSpectrumAccess$State;" } : Jvm.MethodName)) ∈ lw_all := lw_g (lw_at lw_m8 60 rfl) rfl
theorem q1880 : (Jvm.Cond.privateMethod ({ cls := "SpectrumAccess", name := "withDevice", desc := "(I)LSpectrumAccess$State;" } : Jvm.MethodName)) ∈ lw_tbl := lw_at lw_m8 61 rfl
theorem q1881 : (Jvm.Cond.instanceMethod ({ cls := "SpectrumAccess", name := "withDevice", desc := "(I)LSpectrumAccess$State;" } : Jvm.MethodName)) ∈ lw_all := lw_g (lw_at lw_m8 62 rfl) rfl
theorem q1882 : (Jvm.Cond.code ({ cls := "SpectrumAccess", name := "withDevice", desc := "(I)LSpectrumAccess$State;" } : Jvm.MethodName) prog_1_method_7_code (2 : Nat) (Option.some (Jvm.ClassFile.FieldType.object "SpectrumAccess$State"))) ∈ lw_all := lw_g (lw_at lw_m8 63 rfl) rfl
theorem q1887 : (Jvm.Cond.instanceMethod ({ cls := "SpectrumAccess", name := "licenceOf", desc := "(I)I" } : Jvm.MethodName)) ∈ lw_all := lw_g (lw_at lw_m8 68 rfl) rfl
theorem q1888 : (Jvm.Cond.selects "SpectrumAccess" ({ cls := "SpectrumAccess", name := "licenceOf", desc := "(I)I" } : Jvm.MethodName) ({ cls := "SpectrumAccess", name := "licenceOf", desc := "(I)I" } : Jvm.MethodName)) ∈ lw_all := lw_g (lw_at lw_m8 69 rfl) rfl
theorem q1889 : (Jvm.Cond.code ({ cls := "SpectrumAccess", name := "licenceOf", desc := "(I)I" } : Jvm.MethodName) prog_1_method_29_code (2 : Nat) (Option.some Jvm.ClassFile.FieldType.int)) ∈ lw_all := lw_g (lw_at lw_m8 70 rfl) rfl
theorem q1890 : (Jvm.Cond.classLink "SpectrumAccess" (171 : Nat) "SpectrumAccess$Device") ∈ lw_all := lw_g (lw_at lw_m8 71 rfl) rfl
theorem q1895 : (Jvm.Cond.instanceMethod ({ cls := "SpectrumAccess", name := "channelOf", desc := "(I)I" } : Jvm.MethodName)) ∈ lw_all := lw_g (lw_at lw_m8 76 rfl) rfl
theorem q1896 : (Jvm.Cond.selects "SpectrumAccess" ({ cls := "SpectrumAccess", name := "channelOf", desc := "(I)I" } : Jvm.MethodName) ({ cls := "SpectrumAccess", name := "channelOf", desc := "(I)I" } : Jvm.MethodName)) ∈ lw_all := lw_g (lw_at lw_m8 77 rfl) rfl
theorem q1897 : (Jvm.Cond.code ({ cls := "SpectrumAccess", name := "channelOf", desc := "(I)I" } : Jvm.MethodName) prog_1_method_30_code (2 : Nat) (Option.some Jvm.ClassFile.FieldType.int)) ∈ lw_all := lw_g (lw_at lw_m8 78 rfl) rfl
theorem q1902 : (Jvm.Cond.instanceMethod ({ cls := "SpectrumAccess", name := "powerOf", desc := "(I)I" } : Jvm.MethodName)) ∈ lw_all := lw_g (lw_at lw_m8 83 rfl) rfl
theorem q1903 : (Jvm.Cond.selects "SpectrumAccess" ({ cls := "SpectrumAccess", name := "powerOf", desc := "(I)I" } : Jvm.MethodName) ({ cls := "SpectrumAccess", name := "powerOf", desc := "(I)I" } : Jvm.MethodName)) ∈ lw_all := lw_g (lw_at lw_m8 84 rfl) rfl
theorem q1904 : (Jvm.Cond.code ({ cls := "SpectrumAccess", name := "powerOf", desc := "(I)I" } : Jvm.MethodName) prog_1_method_31_code (2 : Nat) (Option.some Jvm.ClassFile.FieldType.int)) ∈ lw_all := lw_g (lw_at lw_m8 85 rfl) rfl
theorem q1909 : (Jvm.Cond.instanceMethod ({ cls := "SpectrumAccess", name := "sinceOf", desc := "(I)I" } : Jvm.MethodName)) ∈ lw_all := lw_g (lw_at lw_m8 90 rfl) rfl
theorem q1910 : (Jvm.Cond.selects "SpectrumAccess" ({ cls := "SpectrumAccess", name := "sinceOf", desc := "(I)I" } : Jvm.MethodName) ({ cls := "SpectrumAccess", name := "sinceOf", desc := "(I)I" } : Jvm.MethodName)) ∈ lw_all := lw_g (lw_at lw_m8 91 rfl) rfl
theorem q1911 : (Jvm.Cond.code ({ cls := "SpectrumAccess", name := "sinceOf", desc := "(I)I" } : Jvm.MethodName) prog_1_method_32_code (2 : Nat) (Option.some Jvm.ClassFile.FieldType.int)) ∈ lw_all := lw_g (lw_at lw_m8 92 rfl) rfl
theorem q1916 : (Jvm.Cond.instanceMethod ({ cls := "SpectrumAccess", name := "movesOf", desc := "(I)I" } : Jvm.MethodName)) ∈ lw_all := lw_g (lw_at lw_m8 97 rfl) rfl
theorem q1917 : (Jvm.Cond.selects "SpectrumAccess" ({ cls := "SpectrumAccess", name := "movesOf", desc := "(I)I" } : Jvm.MethodName) ({ cls := "SpectrumAccess", name := "movesOf", desc := "(I)I" } : Jvm.MethodName)) ∈ lw_all := lw_g (lw_at lw_m8 98 rfl) rfl
theorem q1918 : (Jvm.Cond.code ({ cls := "SpectrumAccess", name := "movesOf", desc := "(I)I" } : Jvm.MethodName) prog_1_method_33_code (2 : Nat) (Option.some Jvm.ClassFile.FieldType.int)) ∈ lw_all := lw_g (lw_at lw_m8 99 rfl) rfl
theorem q1923 : (Jvm.Cond.instanceMethod ({ cls := "SpectrumAccess", name := "airtimeOf", desc := "(I)I" } : Jvm.MethodName)) ∈ lw_all := lw_g (lw_at lw_m8 104 rfl) rfl
theorem q1924 : (Jvm.Cond.selects "SpectrumAccess" ({ cls := "SpectrumAccess", name := "airtimeOf", desc := "(I)I" } : Jvm.MethodName) ({ cls := "SpectrumAccess", name := "airtimeOf", desc := "(I)I" } : Jvm.MethodName)) ∈ lw_all := lw_g (lw_at lw_m8 105 rfl) rfl
theorem q1925 : (Jvm.Cond.code ({ cls := "SpectrumAccess", name := "airtimeOf", desc := "(I)I" } : Jvm.MethodName) prog_1_method_34_code (2 : Nat) (Option.some Jvm.ClassFile.FieldType.int)) ∈ lw_all := lw_g (lw_at lw_m8 106 rfl) rfl
theorem q1930 : (Jvm.Cond.instanceMethod ({ cls := "SpectrumAccess", name := "leaseEndOf", desc := "(I)I" } : Jvm.MethodName)) ∈ lw_all := lw_g (lw_at lw_m8 111 rfl) rfl
theorem q1931 : (Jvm.Cond.selects "SpectrumAccess" ({ cls := "SpectrumAccess", name := "leaseEndOf", desc := "(I)I" } : Jvm.MethodName) ({ cls := "SpectrumAccess", name := "leaseEndOf", desc := "(I)I" } : Jvm.MethodName)) ∈ lw_all := lw_g (lw_at lw_m8 112 rfl) rfl
theorem q1932 : (Jvm.Cond.code ({ cls := "SpectrumAccess", name := "leaseEndOf", desc := "(I)I" } : Jvm.MethodName) prog_1_method_35_code (3 : Nat) (Option.some Jvm.ClassFile.FieldType.int)) ∈ lw_all := lw_g (lw_at lw_m8 113 rfl) rfl
theorem q1933 : (Jvm.Cond.methodLinkNest "SpectrumAccess" (191 : Nat) ({ cls := "SpectrumAccess$Region", name := "isLicensed", desc := "(I)Z" } : Jvm.MethodName) "SpectrumAccess") ∈ lw_tbl := lw_at lw_m8 114 rfl
theorem q1938 : (Jvm.Cond.instanceMethod ({ cls := "SpectrumAccess", name := "strengthOf", desc := "(III)I" } : Jvm.MethodName)) ∈ lw_all := lw_g (lw_at lw_m8 119 rfl) rfl
theorem q1939 : (Jvm.Cond.selects "SpectrumAccess" ({ cls := "SpectrumAccess", name := "strengthOf", desc := "(III)I" } : Jvm.MethodName) ({ cls := "SpectrumAccess", name := "strengthOf", desc := "(III)I" } : Jvm.MethodName)) ∈ lw_all := lw_g (lw_at lw_m8 120 rfl) rfl
theorem q1940 : (Jvm.Cond.code ({ cls := "SpectrumAccess", name := "strengthOf", desc := "(III)I" } : Jvm.MethodName) prog_1_method_36_code (4 : Nat) (Option.some Jvm.ClassFile.FieldType.int)) ∈ lw_all := lw_g (lw_at lw_m8 121 rfl) rfl
theorem q1941 : (Jvm.Cond.methodLink "SpectrumAccess" (197 : Nat) ({ cls := "SpectrumAccess$State", name := "strength", desc := "(III)I" } : Jvm.MethodName)) ∈ lw_all := lw_g (lw_at lw_m8 122 rfl) rfl
theorem q1946 : (Jvm.Cond.instanceMethod ({ cls := "SpectrumAccess", name := "interference", desc := "(IIII)I" } : Jvm.MethodName)) ∈ lw_all := lw_g (lw_at lw_m8 127 rfl) rfl
theorem q1947 : (Jvm.Cond.selects "SpectrumAccess" ({ cls := "SpectrumAccess", name := "interference", desc := "(IIII)I" } : Jvm.MethodName) ({ cls := "SpectrumAccess", name := "interference", desc := "(IIII)I" } : Jvm.MethodName)) ∈ lw_all := lw_g (lw_at lw_m8 128 rfl) rfl
theorem q1948 : (Jvm.Cond.code ({ cls := "SpectrumAccess", name := "interference", desc := "(IIII)I" } : Jvm.MethodName) prog_1_method_37_code (6 : Nat) (Option.some Jvm.ClassFile.FieldType.int)) ∈ lw_all := lw_g (lw_at lw_m8 129 rfl) rfl
theorem q1949 : (Jvm.Cond.methodLink "SpectrumAccess" (210 : Nat) ({ cls := "SpectrumAccess$State", name := "interference", desc := "(IIILSpectrumAccess$Some;)I" } : Jvm.MethodName)) ∈ lw_all := lw_g (lw_at lw_m8 130 rfl) rfl
theorem q1954 : (Jvm.Cond.instanceMethod ({ cls := "SpectrumAccess", name := "quietest", desc := "(II)I" } : Jvm.MethodName)) ∈ lw_all := lw_g (lw_at lw_m8 135 rfl) rfl
theorem q1955 : (Jvm.Cond.selects "SpectrumAccess" ({ cls := "SpectrumAccess", name := "quietest", desc := "(II)I" } : Jvm.MethodName) ({ cls := "SpectrumAccess", name := "quietest", desc := "(II)I" } : Jvm.MethodName)) ∈ lw_all := lw_g (lw_at lw_m8 136 rfl) rfl
theorem q1956 : (Jvm.Cond.code ({ cls := "SpectrumAccess", name := "quietest", desc := "(II)I" } : Jvm.MethodName) prog_1_method_38_code (5 : Nat) (Option.some Jvm.ClassFile.FieldType.int)) ∈ lw_all := lw_g (lw_at lw_m8 137 rfl) rfl
theorem q1957 : (Jvm.Cond.methodLink "SpectrumAccess" (214 : Nat) ({ cls := "SpectrumAccess", name := "channels", desc := "()I" } : Jvm.MethodName)) ∈ lw_all := lw_g (lw_at lw_m8 138 rfl) rfl
theorem q1962 : (Jvm.Cond.instanceMethod ({ cls := "SpectrumAccess", name := "mostMoved", desc := "(I)I" } : Jvm.MethodName)) ∈ lw_all := lw_g (lw_at lw_m8 143 rfl) rfl
theorem q1963 : (Jvm.Cond.selects "SpectrumAccess" ({ cls := "SpectrumAccess", name := "mostMoved", desc := "(I)I" } : Jvm.MethodName) ({ cls := "SpectrumAccess", name := "mostMoved", desc := "(I)I" } : Jvm.MethodName)) ∈ lw_all := lw_g (lw_at lw_m8 144 rfl) rfl
theorem q1964 : (Jvm.Cond.code ({ cls := "SpectrumAccess", name := "mostMoved", desc := "(I)I" } : Jvm.MethodName) prog_1_method_40_code (6 : Nat) (Option.some Jvm.ClassFile.FieldType.int)) ∈ lw_all := lw_g (lw_at lw_m8 145 rfl) rfl
theorem q1965 : (Jvm.Cond.methodLink "SpectrumAccess" (216 : Nat) ({ cls := "SpectrumAccess", name := "devices", desc := "()I" } : Jvm.MethodName)) ∈ lw_all := lw_g (lw_at lw_m8 146 rfl) rfl
theorem q1966 : (Jvm.Cond.methodLink "SpectrumAccess" (218 : Nat) ({ cls := "SpectrumAccess", name := "isMoreMoved", desc := "(II)Z" } : Jvm.MethodName)) ∈ lw_all := lw_g (lw_at lw_m8 147 rfl) rfl
theorem q1967 : (Jvm.Cond.privateMethod ({ cls := "SpectrumAccess", name := "isMoreMoved", desc := "(II)Z" } : Jvm.MethodName)) ∈ lw_tbl := lw_at lw_m8 148 rfl
theorem q1968 : (Jvm.Cond.instanceMethod ({ cls := "SpectrumAccess", name := "isMoreMoved", desc := "(II)Z" } : Jvm.MethodName)) ∈ lw_all := lw_g (lw_at lw_m8 149 rfl) rfl
theorem q1969 : (Jvm.Cond.code ({ cls := "SpectrumAccess", name := "isMoreMoved", desc := "(II)Z" } : Jvm.MethodName) prog_1_method_39_code (3 : Nat) (Option.some Jvm.ClassFile.FieldType.boolean)) ∈ lw_all := lw_g (lw_at lw_m8 150 rfl) rfl
theorem q1974 : (Jvm.Cond.instanceMethod ({ cls := "SpectrumAccess", name := "offeredChannel", desc := "(I)I" } : Jvm.MethodName)) ∈ lw_all := lw_g (lw_at lw_m8 155 rfl) rfl
theorem q1975 : (Jvm.Cond.selects "SpectrumAccess" ({ cls := "SpectrumAccess", name := "offeredChannel", desc := "(I)I" } : Jvm.MethodName) ({ cls := "SpectrumAccess", name := "offeredChannel", desc := "(I)I" } : Jvm.MethodName)) ∈ lw_all := lw_g (lw_at lw_m8 156 rfl) rfl
theorem q1976 : (Jvm.Cond.code ({ cls := "SpectrumAccess", name := "offeredChannel", desc := "(I)I" } : Jvm.MethodName) prog_1_method_43_code (2 : Nat) (Option.some Jvm.ClassFile.FieldType.int)) ∈ lw_all := lw_g (lw_at lw_m8 157 rfl) rfl
theorem q1977 : (Jvm.Cond.methodLink "SpectrumAccess" (231 : Nat) ({ cls := "SpectrumAccess", name := "without", desc := "(I)LSpectrumAccess$State;" } : Jvm.MethodName)) ∈ lw_all := lw_g (lw_at lw_m8 158 rfl) rfl
theorem q1978 : (Jvm.Cond.privateMethod ({ cls := "SpectrumAccess", name := "without", desc := "(I)LSpectrumAccess$State;" } : Jvm.MethodName)) ∈ lw_tbl := lw_at lw_m8 159 rfl
theorem q1979 : (Jvm.Cond.instanceMethod ({ cls := "SpectrumAccess", name := "without", desc := "(I)LSpectrumAccess$State;" } : Jvm.MethodName)) ∈ lw_all := lw_g (lw_at lw_m8 160 rfl) rfl
theorem q1980 : (Jvm.Cond.code ({ cls := "SpectrumAccess", name := "without", desc := "(I)LSpectrumAccess$State;" } : Jvm.MethodName) prog_1_method_42_code (3 : Nat) (Option.some (Jvm.ClassFile.FieldType.object "SpectrumAccess$State"))) ∈ lw_all := lw_g (lw_at lw_m8 161 rfl) rfl
theorem q1981 : (Jvm.Cond.methodLink "SpectrumAccess" (224 : Nat) ({ cls := "SpectrumAccess$State", name := "copy", desc := "()LSpectrumAccess$State;" } : Jvm.MethodName)) ∈ lw_all := lw_g (lw_at lw_m8 162 rfl) rfl
theorem q2023 : (Jvm.Cond.methodLink "SpectrumAccess" (227 : Nat) ({ cls := "SpectrumAccess$State", name := "become", desc := "(II)V" } : Jvm.MethodName)) ∈ lw_all := lw_g (lw_at lw_m8 204 rfl) rfl
theorem q2031 : (Jvm.Cond.methodLink "SpectrumAccess" (234 : Nat) ({ cls := "SpectrumAccess$State", name := "granted", desc := "(I)I" } : Jvm.MethodName)) ∈ lw_all := lw_g (lw_at lw_m8 212 rfl) rfl
theorem q2113 : (Jvm.Cond.instanceMethod ({ cls := "SpectrumAccess", name := "offeredPower", desc := "(I)I" } : Jvm.MethodName)) ∈ lw_all := lw_g (lw_at lw_m9 54 rfl) rfl
theorem q2114 : (Jvm.Cond.selects "SpectrumAccess" ({ cls := "SpectrumAccess", name := "offeredPower", desc := "(I)I" } : Jvm.MethodName) ({ cls := "SpectrumAccess", name := "offeredPower", desc := "(I)I" } : Jvm.MethodName)) ∈ lw_all := lw_g (lw_at lw_m9 55 rfl) rfl
theorem q2115 : (Jvm.Cond.code ({ cls := "SpectrumAccess", name := "offeredPower", desc := "(I)I" } : Jvm.MethodName) prog_1_method_44_code (4 : Nat) (Option.some Jvm.ClassFile.FieldType.int)) ∈ lw_all := lw_g (lw_at lw_m9 56 rfl) rfl
theorem q2120 : (Jvm.Cond.instanceMethod ({ cls := "SpectrumAccess", name := "isDenied", desc := "(II)Z" } : Jvm.MethodName)) ∈ lw_all := lw_g (lw_at lw_m9 61 rfl) rfl
theorem q2121 : (Jvm.Cond.selects "SpectrumAccess" ({ cls := "SpectrumAccess", name := "isDenied", desc := "(II)Z" } : Jvm.MethodName) ({ cls := "SpectrumAccess", name := "isDenied", desc := "(II)Z" } : Jvm.MethodName)) ∈ lw_all := lw_g (lw_at lw_m9 62 rfl) rfl
theorem q2122 : (Jvm.Cond.code ({ cls := "SpectrumAccess", name := "isDenied", desc := "(II)Z" } : Jvm.MethodName) prog_1_method_41_code (3 : Nat) (Option.some Jvm.ClassFile.FieldType.boolean)) ∈ lw_all := lw_g (lw_at lw_m9 63 rfl) rfl
theorem q2123 : (Jvm.Cond.methodLink "SpectrumAccess" (221 : Nat) ({ cls := "SpectrumAccess$State", name := "isDenied", desc := "(II)Z" } : Jvm.MethodName)) ∈ lw_all := lw_g (lw_at lw_m9 64 rfl) rfl
theorem q2131 : (Jvm.Cond.instanceMethod ({ cls := "SpectrumAccess", name := "allowedPower", desc := "(III)I" } : Jvm.MethodName)) ∈ lw_all := lw_g (lw_at lw_m9 72 rfl) rfl
theorem q2132 : (Jvm.Cond.selects "SpectrumAccess" ({ cls := "SpectrumAccess", name := "allowedPower", desc := "(III)I" } : Jvm.MethodName) ({ cls := "SpectrumAccess", name := "allowedPower", desc := "(III)I" } : Jvm.MethodName)) ∈ lw_all := lw_g (lw_at lw_m9 73 rfl) rfl
theorem q2133 : (Jvm.Cond.code ({ cls := "SpectrumAccess", name := "allowedPower", desc := "(III)I" } : Jvm.MethodName) prog_1_method_45_code (4 : Nat) (Option.some Jvm.ClassFile.FieldType.int)) ∈ lw_all := lw_g (lw_at lw_m9 74 rfl) rfl
theorem q2134 : (Jvm.Cond.methodLink "SpectrumAccess" (240 : Nat) ({ cls := "SpectrumAccess$State", name := "forgetLeft", desc := "()V" } : Jvm.MethodName)) ∈ lw_all := lw_g (lw_at lw_m9 75 rfl) rfl
theorem q2135 : (Jvm.Cond.classLink "SpectrumAccess" (243 : Nat) "SpectrumAccess$Point") ∈ lw_all := lw_g (lw_at lw_m9 76 rfl) rfl
theorem q2136 : (Jvm.Cond.methodLink "SpectrumAccess" (245 : Nat) ({ cls := "SpectrumAccess$Point", name := "<init>", desc := "(II)V" } : Jvm.MethodName)) ∈ lw_all := lw_g (lw_at lw_m9 77 rfl) rfl
theorem q2137 : (Jvm.Cond.methodLink "SpectrumAccess" (247 : Nat) ({ cls := "SpectrumAccess$State", name := "allowedPower", desc := "(LSpectrumAccess$Point;II)I" } : Jvm.MethodName)) ∈ lw_all := lw_g (lw_at lw_m9 78 rfl) rfl
theorem q2142 : (Jvm.Cond.instanceMethod ({ cls := "SpectrumAccess", name := "bestSite", desc := "(I)I" } : Jvm.MethodName)) ∈ lw_all := lw_g (lw_at lw_m9 83 rfl) rfl
theorem q2143 : (Jvm.Cond.selects "SpectrumAccess" ({ cls := "SpectrumAccess", name := "bestSite", desc := "(I)I" } : Jvm.MethodName) ({ cls := "SpectrumAccess", name := "bestSite", desc := "(I)I" } : Jvm.MethodName)) ∈ lw_all := lw_g (lw_at lw_m9 84 rfl) rfl
theorem q2144 : (Jvm.Cond.code ({ cls := "SpectrumAccess", name := "bestSite", desc := "(I)I" } : Jvm.MethodName) prog_1_method_46_code (7 : Nat) (Option.some Jvm.ClassFile.FieldType.int)) ∈ lw_all := lw_g (lw_at lw_m9 85 rfl) rfl
theorem q2149 : (Jvm.Cond.instanceMethod ({ cls := "SpectrumAccess", name := "queueAt", desc := "(I)I" } : Jvm.MethodName)) ∈ lw_all := lw_g (lw_at lw_m9 90 rfl) rfl
theorem q2150 : (Jvm.Cond.selects "SpectrumAccess" ({ cls := "SpectrumAccess", name := "queueAt", desc := "(I)I" } : Jvm.MethodName) ({ cls := "SpectrumAccess", name := "queueAt", desc := "(I)I" } : Jvm.MethodName)) ∈ lw_all := lw_g (lw_at lw_m9 91 rfl) rfl
theorem q2151 : (Jvm.Cond.code ({ cls := "SpectrumAccess", name := "queueAt", desc := "(I)I" } : Jvm.MethodName) prog_1_method_48_code (3 : Nat) (Option.some Jvm.ClassFile.FieldType.int)) ∈ lw_all := lw_g (lw_at lw_m9 92 rfl) rfl
theorem q2152 : (Jvm.Cond.methodLink "SpectrumAccess" (260 : Nat) ({ cls := "SpectrumAccess$State", name := "layQueue", desc := "()I" } : Jvm.MethodName)) ∈ lw_all := lw_g (lw_at lw_m9 93 rfl) rfl
theorem q2401 : (Jvm.Cond.instanceMethod ({ cls := "SpectrumAccess", name := "transmitting", desc := "(I)I" } : Jvm.MethodName)) ∈ lw_all := lw_g (lw_at lw_m10 102 rfl) rfl
theorem q2402 : (Jvm.Cond.selects "SpectrumAccess" ({ cls := "SpectrumAccess", name := "transmitting", desc := "(I)I" } : Jvm.MethodName) ({ cls := "SpectrumAccess", name := "transmitting", desc := "(I)I" } : Jvm.MethodName)) ∈ lw_all := lw_g (lw_at lw_m10 103 rfl) rfl
theorem q2403 : (Jvm.Cond.code ({ cls := "SpectrumAccess", name := "transmitting", desc := "(I)I" } : Jvm.MethodName) prog_1_method_49_code (4 : Nat) (Option.some Jvm.ClassFile.FieldType.int)) ∈ lw_all := lw_g (lw_at lw_m10 104 rfl) rfl
theorem q2408 : (Jvm.Cond.instanceMethod ({ cls := "SpectrumAccess", name := "event", desc := "(II)I" } : Jvm.MethodName)) ∈ lw_all := lw_g (lw_at lw_m10 109 rfl) rfl
theorem q2409 : (Jvm.Cond.selects "SpectrumAccess" ({ cls := "SpectrumAccess", name := "event", desc := "(II)I" } : Jvm.MethodName) ({ cls := "SpectrumAccess", name := "event", desc := "(II)I" } : Jvm.MethodName)) ∈ lw_all := lw_g (lw_at lw_m10 110 rfl) rfl
theorem q2410 : (Jvm.Cond.code ({ cls := "SpectrumAccess", name := "event", desc := "(II)I" } : Jvm.MethodName) prog_1_method_53_code (3 : Nat) (Option.some Jvm.ClassFile.FieldType.int)) ∈ lw_all := lw_g (lw_at lw_m10 111 rfl) rfl
theorem q2411 : (Jvm.Cond.constantLong "SpectrumAccess" (275 : Nat) (3 : Int64)) ∈ lw_all := lw_g (lw_at lw_m10 112 rfl) rfl
theorem q2412 : (Jvm.Cond.methodLink "SpectrumAccess" (277 : Nat) ({ cls := "SpectrumAccess", name := "checkArgument", desc := "([Z)V" } : Jvm.MethodName)) ∈ lw_all := lw_g (lw_at lw_m10 113 rfl) rfl
theorem q2413 : (Jvm.Cond.static ({ cls := "SpectrumAccess", name := "checkArgument", desc := "([Z)V" } : Jvm.MethodName)) ∈ lw_all := lw_g (lw_at lw_m10 114 rfl) rfl
theorem q2414 : (Jvm.Cond.code ({ cls := "SpectrumAccess", name := "checkArgument", desc := "([Z)V" } : Jvm.MethodName) prog_1_method_3_code (5 : Nat) (Option.none : Option Jvm.ClassFile.FieldType)) ∈ lw_all := lw_g (lw_at lw_m10 115 rfl) rfl
theorem q2419 : (Jvm.Cond.instanceMethod ({ cls := "SpectrumAccess", name := "report", desc := "()I" } : Jvm.MethodName)) ∈ lw_all := lw_g (lw_at lw_m10 120 rfl) rfl
theorem q2420 : (Jvm.Cond.selects "SpectrumAccess" ({ cls := "SpectrumAccess", name := "report", desc := "()I" } : Jvm.MethodName) ({ cls := "SpectrumAccess", name := "report", desc := "()I" } : Jvm.MethodName)) ∈ lw_all := lw_g (lw_at lw_m10 121 rfl) rfl
theorem q2421 : (Jvm.Cond.code ({ cls := "SpectrumAccess", name := "report", desc := "()I" } : Jvm.MethodName) prog_1_method_54_code (4 : Nat) (Option.some Jvm.ClassFile.FieldType.int)) ∈ lw_all := lw_g (lw_at lw_m10 122 rfl) rfl
theorem q2422 : (Jvm.Cond.methodLink "SpectrumAccess" (284 : Nat) ({ cls := "java/lang/StringBuilder", name := "setLength", desc := "(I)V" } : Jvm.MethodName)) ∈ lw_all := lw_g (lw_at lw_m10 123 rfl) rfl
theorem q2474 : (Jvm.Cond.methodLink "SpectrumAccess" (288 : Nat) ({ cls := "java/lang/StringBuilder", name := "append", desc := "(C)Ljava/lang/StringBuilder;" } : Jvm.MethodName)) ∈ lw_all := lw_g (lw_at lw_m10 175 rfl) rfl
theorem q2475 : (Jvm.Cond.methodLink "SpectrumAccess" (292 : Nat) ({ cls := "java/lang/StringBuilder", name := "append", desc := "(I)Ljava/lang/StringBuilder;" } : Jvm.MethodName)) ∈ lw_all := lw_g (lw_at lw_m10 176 rfl) rfl
theorem q2476 : (Jvm.Cond.methodLink "SpectrumAccess" (295 : Nat) ({ cls := "java/lang/StringBuilder", name := "length", desc := "()I" } : Jvm.MethodName)) ∈ lw_all := lw_g (lw_at lw_m10 177 rfl) rfl
theorem q2481 : (Jvm.Cond.instanceMethod ({ cls := "SpectrumAccess", name := "reportByte", desc := "(I)I" } : Jvm.MethodName)) ∈ lw_all := lw_g (lw_at lw_m10 182 rfl) rfl
theorem q2482 : (Jvm.Cond.selects "SpectrumAccess" ({ cls := "SpectrumAccess", name := "reportByte", desc := "(I)I" } : Jvm.MethodName) ({ cls := "SpectrumAccess", name := "reportByte", desc := "(I)I" } : Jvm.MethodName)) ∈ lw_all := lw_g (lw_at lw_m10 183 rfl) rfl
theorem q2483 : (Jvm.Cond.code ({ cls := "SpectrumAccess", name := "reportByte", desc := "(I)I" } : Jvm.MethodName) prog_1_method_55_code (2 : Nat) (Option.some Jvm.ClassFile.FieldType.int)) ∈ lw_all := lw_g (lw_at lw_m10 184 rfl) rfl
theorem q2484 : (Jvm.Cond.methodLink "SpectrumAccess" (298 : Nat) ({ cls := "java/lang/StringBuilder", name := "charAt", desc := "(I)C" } : Jvm.MethodName)) ∈ lw_all := lw_g (lw_at lw_m10 185 rfl) rfl
theorem q2489 : (Jvm.Cond.instanceMethod ({ cls := "SpectrumAccess", name := "movesIn", desc := "(I)I" } : Jvm.MethodName)) ∈ lw_all := lw_g (lw_at lw_m10 190 rfl) rfl
theorem q2490 : (Jvm.Cond.selects "SpectrumAccess" ({ cls := "SpectrumAccess", name := "movesIn", desc := "(I)I" } : Jvm.MethodName) ({ cls := "SpectrumAccess", name := "movesIn", desc := "(I)I" } : Jvm.MethodName)) ∈ lw_all := lw_g (lw_at lw_m10 191 rfl) rfl
theorem q2491 : (Jvm.Cond.code ({ cls := "SpectrumAccess", name := "movesIn", desc := "(I)I" } : Jvm.MethodName) prog_1_method_58_code (2 : Nat) (Option.some Jvm.ClassFile.FieldType.int)) ∈ lw_all := lw_g (lw_at lw_m10 192 rfl) rfl
theorem q2492 : (Jvm.Cond.privateMethod ({ cls := "SpectrumAccess", name := "lambda$movesIn$0", desc := "(LSpectrumAccess$State;)I" } : Jvm.MethodName)) ∈ lw_tbl := lw_at lw_m10 193 rfl
theorem q2493 : (Jvm.Cond.instanceMethod ({ cls := "SpectrumAccess", name := "lambda$movesIn$0", desc := "(LSpectrumAccess$State;)I" } : Jvm.MethodName)) ∈ lw_all := lw_g (lw_at lw_m10 194 rfl) rfl
theorem q2494 : (Jvm.Cond.code ({ cls := "SpectrumAccess", name := "lambda$movesIn$0", desc := "(LSpectrumAccess$State;)I" } : Jvm.MethodName) prog_1_method_77_code (2 : Nat) (Option.some Jvm.ClassFile.FieldType.int)) ∈ lw_all := lw_g (lw_at lw_m10 195 rfl) rfl
theorem q2495 : (Jvm.Cond.methodLink "SpectrumAccess" (319 : Nat) ({ cls := "SpectrumAccess", name := "after", desc := "(ILSpectrumAccess$Question;)I" } : Jvm.MethodName)) ∈ lw_all := lw_g (lw_at lw_m10 196 rfl) rfl
theorem q2496 : (Jvm.Cond.privateMethod ({ cls := "SpectrumAccess", name := "after", desc := "(ILSpectrumAccess$Question;)I" } : Jvm.MethodName)) ∈ lw_tbl := lw_at lw_m10 197 rfl
theorem q2497 : (Jvm.Cond.instanceMethod ({ cls := "SpectrumAccess", name := "after", desc := "(ILSpectrumAccess$Question;)I" } : Jvm.MethodName)) ∈ lw_all := lw_g (lw_at lw_m10 198 rfl) rfl
theorem q2498 : (Jvm.Cond.code ({ cls := "SpectrumAccess", name := "after", desc := "(ILSpectrumAccess$Question;)I" } : Jvm.MethodName) prog_1_method_57_code (4 : Nat) (Option.some Jvm.ClassFile.FieldType.int)) ∈ lw_all := lw_g (lw_at lw_m10 199 rfl) rfl
theorem q2499 : (Jvm.Cond.methodLink "SpectrumAccess" (304 : Nat) ({ cls := "SpectrumAccess", name := "checkTicks", desc := "(I)V" } : Jvm.MethodName)) ∈ lw_all := lw_g (lw_at lw_m10 200 rfl) rfl
theorem q2500 : (Jvm.Cond.privateMethod ({ cls := "SpectrumAccess", name := "checkTicks", desc := "(I)V" } : Jvm.MethodName)) ∈ lw_tbl := lw_at lw_m10 201 rfl
theorem q2501 : (Jvm.Cond.instanceMethod ({ cls := "SpectrumAccess", name := "checkTicks", desc := "(I)V" } : Jvm.MethodName)) ∈ lw_all := lw_g (lw_at lw_m10 202 rfl) rfl
theorem q2502 : (Jvm.Cond.code ({ cls := "SpectrumAccess", name := "checkTicks", desc := "(I)V" } : Jvm.MethodName) prog_1_method_56_code (2 : Nat) (Option.none : Option Jvm.ClassFile.FieldType)) ∈ lw_all := lw_g (lw_at lw_m10 203 rfl) rfl
theorem q2503 : (Jvm.Cond.constantLong "SpectrumAccess" (302 : Nat) (200 : Int64)) ∈ lw_all := lw_g (lw_at lw_m10 204 rfl) rfl
theorem q2504 : (Jvm.Cond.methodLink "SpectrumAccess" (307 : Nat) ({ cls := "SpectrumAccess$State", name := "run", desc := "(I)I" } : Jvm.MethodName)) ∈ lw_all := lw_g (lw_at lw_m10 205 rfl) rfl
theorem q2547 : (Jvm.Cond.interfaceEntry "SpectrumAccess" (310 : Nat)) ∈ lw_tbl := lw_at lw_m11 8 rfl
theorem q2548 : (Jvm.Cond.methodLink "SpectrumAccess" (310 : Nat) ({ cls := "SpectrumAccess$Question", name := "answer", desc := "(LSpectrumAccess$State;)I" } : Jvm.MethodName)) ∈ lw_all := lw_g (lw_at lw_m11 9 rfl) rfl
theorem q2555 : (Jvm.Cond.instanceMethod ({ cls := "SpectrumAccess", name := "airtimeIn", desc := "(I)I" } : Jvm.MethodName)) ∈ lw_all := lw_g (lw_at lw_m11 16 rfl) rfl
theorem q2556 : (Jvm.Cond.selects "SpectrumAccess" ({ cls := "SpectrumAccess", name := "airtimeIn", desc := "(I)I" } : Jvm.MethodName) ({ cls := "SpectrumAccess", name := "airtimeIn", desc := "(I)I" } : Jvm.MethodName)) ∈ lw_all := lw_g (lw_at lw_m11 17 rfl) rfl
theorem q2557 : (Jvm.Cond.code ({ cls := "SpectrumAccess", name := "airtimeIn", desc := "(I)I" } : Jvm.MethodName) prog_1_method_59_code (2 : Nat) (Option.some Jvm.ClassFile.FieldType.int)) ∈ lw_all := lw_g (lw_at lw_m11 18 rfl) rfl
theorem q2558 : (Jvm.Cond.privateMethod ({ cls := "SpectrumAccess", name := "lambda$airtimeIn$1", desc := "(LSpectrumAccess$State;)I" } : Jvm.MethodName)) ∈ lw_tbl := lw_at lw_m11 19 rfl
theorem q2559 : (Jvm.Cond.instanceMethod ({ cls := "SpectrumAccess", name := "lambda$airtimeIn$1", desc := "(LSpectrumAccess$State;)I" } : Jvm.MethodName)) ∈ lw_all := lw_g (lw_at lw_m11 20 rfl) rfl
theorem q2560 : (Jvm.Cond.code ({ cls := "SpectrumAccess", name := "lambda$airtimeIn$1", desc := "(LSpectrumAccess$State;)I" } : Jvm.MethodName) prog_1_method_76_code (2 : Nat) (Option.some Jvm.ClassFile.FieldType.int)) ∈ lw_all := lw_g (lw_at lw_m11 21 rfl) rfl
theorem q2561 : (Jvm.Cond.methodLink "SpectrumAccess" (368 : Nat) ({ cls := "SpectrumAccess$State", name := "allAirtime", desc := "()I" } : Jvm.MethodName)) ∈ lw_all := lw_g (lw_at lw_m11 22 rfl) rfl
theorem q2569 : (Jvm.Cond.instanceMethod ({ cls := "SpectrumAccess", name := "firstMove", desc := "(I)I" } : Jvm.MethodName)) ∈ lw_all := lw_g (lw_at lw_m11 30 rfl) rfl
theorem q2570 : (Jvm.Cond.selects "SpectrumAccess" ({ cls := "SpectrumAccess", name := "firstMove", desc := "(I)I" } : Jvm.MethodName) ({ cls := "SpectrumAccess", name := "firstMove", desc := "(I)I" } : Jvm.MethodName)) ∈ lw_all := lw_g (lw_at lw_m11 31 rfl) rfl
theorem q2571 : (Jvm.Cond.code ({ cls := "SpectrumAccess", name := "firstMove", desc := "(I)I" } : Jvm.MethodName) prog_1_method_60_code (4 : Nat) (Option.some Jvm.ClassFile.FieldType.int)) ∈ lw_all := lw_g (lw_at lw_m11 32 rfl) rfl
theorem q2576 : (Jvm.Cond.instanceMethod ({ cls := "SpectrumAccess", name := "waitingAfter", desc := "(I)I" } : Jvm.MethodName)) ∈ lw_all := lw_g (lw_at lw_m11 37 rfl) rfl
theorem q2577 : (Jvm.Cond.selects "SpectrumAccess" ({ cls := "SpectrumAccess", name := "waitingAfter", desc := "(I)I" } : Jvm.MethodName) ({ cls := "SpectrumAccess", name := "waitingAfter", desc := "(I)I" } : Jvm.MethodName)) ∈ lw_all := lw_g (lw_at lw_m11 38 rfl) rfl
theorem q2578 : (Jvm.Cond.code ({ cls := "SpectrumAccess", name := "waitingAfter", desc := "(I)I" } : Jvm.MethodName) prog_1_method_61_code (2 : Nat) (Option.some Jvm.ClassFile.FieldType.int)) ∈ lw_all := lw_g (lw_at lw_m11 39 rfl) rfl
theorem q2579 : (Jvm.Cond.static ({ cls := "SpectrumAccess", name := "lambda$waitingAfter$2", desc := "(LSpectrumAccess$State;)I" } : Jvm.MethodName)) ∈ lw_all := lw_g (lw_at lw_m11 40 rfl) rfl
theorem q2580 : (Jvm.Cond.code ({ cls := "SpectrumAccess", name := "lambda$waitingAfter$2", desc := "(LSpectrumAccess$State;)I" } : Jvm.MethodName) prog_1_method_75_code (1 : Nat) (Option.some Jvm.ClassFile.FieldType.int)) ∈ lw_all := lw_g (lw_at lw_m11 41 rfl) rfl
theorem q2586 : (Jvm.Cond.instanceMethod ({ cls := "SpectrumAccess", name := "troublemaker", desc := "(I)I" } : Jvm.MethodName)) ∈ lw_all := lw_g (lw_at lw_m11 47 rfl) rfl
theorem q2587 : (Jvm.Cond.selects "SpectrumAccess" ({ cls := "SpectrumAccess", name := "troublemaker", desc := "(I)I" } : Jvm.MethodName) ({ cls := "SpectrumAccess", name := "troublemaker", desc := "(I)I" } : Jvm.MethodName)) ∈ lw_all := lw_g (lw_at lw_m11 48 rfl) rfl
theorem q2588 : (Jvm.Cond.code ({ cls := "SpectrumAccess", name := "troublemaker", desc := "(I)I" } : Jvm.MethodName) prog_1_method_62_code (7 : Nat) (Option.some Jvm.ClassFile.FieldType.int)) ∈ lw_all := lw_g (lw_at lw_m11 49 rfl) rfl
theorem q2589 : (Jvm.Cond.classLink "SpectrumAccess" (327 : Nat) "java/util/NoSuchElementException") ∈ lw_all := lw_g (lw_at lw_m11 50 rfl) rfl
theorem q2598 : (Jvm.Cond.methodLink "SpectrumAccess" (329 : Nat) ({ cls := "java/util/NoSuchElementException", name := "<init>", desc := "()V" } : Jvm.MethodName)) ∈ lw_all := lw_g (lw_at lw_m11 59 rfl) rfl
theorem q2608 : (Jvm.Cond.instanceMethod ({ cls := "SpectrumAccess", name := "tightest", desc := "()I" } : Jvm.MethodName)) ∈ lw_all := lw_g (lw_at lw_m11 69 rfl) rfl
theorem q2609 : (Jvm.Cond.selects "SpectrumAccess" ({ cls := "SpectrumAccess", name := "tightest", desc := "()I" } : Jvm.MethodName) ({ cls := "SpectrumAccess", name := "tightest", desc := "()I" } : Jvm.MethodName)) ∈ lw_all := lw_g (lw_at lw_m11 70 rfl) rfl
theorem q2610 : (Jvm.Cond.code ({ cls := "SpectrumAccess", name := "tightest", desc := "()I" } : Jvm.MethodName) prog_1_method_63_code (3 : Nat) (Option.some Jvm.ClassFile.FieldType.int)) ∈ lw_all := lw_g (lw_at lw_m11 71 rfl) rfl
theorem q2611 : (Jvm.Cond.methodLink "SpectrumAccess" (330 : Nat) ({ cls := "SpectrumAccess", name := "incumbents", desc := "()I" } : Jvm.MethodName)) ∈ lw_all := lw_g (lw_at lw_m11 72 rfl) rfl
theorem q2616 : (Jvm.Cond.instanceMethod ({ cls := "SpectrumAccess", name := "advance", desc := "(I)I" } : Jvm.MethodName)) ∈ lw_all := lw_g (lw_at lw_m11 77 rfl) rfl
theorem q2617 : (Jvm.Cond.selects "SpectrumAccess" ({ cls := "SpectrumAccess", name := "advance", desc := "(I)I" } : Jvm.MethodName) ({ cls := "SpectrumAccess", name := "advance", desc := "(I)I" } : Jvm.MethodName)) ∈ lw_all := lw_g (lw_at lw_m11 78 rfl) rfl
theorem q2618 : (Jvm.Cond.code ({ cls := "SpectrumAccess", name := "advance", desc := "(I)I" } : Jvm.MethodName) prog_1_method_65_code (2 : Nat) (Option.some Jvm.ClassFile.FieldType.int)) ∈ lw_all := lw_g (lw_at lw_m11 79 rfl) rfl
theorem q2619 : (Jvm.Cond.methodLink "SpectrumAccess" (339 : Nat) ({ cls := "SpectrumAccess", name := "keep", desc := "()V" } : Jvm.MethodName)) ∈ lw_all := lw_g (lw_at lw_m11 80 rfl) rfl
theorem q2620 : (Jvm.Cond.privateMethod ({ cls := "SpectrumAccess", name := "keep", desc := "()V" } : Jvm.MethodName)) ∈ lw_tbl := lw_at lw_m11 81 rfl
theorem q2621 : (Jvm.Cond.instanceMethod ({ cls := "SpectrumAccess", name := "keep", desc := "()V" } : Jvm.MethodName)) ∈ lw_all := lw_g (lw_at lw_m11 82 rfl) rfl
theorem q2622 : (Jvm.Cond.code ({ cls := "SpectrumAccess", name := "keep", desc := "()V" } : Jvm.MethodName) prog_1_method_64_code (1 : Nat) (Option.none : Option Jvm.ClassFile.FieldType)) ∈ lw_all := lw_g (lw_at lw_m11 83 rfl) rfl
theorem q2623 : (Jvm.Cond.interfaceEntry "SpectrumAccess" (332 : Nat)) ∈ lw_tbl := lw_at lw_m11 84 rfl
theorem q2624 : (Jvm.Cond.methodLink "SpectrumAccess" (332 : Nat) ({ cls := "java/util/List", name := "remove", desc := "(I)Ljava/lang/Object;" } : Jvm.MethodName)) ∈ lw_all := lw_g (lw_at lw_m11 85 rfl) rfl
theorem q2636 : (Jvm.Cond.interfaceEntry "SpectrumAccess" (335 : Nat)) ∈ lw_tbl := lw_at lw_m11 97 rfl
theorem q2637 : (Jvm.Cond.methodLink "SpectrumAccess" (335 : Nat) ({ cls := "java/util/List", name := "add", desc := "(Ljava/lang/Object;)Z" } : Jvm.MethodName)) ∈ lw_all := lw_g (lw_at lw_m11 98 rfl) rfl
theorem q2642 : (Jvm.Cond.instanceMethod ({ cls := "SpectrumAccess", name := "start", desc := "(I)I" } : Jvm.MethodName)) ∈ lw_all := lw_g (lw_at lw_m11 103 rfl) rfl
theorem q2643 : (Jvm.Cond.selects "SpectrumAccess" ({ cls := "SpectrumAccess", name := "start", desc := "(I)I" } : Jvm.MethodName) ({ cls := "SpectrumAccess", name := "start", desc := "(I)I" } : Jvm.MethodName)) ∈ lw_all := lw_g (lw_at lw_m11 104 rfl) rfl
theorem q2644 : (Jvm.Cond.code ({ cls := "SpectrumAccess", name := "start", desc := "(I)I" } : Jvm.MethodName) prog_1_method_66_code (4 : Nat) (Option.some Jvm.ClassFile.FieldType.int)) ∈ lw_all := lw_g (lw_at lw_m11 105 rfl) rfl
theorem q2649 : (Jvm.Cond.instanceMethod ({ cls := "SpectrumAccess", name := "stop", desc := "(I)I" } : Jvm.MethodName)) ∈ lw_all := lw_g (lw_at lw_m11 110 rfl) rfl
theorem q2650 : (Jvm.Cond.selects "SpectrumAccess" ({ cls := "SpectrumAccess", name := "stop", desc := "(I)I" } : Jvm.MethodName) ({ cls := "SpectrumAccess", name := "stop", desc := "(I)I" } : Jvm.MethodName)) ∈ lw_all := lw_g (lw_at lw_m11 111 rfl) rfl
theorem q2651 : (Jvm.Cond.code ({ cls := "SpectrumAccess", name := "stop", desc := "(I)I" } : Jvm.MethodName) prog_1_method_67_code (3 : Nat) (Option.some Jvm.ClassFile.FieldType.int)) ∈ lw_all := lw_g (lw_at lw_m11 112 rfl) rfl
theorem q2656 : (Jvm.Cond.instanceMethod ({ cls := "SpectrumAccess", name := "setPower", desc := "(II)I" } : Jvm.MethodName)) ∈ lw_all := lw_g (lw_at lw_m11 117 rfl) rfl
theorem q2657 : (Jvm.Cond.selects "SpectrumAccess" ({ cls := "SpectrumAccess", name := "setPower", desc := "(II)I" } : Jvm.MethodName) ({ cls := "SpectrumAccess", name := "setPower", desc := "(II)I" } : Jvm.MethodName)) ∈ lw_all := lw_g (lw_at lw_m11 118 rfl) rfl
theorem q2658 : (Jvm.Cond.code ({ cls := "SpectrumAccess", name := "setPower", desc := "(II)I" } : Jvm.MethodName) prog_1_method_68_code (4 : Nat) (Option.some Jvm.ClassFile.FieldType.int)) ∈ lw_all := lw_g (lw_at lw_m11 119 rfl) rfl
theorem q2659 : (Jvm.Cond.constantLong "SpectrumAccess" (342 : Nat) (999 : Int64)) ∈ lw_all := lw_g (lw_at lw_m11 120 rfl) rfl
theorem q2660 : (Jvm.Cond.methodLink "SpectrumAccess" (347 : Nat) ({ cls := "java/lang/Math", name := "min", desc := "(II)I" } : Jvm.MethodName)) ∈ lw_all := lw_g (lw_at lw_m11 121 rfl) rfl
theorem q2665 : (Jvm.Cond.instanceMethod ({ cls := "SpectrumAccess", name := "addIncumbent", desc := "(IIIIII)I" } : Jvm.MethodName)) ∈ lw_all := lw_g (lw_at lw_m11 126 rfl) rfl
theorem q2666 : (Jvm.Cond.selects "SpectrumAccess" ({ cls := "SpectrumAccess", name := "addIncumbent", desc := "(IIIIII)I" } : Jvm.MethodName) ({ cls := "SpectrumAccess", name := "addIncumbent", desc := "(IIIIII)I" } : Jvm.MethodName)) ∈ lw_all := lw_g (lw_at lw_m11 127 rfl) rfl
theorem q2667 : (Jvm.Cond.code ({ cls := "SpectrumAccess", name := "addIncumbent", desc := "(IIIIII)I" } : Jvm.MethodName) prog_1_method_69_code (8 : Nat) (Option.some Jvm.ClassFile.FieldType.int)) ∈ lw_all := lw_g (lw_at lw_m11 128 rfl) rfl
theorem q2668 : (Jvm.Cond.constantLong "SpectrumAccess" (353 : Nat) (99999 : Int64)) ∈ lw_all := lw_g (lw_at lw_m11 129 rfl) rfl
theorem q2669 : (Jvm.Cond.methodLink "SpectrumAccess" (355 : Nat) ({ cls := "SpectrumAccess$Incumbent", name := "<init>", desc := "(LSpectrumAccess$Point;IIIIZ)V" } : Jvm.MethodName)) ∈ lw_all := lw_g (lw_at lw_m11 130 rfl) rfl
theorem q2670 : (Jvm.Cond.methodLink "SpectrumAccess" (358 : Nat) ({ cls := "SpectrumAccess$State", name := "add", desc := "(LSpectrumAccess$Incumbent;I)I" } : Jvm.MethodName)) ∈ lw_all := lw_g (lw_at lw_m11 131 rfl) rfl
theorem q2675 : (Jvm.Cond.instanceMethod ({ cls := "SpectrumAccess", name := "endIncumbent", desc := "(I)I" } : Jvm.MethodName)) ∈ lw_all := lw_g (lw_at lw_m11 136 rfl) rfl
theorem q2676 : (Jvm.Cond.selects "SpectrumAccess" ({ cls := "SpectrumAccess", name := "endIncumbent", desc := "(I)I" } : Jvm.MethodName) ({ cls := "SpectrumAccess", name := "endIncumbent", desc := "(I)I" } : Jvm.MethodName)) ∈ lw_all := lw_g (lw_at lw_m11 137 rfl) rfl
theorem q2677 : (Jvm.Cond.code ({ cls := "SpectrumAccess", name := "endIncumbent", desc := "(I)I" } : Jvm.MethodName) prog_1_method_70_code (3 : Nat) (Option.some Jvm.ClassFile.FieldType.int)) ∈ lw_all := lw_g (lw_at lw_m11 138 rfl) rfl
theorem q2682 : (Jvm.Cond.instanceMethod ({ cls := "SpectrumAccess", name := "undo", desc := "()I" } : Jvm.MethodName)) ∈ lw_all := lw_g (lw_at lw_m11 143 rfl) rfl
theorem q2683 : (Jvm.Cond.selects "SpectrumAccess" ({ cls := "SpectrumAccess", name := "undo", desc := "()I" } : Jvm.MethodName) ({ cls := "SpectrumAccess", name := "undo", desc := "()I" } : Jvm.MethodName)) ∈ lw_all := lw_g (lw_at lw_m11 144 rfl) rfl
theorem q2684 : (Jvm.Cond.code ({ cls := "SpectrumAccess", name := "undo", desc := "()I" } : Jvm.MethodName) prog_1_method_71_code (1 : Nat) (Option.some Jvm.ClassFile.FieldType.int)) ∈ lw_all := lw_g (lw_at lw_m11 145 rfl) rfl
theorem q2685 : (Jvm.Cond.interfaceEntry "SpectrumAccess" (364 : Nat)) ∈ lw_tbl := lw_at lw_m11 146 rfl
theorem q2686 : (Jvm.Cond.methodLink "SpectrumAccess" (364 : Nat) ({ cls := "java/util/List", name := "isEmpty", desc := "()Z" } : Jvm.MethodName)) ∈ lw_all := lw_g (lw_at lw_m11 147 rfl) rfl
theorem q2691 : (Jvm.Cond.instanceMethod ({ cls := "SpectrumAccess", name := "save", desc := "(I)I" } : Jvm.MethodName)) ∈ lw_all := lw_g (lw_at lw_m11 152 rfl) rfl
theorem q2692 : (Jvm.Cond.selects "SpectrumAccess" ({ cls := "SpectrumAccess", name := "save", desc := "(I)I" } : Jvm.MethodName) ({ cls := "SpectrumAccess", name := "save", desc := "(I)I" } : Jvm.MethodName)) ∈ lw_all := lw_g (lw_at lw_m11 153 rfl) rfl
theorem q2693 : (Jvm.Cond.code ({ cls := "SpectrumAccess", name := "save", desc := "(I)I" } : Jvm.MethodName) prog_1_method_73_code (2 : Nat) (Option.some Jvm.ClassFile.FieldType.int)) ∈ lw_all := lw_g (lw_at lw_m11 154 rfl) rfl
theorem q2698 : (Jvm.Cond.instanceMethod ({ cls := "SpectrumAccess", name := "restore", desc := "(I)I" } : Jvm.MethodName)) ∈ lw_all := lw_g (lw_at lw_m11 159 rfl) rfl
theorem q2699 : (Jvm.Cond.selects "SpectrumAccess" ({ cls := "SpectrumAccess", name := "restore", desc := "(I)I" } : Jvm.MethodName) ({ cls := "SpectrumAccess", name := "restore", desc := "(I)I" } : Jvm.MethodName)) ∈ lw_all := lw_g (lw_at lw_m11 160 rfl) rfl
theorem q2700 : (Jvm.Cond.code ({ cls := "SpectrumAccess", name := "restore", desc := "(I)I" } : Jvm.MethodName) prog_1_method_74_code (2 : Nat) (Option.some Jvm.ClassFile.FieldType.int)) ∈ lw_all := lw_g (lw_at lw_m11 161 rfl) rfl
theorem q3489 : (Jvm.Cond.castable "SpectrumAccess" "java/lang/Object") ∈ lw_tbl := lw_at lw_m14 230 rfl
theorem in_X1 : ∀ w ∈ wsX10, w ∈ lw_all := lw_in wsX10 [267, 269, 271, 273, 275, 277, 279, 281] (by decide +kernel) (by decide +kernel)


/-! SpectrumAccess$Point -/
set_option maxRecDepth 100000
def RX10 : String := "SpectrumAccess$Point"
def TX10 : u_T := fun k => match k with
  | 0 => ("SpectrumAccess$Point", "x", "I", true)
  | _ => ("SpectrumAccess$Point", "y", "I", true)
def tyX10 : Nat → FieldType := fun k => match k with
  | 0 => .int
  | _ => .int
abbrev wsX100 : List Cond := u_ws RX10 TX10 2
theorem nmX10 : ∀ a, a < 2 → ∀ b, b < 2 → a ≠ b → (TX10 a).2.1 ≠ (TX10 b).2.1 := by decide +kernel
theorem tyX10_ok : ∀ k, k < 2 → parseFieldDescriptor (TX10 k).2.2.1 = some (tyX10 k) := by decide +kernel
abbrev cX10_init : ByteArray := prog_13_method_1_code
def yX10_init : MethodName := ⟨RX10, "<init>", "(II)V"⟩
def dkwX10_init_0 : List UInt8 := [42, 183, 0, 1, 42, 27, 181, 0, 7, 42, 28, 181, 0, 13, 177]
abbrev dktX10_init_0 : List UInt8 := dkwX10_init_0 ++ []
theorem dksX10_init_0 : cX10_init.data.toList.drop 0 = dktX10_init_0 := by decide +kernel
theorem dX10_init_0 : decode cX10_init 0 = .ok (.aload_n 0, 1) := dk_42 (dk_at dksX10_init_0 0 rfl rfl)
theorem dX10_init_1 : decode cX10_init 1 = .ok (.invokespecial 1, 3) := dk_183 0 1 (dk_at dksX10_init_0 1 rfl rfl)
theorem dX10_init_4 : decode cX10_init 4 = .ok (.aload_n 0, 1) := dk_42 (dk_at dksX10_init_0 4 rfl rfl)
theorem dX10_init_5 : decode cX10_init 5 = .ok (.iload_n 1, 1) := dk_27 (dk_at dksX10_init_0 5 rfl rfl)
theorem dX10_init_6 : decode cX10_init 6 = .ok (.putfield 7, 3) := dk_181 0 7 (dk_at dksX10_init_0 6 rfl rfl)
theorem dX10_init_9 : decode cX10_init 9 = .ok (.aload_n 0, 1) := dk_42 (dk_at dksX10_init_0 9 rfl rfl)
theorem dX10_init_10 : decode cX10_init 10 = .ok (.iload_n 2, 1) := dk_28 (dk_at dksX10_init_0 10 rfl rfl)
theorem dX10_init_11 : decode cX10_init 11 = .ok (.putfield 13, 3) := dk_181 0 13 (dk_at dksX10_init_0 11 rfl rfl)
theorem dX10_init_14 : decode cX10_init 14 = .ok (.return_, 1) := dk_177 (dk_at dksX10_init_0 14 rfl rfl)
abbrev cX10_far : ByteArray := prog_13_method_3_code
def yX10_far : MethodName := ⟨RX10, "far", "(LSpectrumAccess$Point;)I"⟩
def dkwX10_far_0 : List UInt8 := [42, 43, 180, 0, 7, 43, 180, 0, 13, 182, 0, 16, 172]
abbrev dktX10_far_0 : List UInt8 := dkwX10_far_0 ++ []
theorem dksX10_far_0 : cX10_far.data.toList.drop 0 = dktX10_far_0 := by decide +kernel
theorem dX10_far_0 : decode cX10_far 0 = .ok (.aload_n 0, 1) := dk_42 (dk_at dksX10_far_0 0 rfl rfl)
theorem dX10_far_1 : decode cX10_far 1 = .ok (.aload_n 1, 1) := dk_43 (dk_at dksX10_far_0 1 rfl rfl)
theorem dX10_far_2 : decode cX10_far 2 = .ok (.getfield 7, 3) := dk_180 0 7 (dk_at dksX10_far_0 2 rfl rfl)
theorem dX10_far_5 : decode cX10_far 5 = .ok (.aload_n 1, 1) := dk_43 (dk_at dksX10_far_0 5 rfl rfl)
theorem dX10_far_6 : decode cX10_far 6 = .ok (.getfield 13, 3) := dk_180 0 13 (dk_at dksX10_far_0 6 rfl rfl)
theorem dX10_far_9 : decode cX10_far 9 = .ok (.invokevirtual 16, 3) := dk_182 0 16 (dk_at dksX10_far_0 9 rfl rfl)
theorem dX10_far_12 : decode cX10_far 12 = .ok (.ireturn, 1) := dk_172 (dk_at dksX10_far_0 12 rfl rfl)
abbrev cX10_far_2 : ByteArray := prog_13_method_2_code
def yX10_far_2 : MethodName := ⟨RX10, "far", "(II)I"⟩
def dkwX10_far_2_1 : List UInt8 := [100, 104, 96, 172]
abbrev dktX10_far_2_1 : List UInt8 := dkwX10_far_2_1 ++ []
def dkwX10_far_2_0 : List UInt8 := [42, 180, 0, 7, 27, 100, 42, 180, 0, 7, 27, 100, 104, 42, 180, 0, 13, 28, 100, 42, 180, 0, 13, 28]
abbrev dktX10_far_2_0 : List UInt8 := dkwX10_far_2_0 ++ dktX10_far_2_1
theorem dksX10_far_2_0 : cX10_far_2.data.toList.drop 0 = dktX10_far_2_0 := by decide +kernel
theorem dksX10_far_2_1 : cX10_far_2.data.toList.drop 24 = dktX10_far_2_1 := dk_seg dksX10_far_2_0 24 rfl rfl
theorem dX10_far_2_0 : decode cX10_far_2 0 = .ok (.aload_n 0, 1) := dk_42 (dk_at dksX10_far_2_0 0 rfl rfl)
theorem dX10_far_2_1 : decode cX10_far_2 1 = .ok (.getfield 7, 3) := dk_180 0 7 (dk_at dksX10_far_2_0 1 rfl rfl)
theorem dX10_far_2_4 : decode cX10_far_2 4 = .ok (.iload_n 1, 1) := dk_27 (dk_at dksX10_far_2_0 4 rfl rfl)
theorem dX10_far_2_5 : decode cX10_far_2 5 = .ok (.isub, 1) := dk_100 (dk_at dksX10_far_2_0 5 rfl rfl)
theorem dX10_far_2_6 : decode cX10_far_2 6 = .ok (.aload_n 0, 1) := dk_42 (dk_at dksX10_far_2_0 6 rfl rfl)
theorem dX10_far_2_7 : decode cX10_far_2 7 = .ok (.getfield 7, 3) := dk_180 0 7 (dk_at dksX10_far_2_0 7 rfl rfl)
theorem dX10_far_2_10 : decode cX10_far_2 10 = .ok (.iload_n 1, 1) := dk_27 (dk_at dksX10_far_2_0 10 rfl rfl)
theorem dX10_far_2_11 : decode cX10_far_2 11 = .ok (.isub, 1) := dk_100 (dk_at dksX10_far_2_0 11 rfl rfl)
theorem dX10_far_2_12 : decode cX10_far_2 12 = .ok (.imul, 1) := dk_104 (dk_at dksX10_far_2_0 12 rfl rfl)
theorem dX10_far_2_13 : decode cX10_far_2 13 = .ok (.aload_n 0, 1) := dk_42 (dk_at dksX10_far_2_0 13 rfl rfl)
theorem dX10_far_2_14 : decode cX10_far_2 14 = .ok (.getfield 13, 3) := dk_180 0 13 (dk_at dksX10_far_2_0 14 rfl rfl)
theorem dX10_far_2_17 : decode cX10_far_2 17 = .ok (.iload_n 2, 1) := dk_28 (dk_at dksX10_far_2_0 17 rfl rfl)
theorem dX10_far_2_18 : decode cX10_far_2 18 = .ok (.isub, 1) := dk_100 (dk_at dksX10_far_2_0 18 rfl rfl)
theorem dX10_far_2_19 : decode cX10_far_2 19 = .ok (.aload_n 0, 1) := dk_42 (dk_at dksX10_far_2_0 19 rfl rfl)
theorem dX10_far_2_20 : decode cX10_far_2 20 = .ok (.getfield 13, 3) := dk_180 0 13 (dk_at dksX10_far_2_0 20 rfl rfl)
theorem dX10_far_2_23 : decode cX10_far_2 23 = .ok (.iload_n 2, 1) := dk_28 (dk_at dksX10_far_2_0 23 rfl rfl)
theorem dX10_far_2_24 : decode cX10_far_2 24 = .ok (.isub, 1) := dk_100 (dk_at dksX10_far_2_1 0 rfl rfl)
theorem dX10_far_2_25 : decode cX10_far_2 25 = .ok (.imul, 1) := dk_104 (dk_at dksX10_far_2_1 1 rfl rfl)
theorem dX10_far_2_26 : decode cX10_far_2 26 = .ok (.iadd, 1) := dk_96 (dk_at dksX10_far_2_1 2 rfl rfl)
theorem dX10_far_2_27 : decode cX10_far_2 27 = .ok (.ireturn, 1) := dk_172 (dk_at dksX10_far_2_1 3 rfl rfl)
theorem q174 : (Jvm.Cond.initialized "SpectrumAccess$Point") ∈ lw_all := lw_g (lw_at lw_m1 35 rfl) rfl
theorem q880 : (Jvm.Cond.selects "SpectrumAccess$Point" ({ cls := "java/lang/Object", name := "getClass", desc := "()Ljava/lang/Class;" } : Jvm.MethodName) ({ cls := "java/lang/Object", name := "getClass", desc := "()Ljava/lang/Class;" } : Jvm.MethodName)) ∈ lw_all := lw_g (lw_at lw_m4 21 rfl) rfl
theorem q1378 : (Jvm.Cond.instantiable "SpectrumAccess$Point" (2 : Nat)) ∈ lw_all := lw_g (lw_at lw_m6 39 rfl) rfl
theorem q1388 : (Jvm.Cond.instanceMethod ({ cls := "SpectrumAccess$Point", name := "<init>", desc := "(II)V" } : Jvm.MethodName)) ∈ lw_all := lw_g (lw_at lw_m6 49 rfl) rfl
theorem q1389 : (Jvm.Cond.code ({ cls := "SpectrumAccess$Point", name := "<init>", desc := "(II)V" } : Jvm.MethodName) prog_13_method_1_code (3 : Nat) (Option.none : Option Jvm.ClassFile.FieldType)) ∈ lw_all := lw_g (lw_at lw_m6 50 rfl) rfl
theorem q1390 : (Jvm.Cond.methodLink "SpectrumAccess$Point" (1 : Nat) ({ cls := "java/lang/Object", name := "<init>", desc := "()V" } : Jvm.MethodName)) ∈ lw_all := lw_g (lw_at lw_m6 51 rfl) rfl
theorem q1392 : (Jvm.Cond.fieldLink "SpectrumAccess$Point" (7 : Nat) "SpectrumAccess$Point" "x" "I") ∈ lw_all := lw_g (lw_at lw_m6 53 rfl) rfl
theorem q1397 : (Jvm.Cond.fieldLink "SpectrumAccess$Point" (13 : Nat) "SpectrumAccess$Point" "y" "I") ∈ lw_all := lw_g (lw_at lw_m6 58 rfl) rfl
theorem q1401 : (Jvm.Cond.laysFinal "SpectrumAccess$Point" "SpectrumAccess$Point" "x" "I") ∈ lw_all := lw_g (lw_at lw_m6 62 rfl) rfl
theorem q1402 : (Jvm.Cond.soleField "SpectrumAccess$Point" "x") ∈ lw_all := lw_g (lw_at lw_m6 63 rfl) rfl
theorem q1403 : (Jvm.Cond.laysFinal "SpectrumAccess$Point" "SpectrumAccess$Point" "y" "I") ∈ lw_all := lw_g (lw_at lw_m6 64 rfl) rfl
theorem q1404 : (Jvm.Cond.soleField "SpectrumAccess$Point" "y") ∈ lw_all := lw_g (lw_at lw_m6 65 rfl) rfl
theorem q1405 : (Jvm.Cond.superclass "SpectrumAccess$Point" "java/lang/Object") ∈ lw_all := lw_g (lw_at lw_m6 66 rfl) rfl
theorem q1765 : (Jvm.Cond.declares ({ cls := "SpectrumAccess$Point", name := "far", desc := "(LSpectrumAccess$Point;)I" } : Jvm.MethodName)) ∈ lw_tbl := lw_at lw_m7 186 rfl
theorem q1767 : (Jvm.Cond.instanceMethod ({ cls := "SpectrumAccess$Point", name := "far", desc := "(LSpectrumAccess$Point;)I" } : Jvm.MethodName)) ∈ lw_all := lw_g (lw_at lw_m7 188 rfl) rfl
theorem q1768 : (Jvm.Cond.code ({ cls := "SpectrumAccess$Point", name := "far", desc := "(LSpectrumAccess$Point;)I" } : Jvm.MethodName) prog_13_method_3_code (2 : Nat) (Option.some Jvm.ClassFile.FieldType.int)) ∈ lw_all := lw_g (lw_at lw_m7 189 rfl) rfl
theorem q1769 : (Jvm.Cond.methodLink "SpectrumAccess$Point" (16 : Nat) ({ cls := "SpectrumAccess$Point", name := "far", desc := "(II)I" } : Jvm.MethodName)) ∈ lw_all := lw_g (lw_at lw_m7 190 rfl) rfl
theorem q1770 : (Jvm.Cond.instanceMethod ({ cls := "SpectrumAccess$Point", name := "far", desc := "(II)I" } : Jvm.MethodName)) ∈ lw_all := lw_g (lw_at lw_m7 191 rfl) rfl
theorem q1771 : (Jvm.Cond.selects "SpectrumAccess$Point" ({ cls := "SpectrumAccess$Point", name := "far", desc := "(II)I" } : Jvm.MethodName) ({ cls := "SpectrumAccess$Point", name := "far", desc := "(II)I" } : Jvm.MethodName)) ∈ lw_all := lw_g (lw_at lw_m7 192 rfl) rfl
theorem q1772 : (Jvm.Cond.sameMethod "SpectrumAccess$Point" "SpectrumAccess$Point" "far" "(II)I") ∈ lw_all := lw_g (lw_at lw_m7 193 rfl) rfl
theorem q1776 : (Jvm.Cond.code ({ cls := "SpectrumAccess$Point", name := "far", desc := "(II)I" } : Jvm.MethodName) prog_13_method_2_code (3 : Nat) (Option.some Jvm.ClassFile.FieldType.int)) ∈ lw_all := lw_g (lw_at lw_m7 197 rfl) rfl
theorem q1829 : (Jvm.Cond.declares ({ cls := "SpectrumAccess$Point", name := "far", desc := "(II)I" } : Jvm.MethodName)) ∈ lw_tbl := lw_at lw_m8 10 rfl
theorem q3468 : (Jvm.Cond.sameMethod "SpectrumAccess$Point" "SpectrumAccess$Point" "far" "(LSpectrumAccess$Point;)I") ∈ lw_all := lw_g (lw_at lw_m14 209 rfl) rfl
theorem q3471 : (Jvm.Cond.selects "SpectrumAccess$Point" ({ cls := "SpectrumAccess$Point", name := "far", desc := "(LSpectrumAccess$Point;)I" } : Jvm.MethodName) ({ cls := "SpectrumAccess$Point", name := "far", desc := "(LSpectrumAccess$Point;)I" } : Jvm.MethodName)) ∈ lw_all := lw_g (lw_at lw_m14 212 rfl) rfl
theorem q3504 : (Jvm.Cond.castable "SpectrumAccess$Point" "java/lang/Object") ∈ lw_tbl := lw_at lw_m15 5 rfl
theorem in_X10 : ∀ w ∈ wsX100, w ∈ lw_all := lw_in wsX100 [1401, 1403] (by decide +kernel) (by decide +kernel)


/-! SpectrumAccess$Incumbent -/
set_option maxRecDepth 100000
def RX11 : String := "SpectrumAccess$Incumbent"
def TX11 : u_T := fun k => match k with
  | 0 => ("SpectrumAccess$Point", "x", "I", true)
  | 1 => ("SpectrumAccess$Point", "y", "I", true)
  | 2 => ("SpectrumAccess$Incumbent", "first", "I", true)
  | 3 => ("SpectrumAccess$Incumbent", "last", "I", true)
  | 4 => ("SpectrumAccess$Incumbent", "limit", "I", true)
  | 5 => ("SpectrumAccess$Incumbent", "from", "I", true)
  | _ => ("SpectrumAccess$Incumbent", "isAnnounced", "Z", true)
def tyX11 : Nat → FieldType := fun k => match k with
  | 0 => .int
  | 1 => .int
  | 2 => .int
  | 3 => .int
  | 4 => .int
  | 5 => .int
  | _ => .boolean
abbrev wsX110 : List Cond := u_ws RX11 TX11 7
theorem nmX11 : ∀ a, a < 7 → ∀ b, b < 7 → a ≠ b → (TX11 a).2.1 ≠ (TX11 b).2.1 := by decide +kernel
theorem tyX11_ok : ∀ k, k < 7 → parseFieldDescriptor (TX11 k).2.2.1 = some (tyX11 k) := by decide +kernel
abbrev cX11_init : ByteArray := prog_8_method_1_code
def yX11_init : MethodName := ⟨RX11, "<init>", "(LSpectrumAccess$Point;IIIIZ)V"⟩
def dkwX11_init_1 : List UInt8 := [21, 4, 181, 0, 22, 42, 21, 5, 181, 0, 25, 42, 21, 6, 181, 0, 28, 177]
abbrev dktX11_init_1 : List UInt8 := dkwX11_init_1 ++ []
def dkwX11_init_0 : List UInt8 := [42, 43, 180, 0, 1, 43, 180, 0, 7, 183, 0, 10, 42, 28, 181, 0, 14, 42, 29, 181, 0, 19, 42]
abbrev dktX11_init_0 : List UInt8 := dkwX11_init_0 ++ dktX11_init_1
theorem dksX11_init_0 : cX11_init.data.toList.drop 0 = dktX11_init_0 := by decide +kernel
theorem dksX11_init_1 : cX11_init.data.toList.drop 23 = dktX11_init_1 := dk_seg dksX11_init_0 23 rfl rfl
theorem dX11_init_0 : decode cX11_init 0 = .ok (.aload_n 0, 1) := dk_42 (dk_at dksX11_init_0 0 rfl rfl)
theorem dX11_init_1 : decode cX11_init 1 = .ok (.aload_n 1, 1) := dk_43 (dk_at dksX11_init_0 1 rfl rfl)
theorem dX11_init_2 : decode cX11_init 2 = .ok (.getfield 1, 3) := dk_180 0 1 (dk_at dksX11_init_0 2 rfl rfl)
theorem dX11_init_5 : decode cX11_init 5 = .ok (.aload_n 1, 1) := dk_43 (dk_at dksX11_init_0 5 rfl rfl)
theorem dX11_init_6 : decode cX11_init 6 = .ok (.getfield 7, 3) := dk_180 0 7 (dk_at dksX11_init_0 6 rfl rfl)
theorem dX11_init_9 : decode cX11_init 9 = .ok (.invokespecial 10, 3) := dk_183 0 10 (dk_at dksX11_init_0 9 rfl rfl)
theorem dX11_init_12 : decode cX11_init 12 = .ok (.aload_n 0, 1) := dk_42 (dk_at dksX11_init_0 12 rfl rfl)
theorem dX11_init_13 : decode cX11_init 13 = .ok (.iload_n 2, 1) := dk_28 (dk_at dksX11_init_0 13 rfl rfl)
theorem dX11_init_14 : decode cX11_init 14 = .ok (.putfield 14, 3) := dk_181 0 14 (dk_at dksX11_init_0 14 rfl rfl)
theorem dX11_init_17 : decode cX11_init 17 = .ok (.aload_n 0, 1) := dk_42 (dk_at dksX11_init_0 17 rfl rfl)
theorem dX11_init_18 : decode cX11_init 18 = .ok (.iload_n 3, 1) := dk_29 (dk_at dksX11_init_0 18 rfl rfl)
theorem dX11_init_19 : decode cX11_init 19 = .ok (.putfield 19, 3) := dk_181 0 19 (dk_at dksX11_init_0 19 rfl rfl)
theorem dX11_init_22 : decode cX11_init 22 = .ok (.aload_n 0, 1) := dk_42 (dk_at dksX11_init_0 22 rfl rfl)
theorem dX11_init_23 : decode cX11_init 23 = .ok (.iload 4, 2) := dk_21 4 (dk_at dksX11_init_1 0 rfl rfl)
theorem dX11_init_25 : decode cX11_init 25 = .ok (.putfield 22, 3) := dk_181 0 22 (dk_at dksX11_init_1 2 rfl rfl)
theorem dX11_init_28 : decode cX11_init 28 = .ok (.aload_n 0, 1) := dk_42 (dk_at dksX11_init_1 5 rfl rfl)
theorem dX11_init_29 : decode cX11_init 29 = .ok (.iload 5, 2) := dk_21 5 (dk_at dksX11_init_1 6 rfl rfl)
theorem dX11_init_31 : decode cX11_init 31 = .ok (.putfield 25, 3) := dk_181 0 25 (dk_at dksX11_init_1 8 rfl rfl)
theorem dX11_init_34 : decode cX11_init 34 = .ok (.aload_n 0, 1) := dk_42 (dk_at dksX11_init_1 11 rfl rfl)
theorem dX11_init_35 : decode cX11_init 35 = .ok (.iload 6, 2) := dk_21 6 (dk_at dksX11_init_1 12 rfl rfl)
theorem dX11_init_37 : decode cX11_init 37 = .ok (.putfield 28, 3) := dk_181 0 28 (dk_at dksX11_init_1 14 rfl rfl)
theorem dX11_init_40 : decode cX11_init 40 = .ok (.return_, 1) := dk_177 (dk_at dksX11_init_1 17 rfl rfl)
theorem q175 : (Jvm.Cond.initialized "SpectrumAccess$Incumbent") ∈ lw_all := lw_g (lw_at lw_m1 36 rfl) rfl
theorem q875 : (Jvm.Cond.selects "SpectrumAccess$Incumbent" ({ cls := "java/lang/Object", name := "getClass", desc := "()Ljava/lang/Class;" } : Jvm.MethodName) ({ cls := "java/lang/Object", name := "getClass", desc := "()Ljava/lang/Class;" } : Jvm.MethodName)) ∈ lw_all := lw_g (lw_at lw_m4 16 rfl) rfl
theorem q1391 : (Jvm.Cond.fieldLinkNest "SpectrumAccess$Incumbent" (1 : Nat) "SpectrumAccess$Point" "x" "I" "SpectrumAccess") ∈ lw_tbl := lw_at lw_m6 52 rfl
theorem q1396 : (Jvm.Cond.fieldLinkNest "SpectrumAccess$Incumbent" (7 : Nat) "SpectrumAccess$Point" "y" "I" "SpectrumAccess") ∈ lw_tbl := lw_at lw_m6 57 rfl
theorem q1407 : (Jvm.Cond.instantiable "SpectrumAccess$Incumbent" (7 : Nat)) ∈ lw_all := lw_g (lw_at lw_m6 68 rfl) rfl
theorem q1410 : (Jvm.Cond.instanceMethod ({ cls := "SpectrumAccess$Incumbent", name := "<init>", desc := "(LSpectrumAccess$Point;IIIIZ)V" } : Jvm.MethodName)) ∈ lw_all := lw_g (lw_at lw_m6 71 rfl) rfl
theorem q1411 : (Jvm.Cond.code ({ cls := "SpectrumAccess$Incumbent", name := "<init>", desc := "(LSpectrumAccess$Point;IIIIZ)V" } : Jvm.MethodName) prog_8_method_1_code (7 : Nat) (Option.none : Option Jvm.ClassFile.FieldType)) ∈ lw_all := lw_g (lw_at lw_m6 72 rfl) rfl
theorem q1412 : (Jvm.Cond.methodLink "SpectrumAccess$Incumbent" (10 : Nat) ({ cls := "SpectrumAccess$Point", name := "<init>", desc := "(II)V" } : Jvm.MethodName)) ∈ lw_all := lw_g (lw_at lw_m6 73 rfl) rfl
theorem q1413 : (Jvm.Cond.fieldLink "SpectrumAccess$Incumbent" (14 : Nat) "SpectrumAccess$Incumbent" "first" "I") ∈ lw_all := lw_g (lw_at lw_m6 74 rfl) rfl
theorem q1415 : (Jvm.Cond.fieldLink "SpectrumAccess$Incumbent" (19 : Nat) "SpectrumAccess$Incumbent" "last" "I") ∈ lw_all := lw_g (lw_at lw_m6 76 rfl) rfl
theorem q1417 : (Jvm.Cond.fieldLink "SpectrumAccess$Incumbent" (22 : Nat) "SpectrumAccess$Incumbent" "limit" "I") ∈ lw_all := lw_g (lw_at lw_m6 78 rfl) rfl
theorem q1419 : (Jvm.Cond.fieldLink "SpectrumAccess$Incumbent" (25 : Nat) "SpectrumAccess$Incumbent" "from" "I") ∈ lw_all := lw_g (lw_at lw_m6 80 rfl) rfl
theorem q1421 : (Jvm.Cond.fieldLink "SpectrumAccess$Incumbent" (28 : Nat) "SpectrumAccess$Incumbent" "isAnnounced" "Z") ∈ lw_all := lw_g (lw_at lw_m6 82 rfl) rfl
theorem q1423 : (Jvm.Cond.laysFinal "SpectrumAccess$Incumbent" "SpectrumAccess$Incumbent" "first" "I") ∈ lw_all := lw_g (lw_at lw_m6 84 rfl) rfl
theorem q1424 : (Jvm.Cond.soleField "SpectrumAccess$Incumbent" "first") ∈ lw_all := lw_g (lw_at lw_m6 85 rfl) rfl
theorem q1425 : (Jvm.Cond.laysFinal "SpectrumAccess$Incumbent" "SpectrumAccess$Incumbent" "last" "I") ∈ lw_all := lw_g (lw_at lw_m6 86 rfl) rfl
theorem q1426 : (Jvm.Cond.soleField "SpectrumAccess$Incumbent" "last") ∈ lw_all := lw_g (lw_at lw_m6 87 rfl) rfl
theorem q1427 : (Jvm.Cond.laysFinal "SpectrumAccess$Incumbent" "SpectrumAccess$Incumbent" "limit" "I") ∈ lw_all := lw_g (lw_at lw_m6 88 rfl) rfl
theorem q1428 : (Jvm.Cond.soleField "SpectrumAccess$Incumbent" "limit") ∈ lw_all := lw_g (lw_at lw_m6 89 rfl) rfl
theorem q1429 : (Jvm.Cond.laysFinal "SpectrumAccess$Incumbent" "SpectrumAccess$Incumbent" "from" "I") ∈ lw_all := lw_g (lw_at lw_m6 90 rfl) rfl
theorem q1430 : (Jvm.Cond.soleField "SpectrumAccess$Incumbent" "from") ∈ lw_all := lw_g (lw_at lw_m6 91 rfl) rfl
theorem q1431 : (Jvm.Cond.laysFinal "SpectrumAccess$Incumbent" "SpectrumAccess$Incumbent" "isAnnounced" "Z") ∈ lw_all := lw_g (lw_at lw_m6 92 rfl) rfl
theorem q1432 : (Jvm.Cond.soleField "SpectrumAccess$Incumbent" "isAnnounced") ∈ lw_all := lw_g (lw_at lw_m6 93 rfl) rfl
theorem q1433 : (Jvm.Cond.laysFinal "SpectrumAccess$Incumbent" "SpectrumAccess$Point" "x" "I") ∈ lw_all := lw_g (lw_at lw_m6 94 rfl) rfl
theorem q1434 : (Jvm.Cond.laysFinal "SpectrumAccess$Incumbent" "SpectrumAccess$Point" "y" "I") ∈ lw_all := lw_g (lw_at lw_m6 95 rfl) rfl
theorem q1435 : (Jvm.Cond.superclass "SpectrumAccess$Incumbent" "SpectrumAccess$Point") ∈ lw_all := lw_g (lw_at lw_m6 96 rfl) rfl
theorem q1774 : (Jvm.Cond.selects "SpectrumAccess$Incumbent" ({ cls := "SpectrumAccess$Point", name := "far", desc := "(II)I" } : Jvm.MethodName) ({ cls := "SpectrumAccess$Point", name := "far", desc := "(II)I" } : Jvm.MethodName)) ∈ lw_all := lw_g (lw_at lw_m7 195 rfl) rfl
theorem q3470 : (Jvm.Cond.selects "SpectrumAccess$Incumbent" ({ cls := "SpectrumAccess$Point", name := "far", desc := "(LSpectrumAccess$Point;)I" } : Jvm.MethodName) ({ cls := "SpectrumAccess$Point", name := "far", desc := "(LSpectrumAccess$Point;)I" } : Jvm.MethodName)) ∈ lw_all := lw_g (lw_at lw_m14 211 rfl) rfl
theorem q3485 : (Jvm.Cond.castable "SpectrumAccess$Incumbent" "SpectrumAccess$Point") ∈ lw_tbl := lw_at lw_m14 226 rfl
theorem q3505 : (Jvm.Cond.castable "SpectrumAccess$Incumbent" "java/lang/Object") ∈ lw_tbl := lw_at lw_m15 6 rfl
theorem in_X11 : ∀ w ∈ wsX110, w ∈ lw_all := lw_in wsX110 [1433, 1434, 1423, 1425, 1427, 1429, 1431] (by decide +kernel) (by decide +kernel)


/-! SpectrumAccess$Sensor -/
set_option maxRecDepth 100000
def RX12 : String := "SpectrumAccess$Sensor"
def TX12 : u_T := fun k => match k with
  | 0 => ("SpectrumAccess$Point", "x", "I", true)
  | 1 => ("SpectrumAccess$Point", "y", "I", true)
  | _ => ("SpectrumAccess$Sensor", "range", "I", true)
def tyX12 : Nat → FieldType := fun k => match k with
  | 0 => .int
  | 1 => .int
  | _ => .int
abbrev wsX120 : List Cond := u_ws RX12 TX12 3
theorem nmX12 : ∀ a, a < 3 → ∀ b, b < 3 → a ≠ b → (TX12 a).2.1 ≠ (TX12 b).2.1 := by decide +kernel
theorem tyX12_ok : ∀ k, k < 3 → parseFieldDescriptor (TX12 k).2.2.1 = some (tyX12 k) := by decide +kernel
abbrev cX12_init : ByteArray := prog_16_method_1_code
def yX12_init : MethodName := ⟨RX12, "<init>", "(III)V"⟩
def dkwX12_init_0 : List UInt8 := [42, 27, 28, 183, 0, 1, 42, 29, 181, 0, 7, 177]
abbrev dktX12_init_0 : List UInt8 := dkwX12_init_0 ++ []
theorem dksX12_init_0 : cX12_init.data.toList.drop 0 = dktX12_init_0 := by decide +kernel
theorem dX12_init_0 : decode cX12_init 0 = .ok (.aload_n 0, 1) := dk_42 (dk_at dksX12_init_0 0 rfl rfl)
theorem dX12_init_1 : decode cX12_init 1 = .ok (.iload_n 1, 1) := dk_27 (dk_at dksX12_init_0 1 rfl rfl)
theorem dX12_init_2 : decode cX12_init 2 = .ok (.iload_n 2, 1) := dk_28 (dk_at dksX12_init_0 2 rfl rfl)
theorem dX12_init_3 : decode cX12_init 3 = .ok (.invokespecial 1, 3) := dk_183 0 1 (dk_at dksX12_init_0 3 rfl rfl)
theorem dX12_init_6 : decode cX12_init 6 = .ok (.aload_n 0, 1) := dk_42 (dk_at dksX12_init_0 6 rfl rfl)
theorem dX12_init_7 : decode cX12_init 7 = .ok (.iload_n 3, 1) := dk_29 (dk_at dksX12_init_0 7 rfl rfl)
theorem dX12_init_8 : decode cX12_init 8 = .ok (.putfield 7, 3) := dk_181 0 7 (dk_at dksX12_init_0 8 rfl rfl)
theorem dX12_init_11 : decode cX12_init 11 = .ok (.return_, 1) := dk_177 (dk_at dksX12_init_0 11 rfl rfl)
abbrev cX12_senses : ByteArray := prog_16_method_2_code
def yX12_senses : MethodName := ⟨RX12, "senses", "(LSpectrumAccess$Point;)Z"⟩
def dkwX12_senses_0 : List UInt8 := [42, 43, 182, 0, 13, 42, 180, 0, 7, 42, 180, 0, 7, 104, 163, 0, 7, 4, 167, 0, 4, 3, 172]
abbrev dktX12_senses_0 : List UInt8 := dkwX12_senses_0 ++ []
theorem dksX12_senses_0 : cX12_senses.data.toList.drop 0 = dktX12_senses_0 := by decide +kernel
theorem dX12_senses_0 : decode cX12_senses 0 = .ok (.aload_n 0, 1) := dk_42 (dk_at dksX12_senses_0 0 rfl rfl)
theorem dX12_senses_1 : decode cX12_senses 1 = .ok (.aload_n 1, 1) := dk_43 (dk_at dksX12_senses_0 1 rfl rfl)
theorem dX12_senses_2 : decode cX12_senses 2 = .ok (.invokevirtual 13, 3) := dk_182 0 13 (dk_at dksX12_senses_0 2 rfl rfl)
theorem dX12_senses_5 : decode cX12_senses 5 = .ok (.aload_n 0, 1) := dk_42 (dk_at dksX12_senses_0 5 rfl rfl)
theorem dX12_senses_6 : decode cX12_senses 6 = .ok (.getfield 7, 3) := dk_180 0 7 (dk_at dksX12_senses_0 6 rfl rfl)
theorem dX12_senses_9 : decode cX12_senses 9 = .ok (.aload_n 0, 1) := dk_42 (dk_at dksX12_senses_0 9 rfl rfl)
theorem dX12_senses_10 : decode cX12_senses 10 = .ok (.getfield 7, 3) := dk_180 0 7 (dk_at dksX12_senses_0 10 rfl rfl)
theorem dX12_senses_13 : decode cX12_senses 13 = .ok (.imul, 1) := dk_104 (dk_at dksX12_senses_0 13 rfl rfl)
theorem dX12_senses_14 : decode cX12_senses 14 = .ok (.if_icmp .gt 7, 3) := dk_163 0 7 (dk_at dksX12_senses_0 14 rfl rfl)
theorem dX12_senses_17 : decode cX12_senses 17 = .ok (.iconst 1, 1) := dk_4 (dk_at dksX12_senses_0 17 rfl rfl)
theorem dX12_senses_18 : decode cX12_senses 18 = .ok (.goto 4, 3) := dk_167 0 4 (dk_at dksX12_senses_0 18 rfl rfl)
theorem dX12_senses_21 : decode cX12_senses 21 = .ok (.iconst 0, 1) := dk_3 (dk_at dksX12_senses_0 21 rfl rfl)
theorem dX12_senses_22 : decode cX12_senses 22 = .ok (.ireturn, 1) := dk_172 (dk_at dksX12_senses_0 22 rfl rfl)
theorem q176 : (Jvm.Cond.initialized "SpectrumAccess$Sensor") ∈ lw_all := lw_g (lw_at lw_m1 37 rfl) rfl
theorem q882 : (Jvm.Cond.selects "SpectrumAccess$Sensor" ({ cls := "java/lang/Object", name := "getClass", desc := "()Ljava/lang/Class;" } : Jvm.MethodName) ({ cls := "java/lang/Object", name := "getClass", desc := "()Ljava/lang/Class;" } : Jvm.MethodName)) ∈ lw_all := lw_g (lw_at lw_m4 23 rfl) rfl
theorem q1443 : (Jvm.Cond.instantiable "SpectrumAccess$Sensor" (3 : Nat)) ∈ lw_all := lw_g (lw_at lw_m6 104 rfl) rfl
theorem q1445 : (Jvm.Cond.instanceMethod ({ cls := "SpectrumAccess$Sensor", name := "<init>", desc := "(III)V" } : Jvm.MethodName)) ∈ lw_all := lw_g (lw_at lw_m6 106 rfl) rfl
theorem q1446 : (Jvm.Cond.code ({ cls := "SpectrumAccess$Sensor", name := "<init>", desc := "(III)V" } : Jvm.MethodName) prog_16_method_1_code (4 : Nat) (Option.none : Option Jvm.ClassFile.FieldType)) ∈ lw_all := lw_g (lw_at lw_m6 107 rfl) rfl
theorem q1447 : (Jvm.Cond.methodLink "SpectrumAccess$Sensor" (1 : Nat) ({ cls := "SpectrumAccess$Point", name := "<init>", desc := "(II)V" } : Jvm.MethodName)) ∈ lw_all := lw_g (lw_at lw_m6 108 rfl) rfl
theorem q1448 : (Jvm.Cond.fieldLink "SpectrumAccess$Sensor" (7 : Nat) "SpectrumAccess$Sensor" "range" "I") ∈ lw_all := lw_g (lw_at lw_m6 109 rfl) rfl
theorem q1449 : (Jvm.Cond.laysFinal "SpectrumAccess$Sensor" "SpectrumAccess$Sensor" "range" "I") ∈ lw_all := lw_g (lw_at lw_m6 110 rfl) rfl
theorem q1450 : (Jvm.Cond.soleField "SpectrumAccess$Sensor" "range") ∈ lw_all := lw_g (lw_at lw_m6 111 rfl) rfl
theorem q1451 : (Jvm.Cond.laysFinal "SpectrumAccess$Sensor" "SpectrumAccess$Point" "x" "I") ∈ lw_all := lw_g (lw_at lw_m6 112 rfl) rfl
theorem q1452 : (Jvm.Cond.laysFinal "SpectrumAccess$Sensor" "SpectrumAccess$Point" "y" "I") ∈ lw_all := lw_g (lw_at lw_m6 113 rfl) rfl
theorem q1453 : (Jvm.Cond.superclass "SpectrumAccess$Sensor" "SpectrumAccess$Point") ∈ lw_all := lw_g (lw_at lw_m6 114 rfl) rfl
theorem q1760 : (Jvm.Cond.instanceMethod ({ cls := "SpectrumAccess$Sensor", name := "senses", desc := "(LSpectrumAccess$Point;)Z" } : Jvm.MethodName)) ∈ lw_all := lw_g (lw_at lw_m7 181 rfl) rfl
theorem q1761 : (Jvm.Cond.selects "SpectrumAccess$Sensor" ({ cls := "SpectrumAccess$Sensor", name := "senses", desc := "(LSpectrumAccess$Point;)Z" } : Jvm.MethodName) ({ cls := "SpectrumAccess$Sensor", name := "senses", desc := "(LSpectrumAccess$Point;)Z" } : Jvm.MethodName)) ∈ lw_all := lw_g (lw_at lw_m7 182 rfl) rfl
theorem q1762 : (Jvm.Cond.code ({ cls := "SpectrumAccess$Sensor", name := "senses", desc := "(LSpectrumAccess$Point;)Z" } : Jvm.MethodName) prog_16_method_2_code (2 : Nat) (Option.some Jvm.ClassFile.FieldType.boolean)) ∈ lw_all := lw_g (lw_at lw_m7 183 rfl) rfl
theorem q1763 : (Jvm.Cond.methodLink "SpectrumAccess$Sensor" (13 : Nat) ({ cls := "SpectrumAccess$Sensor", name := "far", desc := "(LSpectrumAccess$Point;)I" } : Jvm.MethodName)) ∈ lw_all := lw_g (lw_at lw_m7 184 rfl) rfl
theorem q1764 : (Jvm.Cond.sameMethod "SpectrumAccess$Sensor" "SpectrumAccess$Point" "far" "(LSpectrumAccess$Point;)I") ∈ lw_all := lw_g (lw_at lw_m7 185 rfl) rfl
theorem q1766 : (Jvm.Cond.selects "SpectrumAccess$Sensor" ({ cls := "SpectrumAccess$Sensor", name := "far", desc := "(LSpectrumAccess$Point;)I" } : Jvm.MethodName) ({ cls := "SpectrumAccess$Point", name := "far", desc := "(LSpectrumAccess$Point;)I" } : Jvm.MethodName)) ∈ lw_all := lw_g (lw_at lw_m7 187 rfl) rfl
theorem q1775 : (Jvm.Cond.selects "SpectrumAccess$Sensor" ({ cls := "SpectrumAccess$Point", name := "far", desc := "(II)I" } : Jvm.MethodName) ({ cls := "SpectrumAccess$Point", name := "far", desc := "(II)I" } : Jvm.MethodName)) ∈ lw_all := lw_g (lw_at lw_m7 196 rfl) rfl
theorem q3472 : (Jvm.Cond.selects "SpectrumAccess$Sensor" ({ cls := "SpectrumAccess$Point", name := "far", desc := "(LSpectrumAccess$Point;)I" } : Jvm.MethodName) ({ cls := "SpectrumAccess$Point", name := "far", desc := "(LSpectrumAccess$Point;)I" } : Jvm.MethodName)) ∈ lw_all := lw_g (lw_at lw_m14 213 rfl) rfl
theorem q3486 : (Jvm.Cond.castable "SpectrumAccess$Sensor" "SpectrumAccess$Point") ∈ lw_tbl := lw_at lw_m14 227 rfl
theorem q3506 : (Jvm.Cond.castable "SpectrumAccess$Sensor" "java/lang/Object") ∈ lw_tbl := lw_at lw_m15 7 rfl
theorem in_X12 : ∀ w ∈ wsX120, w ∈ lw_all := lw_in wsX120 [1451, 1452, 1449] (by decide +kernel) (by decide +kernel)


/-! SpectrumAccess$Licence -/
set_option maxRecDepth 100000
def RX13 : String := "SpectrumAccess$Licence"
def TX13 : u_T := fun k => match k with
  | 0 => ("SpectrumAccess$Licence", "left", "I", true)
  | 1 => ("SpectrumAccess$Licence", "low", "I", true)
  | 2 => ("SpectrumAccess$Licence", "right", "I", true)
  | 3 => ("SpectrumAccess$Licence", "high", "I", true)
  | 4 => ("SpectrumAccess$Licence", "count", "I", true)
  | _ => ("SpectrumAccess$Licence", "channels", "I", false)
def tyX13 : Nat → FieldType := fun k => match k with
  | 0 => .int
  | 1 => .int
  | 2 => .int
  | 3 => .int
  | 4 => .int
  | _ => .int
abbrev wsX130 : List Cond := u_ws RX13 TX13 6
theorem nmX13 : ∀ a, a < 6 → ∀ b, b < 6 → a ≠ b → (TX13 a).2.1 ≠ (TX13 b).2.1 := by decide +kernel
theorem tyX13_ok : ∀ k, k < 6 → parseFieldDescriptor (TX13 k).2.2.1 = some (tyX13 k) := by decide +kernel
abbrev cX13_init : ByteArray := prog_9_method_1_code
def yX13_init : MethodName := ⟨RX13, "<init>", "(IIIII)V"⟩
def dkwX13_init_1 : List UInt8 := [181, 0, 19, 42, 21, 5, 181, 0, 22, 177]
abbrev dktX13_init_1 : List UInt8 := dkwX13_init_1 ++ []
def dkwX13_init_0 : List UInt8 := [42, 183, 0, 1, 42, 27, 181, 0, 7, 42, 28, 181, 0, 13, 42, 29, 181, 0, 16, 42, 21, 4]
abbrev dktX13_init_0 : List UInt8 := dkwX13_init_0 ++ dktX13_init_1
theorem dksX13_init_0 : cX13_init.data.toList.drop 0 = dktX13_init_0 := by decide +kernel
theorem dksX13_init_1 : cX13_init.data.toList.drop 22 = dktX13_init_1 := dk_seg dksX13_init_0 22 rfl rfl
theorem dX13_init_0 : decode cX13_init 0 = .ok (.aload_n 0, 1) := dk_42 (dk_at dksX13_init_0 0 rfl rfl)
theorem dX13_init_1 : decode cX13_init 1 = .ok (.invokespecial 1, 3) := dk_183 0 1 (dk_at dksX13_init_0 1 rfl rfl)
theorem dX13_init_4 : decode cX13_init 4 = .ok (.aload_n 0, 1) := dk_42 (dk_at dksX13_init_0 4 rfl rfl)
theorem dX13_init_5 : decode cX13_init 5 = .ok (.iload_n 1, 1) := dk_27 (dk_at dksX13_init_0 5 rfl rfl)
theorem dX13_init_6 : decode cX13_init 6 = .ok (.putfield 7, 3) := dk_181 0 7 (dk_at dksX13_init_0 6 rfl rfl)
theorem dX13_init_9 : decode cX13_init 9 = .ok (.aload_n 0, 1) := dk_42 (dk_at dksX13_init_0 9 rfl rfl)
theorem dX13_init_10 : decode cX13_init 10 = .ok (.iload_n 2, 1) := dk_28 (dk_at dksX13_init_0 10 rfl rfl)
theorem dX13_init_11 : decode cX13_init 11 = .ok (.putfield 13, 3) := dk_181 0 13 (dk_at dksX13_init_0 11 rfl rfl)
theorem dX13_init_14 : decode cX13_init 14 = .ok (.aload_n 0, 1) := dk_42 (dk_at dksX13_init_0 14 rfl rfl)
theorem dX13_init_15 : decode cX13_init 15 = .ok (.iload_n 3, 1) := dk_29 (dk_at dksX13_init_0 15 rfl rfl)
theorem dX13_init_16 : decode cX13_init 16 = .ok (.putfield 16, 3) := dk_181 0 16 (dk_at dksX13_init_0 16 rfl rfl)
theorem dX13_init_19 : decode cX13_init 19 = .ok (.aload_n 0, 1) := dk_42 (dk_at dksX13_init_0 19 rfl rfl)
theorem dX13_init_20 : decode cX13_init 20 = .ok (.iload 4, 2) := dk_21 4 (dk_at dksX13_init_0 20 rfl rfl)
theorem dX13_init_22 : decode cX13_init 22 = .ok (.putfield 19, 3) := dk_181 0 19 (dk_at dksX13_init_1 0 rfl rfl)
theorem dX13_init_25 : decode cX13_init 25 = .ok (.aload_n 0, 1) := dk_42 (dk_at dksX13_init_1 3 rfl rfl)
theorem dX13_init_26 : decode cX13_init 26 = .ok (.iload 5, 2) := dk_21 5 (dk_at dksX13_init_1 4 rfl rfl)
theorem dX13_init_28 : decode cX13_init 28 = .ok (.putfield 22, 3) := dk_181 0 22 (dk_at dksX13_init_1 6 rfl rfl)
theorem dX13_init_31 : decode cX13_init 31 = .ok (.return_, 1) := dk_177 (dk_at dksX13_init_1 9 rfl rfl)
abbrev cX13_left : ByteArray := prog_9_method_2_code
def yX13_left : MethodName := ⟨RX13, "left", "()I"⟩
theorem dX13_left_0 : decode cX13_left 0 = .ok (.aload_n 0, 1) := by decide +kernel
theorem dX13_left_1 : decode cX13_left 1 = .ok (.getfield 7, 3) := by decide +kernel
theorem dX13_left_4 : decode cX13_left 4 = .ok (.ireturn, 1) := by decide +kernel
abbrev cX13_right : ByteArray := prog_9_method_3_code
def yX13_right : MethodName := ⟨RX13, "right", "()I"⟩
theorem dX13_right_0 : decode cX13_right 0 = .ok (.aload_n 0, 1) := by decide +kernel
theorem dX13_right_1 : decode cX13_right 1 = .ok (.getfield 16, 3) := by decide +kernel
theorem dX13_right_4 : decode cX13_right 4 = .ok (.ireturn, 1) := by decide +kernel
abbrev cX13_low : ByteArray := prog_9_method_4_code
def yX13_low : MethodName := ⟨RX13, "low", "()I"⟩
theorem dX13_low_0 : decode cX13_low 0 = .ok (.aload_n 0, 1) := by decide +kernel
theorem dX13_low_1 : decode cX13_low 1 = .ok (.getfield 13, 3) := by decide +kernel
theorem dX13_low_4 : decode cX13_low 4 = .ok (.ireturn, 1) := by decide +kernel
abbrev cX13_high : ByteArray := prog_9_method_5_code
def yX13_high : MethodName := ⟨RX13, "high", "()I"⟩
theorem dX13_high_0 : decode cX13_high 0 = .ok (.aload_n 0, 1) := by decide +kernel
theorem dX13_high_1 : decode cX13_high 1 = .ok (.getfield 19, 3) := by decide +kernel
theorem dX13_high_4 : decode cX13_high 4 = .ok (.ireturn, 1) := by decide +kernel
abbrev cX13_take : ByteArray := prog_9_method_7_code
def yX13_take : MethodName := ⟨RX13, "take", "(II)V"⟩
def dkwX13_take_3 : List UInt8 := [89, 180, 0, 25, 27, 4, 21, 4, 120, 126, 128, 181, 0, 25, 132, 4, 1, 167, 255, 218, 177]
abbrev dktX13_take_3 : List UInt8 := dkwX13_take_3 ++ []
def dkwX13_take_2 : List UInt8 := [3, 54, 4, 21, 4, 28, 162, 0, 38, 42, 180, 0, 25, 184, 0, 28, 42, 180, 0, 22, 162, 0, 24, 42]
abbrev dktX13_take_2 : List UInt8 := dkwX13_take_2 ++ dktX13_take_3
def dkwX13_take_1 : List UInt8 := [21, 4, 122, 29, 126, 29, 160, 0, 12, 42, 29, 21, 4, 120, 181, 0, 25, 177, 132, 4, 1, 167, 255, 223]
abbrev dktX13_take_1 : List UInt8 := dkwX13_take_1 ++ dktX13_take_2
def dkwX13_take_0 : List UInt8 := [4, 42, 180, 0, 22, 120, 4, 100, 62, 3, 54, 4, 21, 4, 42, 180, 0, 22, 96, 28, 163, 0, 28, 27]
abbrev dktX13_take_0 : List UInt8 := dkwX13_take_0 ++ dktX13_take_1
theorem dksX13_take_0 : cX13_take.data.toList.drop 0 = dktX13_take_0 := by decide +kernel
theorem dksX13_take_1 : cX13_take.data.toList.drop 24 = dktX13_take_1 := dk_seg dksX13_take_0 24 rfl rfl
theorem dksX13_take_2 : cX13_take.data.toList.drop 48 = dktX13_take_2 := dk_seg dksX13_take_1 24 rfl rfl
theorem dksX13_take_3 : cX13_take.data.toList.drop 72 = dktX13_take_3 := dk_seg dksX13_take_2 24 rfl rfl
theorem dX13_take_0 : decode cX13_take 0 = .ok (.iconst 1, 1) := dk_4 (dk_at dksX13_take_0 0 rfl rfl)
theorem dX13_take_1 : decode cX13_take 1 = .ok (.aload_n 0, 1) := dk_42 (dk_at dksX13_take_0 1 rfl rfl)
theorem dX13_take_2 : decode cX13_take 2 = .ok (.getfield 22, 3) := dk_180 0 22 (dk_at dksX13_take_0 2 rfl rfl)
theorem dX13_take_5 : decode cX13_take 5 = .ok (.ishl, 1) := dk_120 (dk_at dksX13_take_0 5 rfl rfl)
theorem dX13_take_6 : decode cX13_take 6 = .ok (.iconst 1, 1) := dk_4 (dk_at dksX13_take_0 6 rfl rfl)
theorem dX13_take_7 : decode cX13_take 7 = .ok (.isub, 1) := dk_100 (dk_at dksX13_take_0 7 rfl rfl)
theorem dX13_take_8 : decode cX13_take 8 = .ok (.istore_n 3, 1) := dk_62 (dk_at dksX13_take_0 8 rfl rfl)
theorem dX13_take_9 : decode cX13_take 9 = .ok (.iconst 0, 1) := dk_3 (dk_at dksX13_take_0 9 rfl rfl)
theorem dX13_take_10 : decode cX13_take 10 = .ok (.istore 4, 2) := dk_54 4 (dk_at dksX13_take_0 10 rfl rfl)
theorem dX13_take_12 : decode cX13_take 12 = .ok (.iload 4, 2) := dk_21 4 (dk_at dksX13_take_0 12 rfl rfl)
theorem dX13_take_14 : decode cX13_take 14 = .ok (.aload_n 0, 1) := dk_42 (dk_at dksX13_take_0 14 rfl rfl)
theorem dX13_take_15 : decode cX13_take 15 = .ok (.getfield 22, 3) := dk_180 0 22 (dk_at dksX13_take_0 15 rfl rfl)
theorem dX13_take_18 : decode cX13_take 18 = .ok (.iadd, 1) := dk_96 (dk_at dksX13_take_0 18 rfl rfl)
theorem dX13_take_19 : decode cX13_take 19 = .ok (.iload_n 2, 1) := dk_28 (dk_at dksX13_take_0 19 rfl rfl)
theorem dX13_take_20 : decode cX13_take 20 = .ok (.if_icmp .gt 28, 3) := dk_163 0 28 (dk_at dksX13_take_0 20 rfl rfl)
theorem dX13_take_23 : decode cX13_take 23 = .ok (.iload_n 1, 1) := dk_27 (dk_at dksX13_take_0 23 rfl rfl)
theorem dX13_take_24 : decode cX13_take 24 = .ok (.iload 4, 2) := dk_21 4 (dk_at dksX13_take_1 0 rfl rfl)
theorem dX13_take_26 : decode cX13_take 26 = .ok (.ishr, 1) := dk_122 (dk_at dksX13_take_1 2 rfl rfl)
theorem dX13_take_27 : decode cX13_take 27 = .ok (.iload_n 3, 1) := dk_29 (dk_at dksX13_take_1 3 rfl rfl)
theorem dX13_take_28 : decode cX13_take 28 = .ok (.iand, 1) := dk_126 (dk_at dksX13_take_1 4 rfl rfl)
theorem dX13_take_29 : decode cX13_take 29 = .ok (.iload_n 3, 1) := dk_29 (dk_at dksX13_take_1 5 rfl rfl)
theorem dX13_take_30 : decode cX13_take 30 = .ok (.if_icmp .ne 12, 3) := dk_160 0 12 (dk_at dksX13_take_1 6 rfl rfl)
theorem dX13_take_33 : decode cX13_take 33 = .ok (.aload_n 0, 1) := dk_42 (dk_at dksX13_take_1 9 rfl rfl)
theorem dX13_take_34 : decode cX13_take 34 = .ok (.iload_n 3, 1) := dk_29 (dk_at dksX13_take_1 10 rfl rfl)
theorem dX13_take_35 : decode cX13_take 35 = .ok (.iload 4, 2) := dk_21 4 (dk_at dksX13_take_1 11 rfl rfl)
theorem dX13_take_37 : decode cX13_take 37 = .ok (.ishl, 1) := dk_120 (dk_at dksX13_take_1 13 rfl rfl)
theorem dX13_take_38 : decode cX13_take 38 = .ok (.putfield 25, 3) := dk_181 0 25 (dk_at dksX13_take_1 14 rfl rfl)
theorem dX13_take_41 : decode cX13_take 41 = .ok (.return_, 1) := dk_177 (dk_at dksX13_take_1 17 rfl rfl)
theorem dX13_take_42 : decode cX13_take 42 = .ok (.iinc 4 1, 3) := dk_132 4 1 (dk_at dksX13_take_1 18 rfl rfl)
theorem dX13_take_45 : decode cX13_take 45 = .ok (.goto (-33), 3) := dk_167 255 223 (dk_at dksX13_take_1 21 rfl rfl)
theorem dX13_take_48 : decode cX13_take 48 = .ok (.iconst 0, 1) := dk_3 (dk_at dksX13_take_2 0 rfl rfl)
theorem dX13_take_49 : decode cX13_take 49 = .ok (.istore 4, 2) := dk_54 4 (dk_at dksX13_take_2 1 rfl rfl)
theorem dX13_take_51 : decode cX13_take 51 = .ok (.iload 4, 2) := dk_21 4 (dk_at dksX13_take_2 3 rfl rfl)
theorem dX13_take_53 : decode cX13_take 53 = .ok (.iload_n 2, 1) := dk_28 (dk_at dksX13_take_2 5 rfl rfl)
theorem dX13_take_54 : decode cX13_take 54 = .ok (.if_icmp .ge 38, 3) := dk_162 0 38 (dk_at dksX13_take_2 6 rfl rfl)
theorem dX13_take_57 : decode cX13_take 57 = .ok (.aload_n 0, 1) := dk_42 (dk_at dksX13_take_2 9 rfl rfl)
theorem dX13_take_58 : decode cX13_take 58 = .ok (.getfield 25, 3) := dk_180 0 25 (dk_at dksX13_take_2 10 rfl rfl)
theorem dX13_take_61 : decode cX13_take 61 = .ok (.invokestatic 28, 3) := dk_184 0 28 (dk_at dksX13_take_2 13 rfl rfl)
theorem dX13_take_64 : decode cX13_take 64 = .ok (.aload_n 0, 1) := dk_42 (dk_at dksX13_take_2 16 rfl rfl)
theorem dX13_take_65 : decode cX13_take 65 = .ok (.getfield 22, 3) := dk_180 0 22 (dk_at dksX13_take_2 17 rfl rfl)
theorem dX13_take_68 : decode cX13_take 68 = .ok (.if_icmp .ge 24, 3) := dk_162 0 24 (dk_at dksX13_take_2 20 rfl rfl)
theorem dX13_take_71 : decode cX13_take 71 = .ok (.aload_n 0, 1) := dk_42 (dk_at dksX13_take_2 23 rfl rfl)
theorem dX13_take_72 : decode cX13_take 72 = .ok (.dup, 1) := dk_89 (dk_at dksX13_take_3 0 rfl rfl)
theorem dX13_take_73 : decode cX13_take 73 = .ok (.getfield 25, 3) := dk_180 0 25 (dk_at dksX13_take_3 1 rfl rfl)
theorem dX13_take_76 : decode cX13_take 76 = .ok (.iload_n 1, 1) := dk_27 (dk_at dksX13_take_3 4 rfl rfl)
theorem dX13_take_77 : decode cX13_take 77 = .ok (.iconst 1, 1) := dk_4 (dk_at dksX13_take_3 5 rfl rfl)
theorem dX13_take_78 : decode cX13_take 78 = .ok (.iload 4, 2) := dk_21 4 (dk_at dksX13_take_3 6 rfl rfl)
theorem dX13_take_80 : decode cX13_take 80 = .ok (.ishl, 1) := dk_120 (dk_at dksX13_take_3 8 rfl rfl)
theorem dX13_take_81 : decode cX13_take 81 = .ok (.iand, 1) := dk_126 (dk_at dksX13_take_3 9 rfl rfl)
theorem dX13_take_82 : decode cX13_take 82 = .ok (.ior, 1) := dk_128 (dk_at dksX13_take_3 10 rfl rfl)
theorem dX13_take_83 : decode cX13_take 83 = .ok (.putfield 25, 3) := dk_181 0 25 (dk_at dksX13_take_3 11 rfl rfl)
theorem dX13_take_86 : decode cX13_take 86 = .ok (.iinc 4 1, 3) := dk_132 4 1 (dk_at dksX13_take_3 14 rfl rfl)
theorem dX13_take_89 : decode cX13_take 89 = .ok (.goto (-38), 3) := dk_167 255 218 (dk_at dksX13_take_3 17 rfl rfl)
theorem dX13_take_92 : decode cX13_take 92 = .ok (.return_, 1) := dk_177 (dk_at dksX13_take_3 20 rfl rfl)
abbrev cX13_has : ByteArray := prog_9_method_6_code
def yX13_has : MethodName := ⟨RX13, "has", "(I)Z"⟩
def dkwX13_has_0 : List UInt8 := [42, 180, 0, 25, 27, 122, 4, 126, 4, 160, 0, 7, 4, 167, 0, 4, 3, 172]
abbrev dktX13_has_0 : List UInt8 := dkwX13_has_0 ++ []
theorem dksX13_has_0 : cX13_has.data.toList.drop 0 = dktX13_has_0 := by decide +kernel
theorem dX13_has_0 : decode cX13_has 0 = .ok (.aload_n 0, 1) := dk_42 (dk_at dksX13_has_0 0 rfl rfl)
theorem dX13_has_1 : decode cX13_has 1 = .ok (.getfield 25, 3) := dk_180 0 25 (dk_at dksX13_has_0 1 rfl rfl)
theorem dX13_has_4 : decode cX13_has 4 = .ok (.iload_n 1, 1) := dk_27 (dk_at dksX13_has_0 4 rfl rfl)
theorem dX13_has_5 : decode cX13_has 5 = .ok (.ishr, 1) := dk_122 (dk_at dksX13_has_0 5 rfl rfl)
theorem dX13_has_6 : decode cX13_has 6 = .ok (.iconst 1, 1) := dk_4 (dk_at dksX13_has_0 6 rfl rfl)
theorem dX13_has_7 : decode cX13_has 7 = .ok (.iand, 1) := dk_126 (dk_at dksX13_has_0 7 rfl rfl)
theorem dX13_has_8 : decode cX13_has 8 = .ok (.iconst 1, 1) := dk_4 (dk_at dksX13_has_0 8 rfl rfl)
theorem dX13_has_9 : decode cX13_has 9 = .ok (.if_icmp .ne 7, 3) := dk_160 0 7 (dk_at dksX13_has_0 9 rfl rfl)
theorem dX13_has_12 : decode cX13_has 12 = .ok (.iconst 1, 1) := dk_4 (dk_at dksX13_has_0 12 rfl rfl)
theorem dX13_has_13 : decode cX13_has 13 = .ok (.goto 4, 3) := dk_167 0 4 (dk_at dksX13_has_0 13 rfl rfl)
theorem dX13_has_16 : decode cX13_has 16 = .ok (.iconst 0, 1) := dk_3 (dk_at dksX13_has_0 16 rfl rfl)
theorem dX13_has_17 : decode cX13_has 17 = .ok (.ireturn, 1) := dk_172 (dk_at dksX13_has_0 17 rfl rfl)
theorem q177 : (Jvm.Cond.initialized "SpectrumAccess$Licence") ∈ lw_all := lw_g (lw_at lw_m1 38 rfl) rfl
theorem q876 : (Jvm.Cond.selects "SpectrumAccess$Licence" ({ cls := "java/lang/Object", name := "getClass", desc := "()Ljava/lang/Class;" } : Jvm.MethodName) ({ cls := "java/lang/Object", name := "getClass", desc := "()Ljava/lang/Class;" } : Jvm.MethodName)) ∈ lw_all := lw_g (lw_at lw_m4 17 rfl) rfl
theorem q1461 : (Jvm.Cond.instantiable "SpectrumAccess$Licence" (6 : Nat)) ∈ lw_all := lw_g (lw_at lw_m6 122 rfl) rfl
theorem q1463 : (Jvm.Cond.instanceMethod ({ cls := "SpectrumAccess$Licence", name := "<init>", desc := "(IIIII)V" } : Jvm.MethodName)) ∈ lw_all := lw_g (lw_at lw_m6 124 rfl) rfl
theorem q1464 : (Jvm.Cond.code ({ cls := "SpectrumAccess$Licence", name := "<init>", desc := "(IIIII)V" } : Jvm.MethodName) prog_9_method_1_code (6 : Nat) (Option.none : Option Jvm.ClassFile.FieldType)) ∈ lw_all := lw_g (lw_at lw_m6 125 rfl) rfl
theorem q1465 : (Jvm.Cond.methodLink "SpectrumAccess$Licence" (1 : Nat) ({ cls := "java/lang/Object", name := "<init>", desc := "()V" } : Jvm.MethodName)) ∈ lw_all := lw_g (lw_at lw_m6 126 rfl) rfl
theorem q1466 : (Jvm.Cond.fieldLink "SpectrumAccess$Licence" (7 : Nat) "SpectrumAccess$Licence" "left" "I") ∈ lw_all := lw_g (lw_at lw_m6 127 rfl) rfl
theorem q1467 : (Jvm.Cond.fieldLink "SpectrumAccess$Licence" (13 : Nat) "SpectrumAccess$Licence" "low" "I") ∈ lw_all := lw_g (lw_at lw_m6 128 rfl) rfl
theorem q1468 : (Jvm.Cond.fieldLink "SpectrumAccess$Licence" (16 : Nat) "SpectrumAccess$Licence" "right" "I") ∈ lw_all := lw_g (lw_at lw_m6 129 rfl) rfl
theorem q1469 : (Jvm.Cond.fieldLink "SpectrumAccess$Licence" (19 : Nat) "SpectrumAccess$Licence" "high" "I") ∈ lw_all := lw_g (lw_at lw_m6 130 rfl) rfl
theorem q1470 : (Jvm.Cond.fieldLink "SpectrumAccess$Licence" (22 : Nat) "SpectrumAccess$Licence" "count" "I") ∈ lw_all := lw_g (lw_at lw_m6 131 rfl) rfl
theorem q1472 : (Jvm.Cond.fieldLink "SpectrumAccess$Licence" (25 : Nat) "SpectrumAccess$Licence" "channels" "I") ∈ lw_all := lw_g (lw_at lw_m6 133 rfl) rfl
theorem q1474 : (Jvm.Cond.laysFinal "SpectrumAccess$Licence" "SpectrumAccess$Licence" "left" "I") ∈ lw_all := lw_g (lw_at lw_m6 135 rfl) rfl
theorem q1475 : (Jvm.Cond.soleField "SpectrumAccess$Licence" "left") ∈ lw_all := lw_g (lw_at lw_m6 136 rfl) rfl
theorem q1476 : (Jvm.Cond.laysFinal "SpectrumAccess$Licence" "SpectrumAccess$Licence" "low" "I") ∈ lw_all := lw_g (lw_at lw_m6 137 rfl) rfl
theorem q1477 : (Jvm.Cond.soleField "SpectrumAccess$Licence" "low") ∈ lw_all := lw_g (lw_at lw_m6 138 rfl) rfl
theorem q1478 : (Jvm.Cond.laysFinal "SpectrumAccess$Licence" "SpectrumAccess$Licence" "right" "I") ∈ lw_all := lw_g (lw_at lw_m6 139 rfl) rfl
theorem q1479 : (Jvm.Cond.soleField "SpectrumAccess$Licence" "right") ∈ lw_all := lw_g (lw_at lw_m6 140 rfl) rfl
theorem q1480 : (Jvm.Cond.laysFinal "SpectrumAccess$Licence" "SpectrumAccess$Licence" "high" "I") ∈ lw_all := lw_g (lw_at lw_m6 141 rfl) rfl
theorem q1481 : (Jvm.Cond.soleField "SpectrumAccess$Licence" "high") ∈ lw_all := lw_g (lw_at lw_m6 142 rfl) rfl
theorem q1482 : (Jvm.Cond.laysFinal "SpectrumAccess$Licence" "SpectrumAccess$Licence" "count" "I") ∈ lw_all := lw_g (lw_at lw_m6 143 rfl) rfl
theorem q1483 : (Jvm.Cond.soleField "SpectrumAccess$Licence" "count") ∈ lw_all := lw_g (lw_at lw_m6 144 rfl) rfl
theorem q1484 : (Jvm.Cond.lays "SpectrumAccess$Licence" "SpectrumAccess$Licence" "channels" "I") ∈ lw_all := lw_g (lw_at lw_m6 145 rfl) rfl
theorem q1485 : (Jvm.Cond.soleField "SpectrumAccess$Licence" "channels") ∈ lw_all := lw_g (lw_at lw_m6 146 rfl) rfl
theorem q1486 : (Jvm.Cond.superclass "SpectrumAccess$Licence" "java/lang/Object") ∈ lw_all := lw_g (lw_at lw_m6 147 rfl) rfl
theorem q1501 : (Jvm.Cond.castable "SpectrumAccess$Licence" "SpectrumAccess$Area") ∈ lw_tbl := lw_at lw_m6 162 rfl
theorem q1502 : (Jvm.Cond.selects "SpectrumAccess$Licence" ({ cls := "SpectrumAccess$Area", name := "left", desc := "()I" } : Jvm.MethodName) ({ cls := "SpectrumAccess$Licence", name := "left", desc := "()I" } : Jvm.MethodName)) ∈ lw_all := lw_g (lw_at lw_m6 163 rfl) rfl
theorem q1503 : (Jvm.Cond.unhidden "SpectrumAccess$Licence" "left" "()I") ∈ lw_tbl := lw_at lw_m6 164 rfl
theorem q1504 : (Jvm.Cond.instanceMethod ({ cls := "SpectrumAccess$Licence", name := "left", desc := "()I" } : Jvm.MethodName)) ∈ lw_all := lw_g (lw_at lw_m6 165 rfl) rfl
theorem q1505 : (Jvm.Cond.publicMethod ({ cls := "SpectrumAccess$Licence", name := "left", desc := "()I" } : Jvm.MethodName)) ∈ lw_tbl := lw_at lw_m6 166 rfl
theorem q1506 : (Jvm.Cond.code ({ cls := "SpectrumAccess$Licence", name := "left", desc := "()I" } : Jvm.MethodName) prog_9_method_2_code (1 : Nat) (Option.some Jvm.ClassFile.FieldType.int)) ∈ lw_all := lw_g (lw_at lw_m6 167 rfl) rfl
theorem q1511 : (Jvm.Cond.selects "SpectrumAccess$Licence" ({ cls := "SpectrumAccess$Area", name := "right", desc := "()I" } : Jvm.MethodName) ({ cls := "SpectrumAccess$Licence", name := "right", desc := "()I" } : Jvm.MethodName)) ∈ lw_all := lw_g (lw_at lw_m6 172 rfl) rfl
theorem q1512 : (Jvm.Cond.unhidden "SpectrumAccess$Licence" "right" "()I") ∈ lw_tbl := lw_at lw_m6 173 rfl
theorem q1513 : (Jvm.Cond.instanceMethod ({ cls := "SpectrumAccess$Licence", name := "right", desc := "()I" } : Jvm.MethodName)) ∈ lw_all := lw_g (lw_at lw_m6 174 rfl) rfl
theorem q1514 : (Jvm.Cond.publicMethod ({ cls := "SpectrumAccess$Licence", name := "right", desc := "()I" } : Jvm.MethodName)) ∈ lw_tbl := lw_at lw_m6 175 rfl
theorem q1515 : (Jvm.Cond.code ({ cls := "SpectrumAccess$Licence", name := "right", desc := "()I" } : Jvm.MethodName) prog_9_method_3_code (1 : Nat) (Option.some Jvm.ClassFile.FieldType.int)) ∈ lw_all := lw_g (lw_at lw_m6 176 rfl) rfl
theorem q1520 : (Jvm.Cond.selects "SpectrumAccess$Licence" ({ cls := "SpectrumAccess$Area", name := "low", desc := "()I" } : Jvm.MethodName) ({ cls := "SpectrumAccess$Licence", name := "low", desc := "()I" } : Jvm.MethodName)) ∈ lw_all := lw_g (lw_at lw_m6 181 rfl) rfl
theorem q1521 : (Jvm.Cond.unhidden "SpectrumAccess$Licence" "low" "()I") ∈ lw_tbl := lw_at lw_m6 182 rfl
theorem q1522 : (Jvm.Cond.instanceMethod ({ cls := "SpectrumAccess$Licence", name := "low", desc := "()I" } : Jvm.MethodName)) ∈ lw_all := lw_g (lw_at lw_m6 183 rfl) rfl
theorem q1523 : (Jvm.Cond.publicMethod ({ cls := "SpectrumAccess$Licence", name := "low", desc := "()I" } : Jvm.MethodName)) ∈ lw_tbl := lw_at lw_m6 184 rfl
theorem q1524 : (Jvm.Cond.code ({ cls := "SpectrumAccess$Licence", name := "low", desc := "()I" } : Jvm.MethodName) prog_9_method_4_code (1 : Nat) (Option.some Jvm.ClassFile.FieldType.int)) ∈ lw_all := lw_g (lw_at lw_m6 185 rfl) rfl
theorem q1529 : (Jvm.Cond.selects "SpectrumAccess$Licence" ({ cls := "SpectrumAccess$Area", name := "high", desc := "()I" } : Jvm.MethodName) ({ cls := "SpectrumAccess$Licence", name := "high", desc := "()I" } : Jvm.MethodName)) ∈ lw_all := lw_g (lw_at lw_m6 190 rfl) rfl
theorem q1530 : (Jvm.Cond.unhidden "SpectrumAccess$Licence" "high" "()I") ∈ lw_tbl := lw_at lw_m6 191 rfl
theorem q1531 : (Jvm.Cond.instanceMethod ({ cls := "SpectrumAccess$Licence", name := "high", desc := "()I" } : Jvm.MethodName)) ∈ lw_all := lw_g (lw_at lw_m6 192 rfl) rfl
theorem q1532 : (Jvm.Cond.publicMethod ({ cls := "SpectrumAccess$Licence", name := "high", desc := "()I" } : Jvm.MethodName)) ∈ lw_tbl := lw_at lw_m6 193 rfl
theorem q1533 : (Jvm.Cond.code ({ cls := "SpectrumAccess$Licence", name := "high", desc := "()I" } : Jvm.MethodName) prog_9_method_5_code (1 : Nat) (Option.some Jvm.ClassFile.FieldType.int)) ∈ lw_all := lw_g (lw_at lw_m6 194 rfl) rfl
theorem q1536 : (Jvm.Cond.instanceMethod ({ cls := "SpectrumAccess$Licence", name := "take", desc := "(II)V" } : Jvm.MethodName)) ∈ lw_all := lw_g (lw_at lw_m6 197 rfl) rfl
theorem q1537 : (Jvm.Cond.selects "SpectrumAccess$Licence" ({ cls := "SpectrumAccess$Licence", name := "take", desc := "(II)V" } : Jvm.MethodName) ({ cls := "SpectrumAccess$Licence", name := "take", desc := "(II)V" } : Jvm.MethodName)) ∈ lw_all := lw_g (lw_at lw_m6 198 rfl) rfl
theorem q1538 : (Jvm.Cond.code ({ cls := "SpectrumAccess$Licence", name := "take", desc := "(II)V" } : Jvm.MethodName) prog_9_method_7_code (5 : Nat) (Option.none : Option Jvm.ClassFile.FieldType)) ∈ lw_all := lw_g (lw_at lw_m6 199 rfl) rfl
theorem q1539 : (Jvm.Cond.methodLink "SpectrumAccess$Licence" (28 : Nat) ({ cls := "java/lang/Integer", name := "bitCount", desc := "(I)I" } : Jvm.MethodName)) ∈ lw_all := lw_g (lw_at lw_m6 200 rfl) rfl
theorem q1656 : (Jvm.Cond.unhidden "SpectrumAccess$Licence" "contains" "(II)Z") ∈ lw_tbl := lw_at lw_m7 77 rfl
theorem q1869 : (Jvm.Cond.instanceMethod ({ cls := "SpectrumAccess$Licence", name := "has", desc := "(I)Z" } : Jvm.MethodName)) ∈ lw_all := lw_g (lw_at lw_m8 50 rfl) rfl
theorem q1870 : (Jvm.Cond.selects "SpectrumAccess$Licence" ({ cls := "SpectrumAccess$Licence", name := "has", desc := "(I)Z" } : Jvm.MethodName) ({ cls := "SpectrumAccess$Licence", name := "has", desc := "(I)Z" } : Jvm.MethodName)) ∈ lw_all := lw_g (lw_at lw_m8 51 rfl) rfl
theorem q1871 : (Jvm.Cond.code ({ cls := "SpectrumAccess$Licence", name := "has", desc := "(I)Z" } : Jvm.MethodName) prog_9_method_6_code (2 : Nat) (Option.some Jvm.ClassFile.FieldType.boolean)) ∈ lw_all := lw_g (lw_at lw_m8 52 rfl) rfl
theorem q3507 : (Jvm.Cond.castable "SpectrumAccess$Licence" "java/lang/Object") ∈ lw_tbl := lw_at lw_m15 8 rfl
theorem in_X13 : ∀ w ∈ wsX130, w ∈ lw_all := lw_in wsX130 [1474, 1476, 1478, 1480, 1482, 1484] (by decide +kernel) (by decide +kernel)


/-! SpectrumAccess$Area -/
set_option maxRecDepth 100000
def RX14 : String := "SpectrumAccess$Area"
abbrev cX14_meet : ByteArray := prog_2_method_6_code
def yX14_meet : MethodName := ⟨RX14, "meet", "(LSpectrumAccess$Area;LSpectrumAccess$Area;)Z"⟩
def dkwX14_meet_2 : List UInt8 := [185, 0, 10, 1, 0, 42, 185, 0, 13, 1, 0, 163, 0, 7, 4, 167, 0, 4, 3, 172]
abbrev dktX14_meet_2 : List UInt8 := dkwX14_meet_2 ++ []
def dkwX14_meet_1 : List UInt8 := [185, 0, 7, 1, 0, 163, 0, 37, 42, 185, 0, 10, 1, 0, 43, 185, 0, 13, 1, 0, 163, 0, 22, 43]
abbrev dktX14_meet_1 : List UInt8 := dkwX14_meet_1 ++ dktX14_meet_2
def dkwX14_meet_0 : List UInt8 := [42, 185, 0, 1, 1, 0, 43, 185, 0, 7, 1, 0, 163, 0, 52, 43, 185, 0, 1, 1, 0, 42]
abbrev dktX14_meet_0 : List UInt8 := dkwX14_meet_0 ++ dktX14_meet_1
theorem dksX14_meet_0 : cX14_meet.data.toList.drop 0 = dktX14_meet_0 := by decide +kernel
theorem dksX14_meet_1 : cX14_meet.data.toList.drop 22 = dktX14_meet_1 := dk_seg dksX14_meet_0 22 rfl rfl
theorem dksX14_meet_2 : cX14_meet.data.toList.drop 46 = dktX14_meet_2 := dk_seg dksX14_meet_1 24 rfl rfl
theorem dX14_meet_0 : decode cX14_meet 0 = .ok (.aload_n 0, 1) := dk_42 (dk_at dksX14_meet_0 0 rfl rfl)
theorem dX14_meet_1 : decode cX14_meet 1 = .ok (.invokeinterface 1 1, 5) := by decide +kernel
theorem dX14_meet_6 : decode cX14_meet 6 = .ok (.aload_n 1, 1) := dk_43 (dk_at dksX14_meet_0 6 rfl rfl)
theorem dX14_meet_7 : decode cX14_meet 7 = .ok (.invokeinterface 7 1, 5) := by decide +kernel
theorem dX14_meet_12 : decode cX14_meet 12 = .ok (.if_icmp .gt 52, 3) := dk_163 0 52 (dk_at dksX14_meet_0 12 rfl rfl)
theorem dX14_meet_15 : decode cX14_meet 15 = .ok (.aload_n 1, 1) := dk_43 (dk_at dksX14_meet_0 15 rfl rfl)
theorem dX14_meet_16 : decode cX14_meet 16 = .ok (.invokeinterface 1 1, 5) := by decide +kernel
theorem dX14_meet_21 : decode cX14_meet 21 = .ok (.aload_n 0, 1) := dk_42 (dk_at dksX14_meet_0 21 rfl rfl)
theorem dX14_meet_22 : decode cX14_meet 22 = .ok (.invokeinterface 7 1, 5) := by decide +kernel
theorem dX14_meet_27 : decode cX14_meet 27 = .ok (.if_icmp .gt 37, 3) := dk_163 0 37 (dk_at dksX14_meet_1 5 rfl rfl)
theorem dX14_meet_30 : decode cX14_meet 30 = .ok (.aload_n 0, 1) := dk_42 (dk_at dksX14_meet_1 8 rfl rfl)
theorem dX14_meet_31 : decode cX14_meet 31 = .ok (.invokeinterface 10 1, 5) := by decide +kernel
theorem dX14_meet_36 : decode cX14_meet 36 = .ok (.aload_n 1, 1) := dk_43 (dk_at dksX14_meet_1 14 rfl rfl)
theorem dX14_meet_37 : decode cX14_meet 37 = .ok (.invokeinterface 13 1, 5) := by decide +kernel
theorem dX14_meet_42 : decode cX14_meet 42 = .ok (.if_icmp .gt 22, 3) := dk_163 0 22 (dk_at dksX14_meet_1 20 rfl rfl)
theorem dX14_meet_45 : decode cX14_meet 45 = .ok (.aload_n 1, 1) := dk_43 (dk_at dksX14_meet_1 23 rfl rfl)
theorem dX14_meet_46 : decode cX14_meet 46 = .ok (.invokeinterface 10 1, 5) := by decide +kernel
theorem dX14_meet_51 : decode cX14_meet 51 = .ok (.aload_n 0, 1) := dk_42 (dk_at dksX14_meet_2 5 rfl rfl)
theorem dX14_meet_52 : decode cX14_meet 52 = .ok (.invokeinterface 13 1, 5) := by decide +kernel
theorem dX14_meet_57 : decode cX14_meet 57 = .ok (.if_icmp .gt 7, 3) := dk_163 0 7 (dk_at dksX14_meet_2 11 rfl rfl)
theorem dX14_meet_60 : decode cX14_meet 60 = .ok (.iconst 1, 1) := dk_4 (dk_at dksX14_meet_2 14 rfl rfl)
theorem dX14_meet_61 : decode cX14_meet 61 = .ok (.goto 4, 3) := dk_167 0 4 (dk_at dksX14_meet_2 15 rfl rfl)
theorem dX14_meet_64 : decode cX14_meet 64 = .ok (.iconst 0, 1) := dk_3 (dk_at dksX14_meet_2 18 rfl rfl)
theorem dX14_meet_65 : decode cX14_meet 65 = .ok (.ireturn, 1) := dk_172 (dk_at dksX14_meet_2 19 rfl rfl)
abbrev cX14_contains : ByteArray := prog_2_method_5_code
def yX14_contains : MethodName := ⟨RX14, "contains", "(II)Z"⟩
def dkwX14_contains_1 : List UInt8 := [185, 0, 10, 1, 0, 161, 0, 17, 28, 42, 185, 0, 13, 1, 0, 163, 0, 7, 4, 167, 0, 4, 3, 172]
abbrev dktX14_contains_1 : List UInt8 := dkwX14_contains_1 ++ []
def dkwX14_contains_0 : List UInt8 := [27, 42, 185, 0, 1, 1, 0, 161, 0, 37, 27, 42, 185, 0, 7, 1, 0, 163, 0, 27, 28, 42]
abbrev dktX14_contains_0 : List UInt8 := dkwX14_contains_0 ++ dktX14_contains_1
theorem dksX14_contains_0 : cX14_contains.data.toList.drop 0 = dktX14_contains_0 := by decide +kernel
theorem dksX14_contains_1 : cX14_contains.data.toList.drop 22 = dktX14_contains_1 := dk_seg dksX14_contains_0 22 rfl rfl
theorem dX14_contains_0 : decode cX14_contains 0 = .ok (.iload_n 1, 1) := dk_27 (dk_at dksX14_contains_0 0 rfl rfl)
theorem dX14_contains_1 : decode cX14_contains 1 = .ok (.aload_n 0, 1) := dk_42 (dk_at dksX14_contains_0 1 rfl rfl)
theorem dX14_contains_2 : decode cX14_contains 2 = .ok (.invokeinterface 1 1, 5) := by decide +kernel
theorem dX14_contains_7 : decode cX14_contains 7 = .ok (.if_icmp .lt 37, 3) := dk_161 0 37 (dk_at dksX14_contains_0 7 rfl rfl)
theorem dX14_contains_10 : decode cX14_contains 10 = .ok (.iload_n 1, 1) := dk_27 (dk_at dksX14_contains_0 10 rfl rfl)
theorem dX14_contains_11 : decode cX14_contains 11 = .ok (.aload_n 0, 1) := dk_42 (dk_at dksX14_contains_0 11 rfl rfl)
theorem dX14_contains_12 : decode cX14_contains 12 = .ok (.invokeinterface 7 1, 5) := by decide +kernel
theorem dX14_contains_17 : decode cX14_contains 17 = .ok (.if_icmp .gt 27, 3) := dk_163 0 27 (dk_at dksX14_contains_0 17 rfl rfl)
theorem dX14_contains_20 : decode cX14_contains 20 = .ok (.iload_n 2, 1) := dk_28 (dk_at dksX14_contains_0 20 rfl rfl)
theorem dX14_contains_21 : decode cX14_contains 21 = .ok (.aload_n 0, 1) := dk_42 (dk_at dksX14_contains_0 21 rfl rfl)
theorem dX14_contains_22 : decode cX14_contains 22 = .ok (.invokeinterface 10 1, 5) := by decide +kernel
theorem dX14_contains_27 : decode cX14_contains 27 = .ok (.if_icmp .lt 17, 3) := dk_161 0 17 (dk_at dksX14_contains_1 5 rfl rfl)
theorem dX14_contains_30 : decode cX14_contains 30 = .ok (.iload_n 2, 1) := dk_28 (dk_at dksX14_contains_1 8 rfl rfl)
theorem dX14_contains_31 : decode cX14_contains 31 = .ok (.aload_n 0, 1) := dk_42 (dk_at dksX14_contains_1 9 rfl rfl)
theorem dX14_contains_32 : decode cX14_contains 32 = .ok (.invokeinterface 13 1, 5) := by decide +kernel
theorem dX14_contains_37 : decode cX14_contains 37 = .ok (.if_icmp .gt 7, 3) := dk_163 0 7 (dk_at dksX14_contains_1 15 rfl rfl)
theorem dX14_contains_40 : decode cX14_contains 40 = .ok (.iconst 1, 1) := dk_4 (dk_at dksX14_contains_1 18 rfl rfl)
theorem dX14_contains_41 : decode cX14_contains 41 = .ok (.goto 4, 3) := dk_167 0 4 (dk_at dksX14_contains_1 19 rfl rfl)
theorem dX14_contains_44 : decode cX14_contains 44 = .ok (.iconst 0, 1) := dk_3 (dk_at dksX14_contains_1 22 rfl rfl)
theorem dX14_contains_45 : decode cX14_contains 45 = .ok (.ireturn, 1) := dk_172 (dk_at dksX14_contains_1 23 rfl rfl)
theorem q178 : (Jvm.Cond.initialized "SpectrumAccess$Area") ∈ lw_all := lw_g (lw_at lw_m1 39 rfl) rfl
theorem q1495 : (Jvm.Cond.static ({ cls := "SpectrumAccess$Area", name := "meet", desc := "(LSpectrumAccess$Area;LSpectrumAccess$Area;)Z" } : Jvm.MethodName)) ∈ lw_all := lw_g (lw_at lw_m6 156 rfl) rfl
theorem q1496 : (Jvm.Cond.code ({ cls := "SpectrumAccess$Area", name := "meet", desc := "(LSpectrumAccess$Area;LSpectrumAccess$Area;)Z" } : Jvm.MethodName) prog_2_method_6_code (2 : Nat) (Option.some Jvm.ClassFile.FieldType.boolean)) ∈ lw_all := lw_g (lw_at lw_m6 157 rfl) rfl
theorem q1497 : (Jvm.Cond.interfaceEntry "SpectrumAccess$Area" (1 : Nat)) ∈ lw_tbl := lw_at lw_m6 158 rfl
theorem q1498 : (Jvm.Cond.methodLink "SpectrumAccess$Area" (1 : Nat) ({ cls := "SpectrumAccess$Area", name := "left", desc := "()I" } : Jvm.MethodName)) ∈ lw_all := lw_g (lw_at lw_m6 159 rfl) rfl
theorem q1499 : (Jvm.Cond.interfaceMethod "SpectrumAccess$Area" "SpectrumAccess$Area" "left" "()I") ∈ lw_tbl := lw_at lw_m6 160 rfl
theorem q1500 : (Jvm.Cond.declares ({ cls := "SpectrumAccess$Area", name := "left", desc := "()I" } : Jvm.MethodName)) ∈ lw_tbl := lw_at lw_m6 161 rfl
theorem q1507 : (Jvm.Cond.interfaceEntry "SpectrumAccess$Area" (7 : Nat)) ∈ lw_tbl := lw_at lw_m6 168 rfl
theorem q1508 : (Jvm.Cond.methodLink "SpectrumAccess$Area" (7 : Nat) ({ cls := "SpectrumAccess$Area", name := "right", desc := "()I" } : Jvm.MethodName)) ∈ lw_all := lw_g (lw_at lw_m6 169 rfl) rfl
theorem q1509 : (Jvm.Cond.interfaceMethod "SpectrumAccess$Area" "SpectrumAccess$Area" "right" "()I") ∈ lw_tbl := lw_at lw_m6 170 rfl
theorem q1510 : (Jvm.Cond.declares ({ cls := "SpectrumAccess$Area", name := "right", desc := "()I" } : Jvm.MethodName)) ∈ lw_tbl := lw_at lw_m6 171 rfl
theorem q1516 : (Jvm.Cond.interfaceEntry "SpectrumAccess$Area" (10 : Nat)) ∈ lw_tbl := lw_at lw_m6 177 rfl
theorem q1517 : (Jvm.Cond.methodLink "SpectrumAccess$Area" (10 : Nat) ({ cls := "SpectrumAccess$Area", name := "low", desc := "()I" } : Jvm.MethodName)) ∈ lw_all := lw_g (lw_at lw_m6 178 rfl) rfl
theorem q1518 : (Jvm.Cond.interfaceMethod "SpectrumAccess$Area" "SpectrumAccess$Area" "low" "()I") ∈ lw_tbl := lw_at lw_m6 179 rfl
theorem q1519 : (Jvm.Cond.declares ({ cls := "SpectrumAccess$Area", name := "low", desc := "()I" } : Jvm.MethodName)) ∈ lw_tbl := lw_at lw_m6 180 rfl
theorem q1525 : (Jvm.Cond.interfaceEntry "SpectrumAccess$Area" (13 : Nat)) ∈ lw_tbl := lw_at lw_m6 186 rfl
theorem q1526 : (Jvm.Cond.methodLink "SpectrumAccess$Area" (13 : Nat) ({ cls := "SpectrumAccess$Area", name := "high", desc := "()I" } : Jvm.MethodName)) ∈ lw_all := lw_g (lw_at lw_m6 187 rfl) rfl
theorem q1527 : (Jvm.Cond.interfaceMethod "SpectrumAccess$Area" "SpectrumAccess$Area" "high" "()I") ∈ lw_tbl := lw_at lw_m6 188 rfl
theorem q1528 : (Jvm.Cond.declares ({ cls := "SpectrumAccess$Area", name := "high", desc := "()I" } : Jvm.MethodName)) ∈ lw_tbl := lw_at lw_m6 189 rfl
theorem q1655 : (Jvm.Cond.declares ({ cls := "SpectrumAccess$Area", name := "contains", desc := "(II)Z" } : Jvm.MethodName)) ∈ lw_tbl := lw_at lw_m7 76 rfl
theorem q1657 : (Jvm.Cond.instanceMethod ({ cls := "SpectrumAccess$Area", name := "contains", desc := "(II)Z" } : Jvm.MethodName)) ∈ lw_all := lw_g (lw_at lw_m7 78 rfl) rfl
theorem q1658 : (Jvm.Cond.publicMethod ({ cls := "SpectrumAccess$Area", name := "contains", desc := "(II)Z" } : Jvm.MethodName)) ∈ lw_tbl := lw_at lw_m7 79 rfl
theorem q1659 : (Jvm.Cond.code ({ cls := "SpectrumAccess$Area", name := "contains", desc := "(II)Z" } : Jvm.MethodName) prog_2_method_5_code (3 : Nat) (Option.some Jvm.ClassFile.FieldType.boolean)) ∈ lw_all := lw_g (lw_at lw_m7 80 rfl) rfl


/-! SpectrumAccess$Test -/
set_option maxRecDepth 100000
def RX15 : String := "SpectrumAccess$Test"
abbrev cX15_init : ByteArray := prog_19_method_1_code
def yX15_init : MethodName := ⟨RX15, "<init>", "()V"⟩
theorem dX15_init_0 : decode cX15_init 0 = .ok (.aload_n 0, 1) := by decide +kernel
theorem dX15_init_1 : decode cX15_init 1 = .ok (.invokespecial 1, 3) := by decide +kernel
theorem dX15_init_4 : decode cX15_init 4 = .ok (.return_, 1) := by decide +kernel
theorem q179 : (Jvm.Cond.initialized "SpectrumAccess$Test") ∈ lw_all := lw_g (lw_at lw_m1 40 rfl) rfl
theorem q1569 : (Jvm.Cond.instanceMethod ({ cls := "SpectrumAccess$Test", name := "<init>", desc := "()V" } : Jvm.MethodName)) ∈ lw_all := lw_g (lw_at lw_m6 230 rfl) rfl
theorem q1570 : (Jvm.Cond.code ({ cls := "SpectrumAccess$Test", name := "<init>", desc := "()V" } : Jvm.MethodName) prog_19_method_1_code (1 : Nat) (Option.none : Option Jvm.ClassFile.FieldType)) ∈ lw_all := lw_g (lw_at lw_m6 231 rfl) rfl
theorem q1571 : (Jvm.Cond.methodLink "SpectrumAccess$Test" (1 : Nat) ({ cls := "java/lang/Object", name := "<init>", desc := "()V" } : Jvm.MethodName)) ∈ lw_all := lw_g (lw_at lw_m6 232 rfl) rfl
theorem q2054 : (Jvm.Cond.declares ({ cls := "SpectrumAccess$Test", name := "holds", desc := "(LSpectrumAccess$Case;)Z" } : Jvm.MethodName)) ∈ lw_tbl := lw_at lw_m8 235 rfl
theorem q2055 : (Jvm.Cond.sameMethod "SpectrumAccess$Test" "SpectrumAccess$Test" "holds" "(LSpectrumAccess$Case;)Z") ∈ lw_all := lw_g (lw_at lw_m8 236 rfl) rfl


/-! SpectrumAccess$Not -/
set_option maxRecDepth 100000
def RX16 : String := "SpectrumAccess$Not"
def TX16 : u_T := fun k => match k with
  | _ => ("SpectrumAccess$Not", "test", "LSpectrumAccess$Test;", true)
def tyX16 : Nat → FieldType := fun k => match k with
  | _ => .object "SpectrumAccess$Test"
abbrev wsX160 : List Cond := u_ws RX16 TX16 1
theorem nmX16 : ∀ a, a < 1 → ∀ b, b < 1 → a ≠ b → (TX16 a).2.1 ≠ (TX16 b).2.1 := by decide +kernel
theorem tyX16_ok : ∀ k, k < 1 → parseFieldDescriptor (TX16 k).2.2.1 = some (tyX16 k) := by decide +kernel
abbrev cX16_init : ByteArray := prog_10_method_1_code
def yX16_init : MethodName := ⟨RX16, "<init>", "(LSpectrumAccess$Test;)V"⟩
def dkwX16_init_0 : List UInt8 := [42, 183, 0, 1, 42, 43, 181, 0, 7, 177]
abbrev dktX16_init_0 : List UInt8 := dkwX16_init_0 ++ []
theorem dksX16_init_0 : cX16_init.data.toList.drop 0 = dktX16_init_0 := by decide +kernel
theorem dX16_init_0 : decode cX16_init 0 = .ok (.aload_n 0, 1) := dk_42 (dk_at dksX16_init_0 0 rfl rfl)
theorem dX16_init_1 : decode cX16_init 1 = .ok (.invokespecial 1, 3) := dk_183 0 1 (dk_at dksX16_init_0 1 rfl rfl)
theorem dX16_init_4 : decode cX16_init 4 = .ok (.aload_n 0, 1) := dk_42 (dk_at dksX16_init_0 4 rfl rfl)
theorem dX16_init_5 : decode cX16_init 5 = .ok (.aload_n 1, 1) := dk_43 (dk_at dksX16_init_0 5 rfl rfl)
theorem dX16_init_6 : decode cX16_init 6 = .ok (.putfield 7, 3) := dk_181 0 7 (dk_at dksX16_init_0 6 rfl rfl)
theorem dX16_init_9 : decode cX16_init 9 = .ok (.return_, 1) := dk_177 (dk_at dksX16_init_0 9 rfl rfl)
abbrev cX16_holds : ByteArray := prog_10_method_2_code
def yX16_holds : MethodName := ⟨RX16, "holds", "(LSpectrumAccess$Case;)Z"⟩
def dkwX16_holds_0 : List UInt8 := [42, 180, 0, 7, 43, 182, 0, 13, 154, 0, 7, 4, 167, 0, 4, 3, 172]
abbrev dktX16_holds_0 : List UInt8 := dkwX16_holds_0 ++ []
theorem dksX16_holds_0 : cX16_holds.data.toList.drop 0 = dktX16_holds_0 := by decide +kernel
theorem dX16_holds_0 : decode cX16_holds 0 = .ok (.aload_n 0, 1) := dk_42 (dk_at dksX16_holds_0 0 rfl rfl)
theorem dX16_holds_1 : decode cX16_holds 1 = .ok (.getfield 7, 3) := dk_180 0 7 (dk_at dksX16_holds_0 1 rfl rfl)
theorem dX16_holds_4 : decode cX16_holds 4 = .ok (.aload_n 1, 1) := dk_43 (dk_at dksX16_holds_0 4 rfl rfl)
theorem dX16_holds_5 : decode cX16_holds 5 = .ok (.invokevirtual 13, 3) := dk_182 0 13 (dk_at dksX16_holds_0 5 rfl rfl)
theorem dX16_holds_8 : decode cX16_holds 8 = .ok (.ifCond .ne 7, 3) := dk_154 0 7 (dk_at dksX16_holds_0 8 rfl rfl)
theorem dX16_holds_11 : decode cX16_holds 11 = .ok (.iconst 1, 1) := dk_4 (dk_at dksX16_holds_0 11 rfl rfl)
theorem dX16_holds_12 : decode cX16_holds 12 = .ok (.goto 4, 3) := dk_167 0 4 (dk_at dksX16_holds_0 12 rfl rfl)
theorem dX16_holds_15 : decode cX16_holds 15 = .ok (.iconst 0, 1) := dk_3 (dk_at dksX16_holds_0 15 rfl rfl)
theorem dX16_holds_16 : decode cX16_holds 16 = .ok (.ireturn, 1) := dk_172 (dk_at dksX16_holds_0 16 rfl rfl)
theorem q180 : (Jvm.Cond.initialized "SpectrumAccess$Not") ∈ lw_all := lw_g (lw_at lw_m1 41 rfl) rfl
theorem q877 : (Jvm.Cond.selects "SpectrumAccess$Not" ({ cls := "java/lang/Object", name := "getClass", desc := "()Ljava/lang/Class;" } : Jvm.MethodName) ({ cls := "java/lang/Object", name := "getClass", desc := "()Ljava/lang/Class;" } : Jvm.MethodName)) ∈ lw_all := lw_g (lw_at lw_m4 18 rfl) rfl
theorem q1564 : (Jvm.Cond.instantiable "SpectrumAccess$Not" (1 : Nat)) ∈ lw_all := lw_g (lw_at lw_m6 225 rfl) rfl
theorem q1566 : (Jvm.Cond.instanceMethod ({ cls := "SpectrumAccess$Not", name := "<init>", desc := "(LSpectrumAccess$Test;)V" } : Jvm.MethodName)) ∈ lw_all := lw_g (lw_at lw_m6 227 rfl) rfl
theorem q1567 : (Jvm.Cond.code ({ cls := "SpectrumAccess$Not", name := "<init>", desc := "(LSpectrumAccess$Test;)V" } : Jvm.MethodName) prog_10_method_1_code (2 : Nat) (Option.none : Option Jvm.ClassFile.FieldType)) ∈ lw_all := lw_g (lw_at lw_m6 228 rfl) rfl
theorem q1568 : (Jvm.Cond.methodLinkNest "SpectrumAccess$Not" (1 : Nat) ({ cls := "SpectrumAccess$Test", name := "<init>", desc := "()V" } : Jvm.MethodName) "SpectrumAccess") ∈ lw_tbl := lw_at lw_m6 229 rfl
theorem q1572 : (Jvm.Cond.fieldLink "SpectrumAccess$Not" (7 : Nat) "SpectrumAccess$Not" "test" "LSpectrumAccess$Test;") ∈ lw_all := lw_g (lw_at lw_m6 233 rfl) rfl
theorem q1573 : (Jvm.Cond.laysFinal "SpectrumAccess$Not" "SpectrumAccess$Not" "test" "LSpectrumAccess$Test;") ∈ lw_all := lw_g (lw_at lw_m6 234 rfl) rfl
theorem q1574 : (Jvm.Cond.soleField "SpectrumAccess$Not" "test") ∈ lw_all := lw_g (lw_at lw_m6 235 rfl) rfl
theorem q1575 : (Jvm.Cond.superclass "SpectrumAccess$Not" "SpectrumAccess$Test") ∈ lw_all := lw_g (lw_at lw_m6 236 rfl) rfl
theorem q2069 : (Jvm.Cond.selects "SpectrumAccess$Not" ({ cls := "SpectrumAccess$Test", name := "holds", desc := "(LSpectrumAccess$Case;)Z" } : Jvm.MethodName) ({ cls := "SpectrumAccess$Not", name := "holds", desc := "(LSpectrumAccess$Case;)Z" } : Jvm.MethodName)) ∈ lw_all := lw_g (lw_at lw_m9 10 rfl) rfl
theorem q2070 : (Jvm.Cond.instanceMethod ({ cls := "SpectrumAccess$Not", name := "holds", desc := "(LSpectrumAccess$Case;)Z" } : Jvm.MethodName)) ∈ lw_all := lw_g (lw_at lw_m9 11 rfl) rfl
theorem q2071 : (Jvm.Cond.code ({ cls := "SpectrumAccess$Not", name := "holds", desc := "(LSpectrumAccess$Case;)Z" } : Jvm.MethodName) prog_10_method_2_code (2 : Nat) (Option.some Jvm.ClassFile.FieldType.boolean)) ∈ lw_all := lw_g (lw_at lw_m9 12 rfl) rfl
theorem q2072 : (Jvm.Cond.methodLink "SpectrumAccess$Not" (13 : Nat) ({ cls := "SpectrumAccess$Test", name := "holds", desc := "(LSpectrumAccess$Case;)Z" } : Jvm.MethodName)) ∈ lw_all := lw_g (lw_at lw_m9 13 rfl) rfl
theorem q3482 : (Jvm.Cond.castable "SpectrumAccess$Not" "SpectrumAccess$Test") ∈ lw_tbl := lw_at lw_m14 223 rfl
theorem q3508 : (Jvm.Cond.castable "SpectrumAccess$Not" "java/lang/Object") ∈ lw_tbl := lw_at lw_m15 9 rfl
theorem in_X16 : ∀ w ∈ wsX160, w ∈ lw_all := lw_in wsX160 [1573] (by decide +kernel) (by decide +kernel)


/-! SpectrumAccess$Comparison -/
set_option maxRecDepth 100000
def RX17 : String := "SpectrumAccess$Comparison"
def TX17 : u_T := fun k => match k with
  | 0 => ("SpectrumAccess$Comparison", "value", "Ljava/lang/String;", true)
  | 1 => ("SpectrumAccess$Comparison", "sign", "C", true)
  | _ => ("SpectrumAccess$Comparison", "number", "I", true)
def tyX17 : Nat → FieldType := fun k => match k with
  | 0 => .object "java/lang/String"
  | 1 => .char
  | _ => .int
abbrev wsX170 : List Cond := u_ws RX17 TX17 3
theorem nmX17 : ∀ a, a < 3 → ∀ b, b < 3 → a ≠ b → (TX17 a).2.1 ≠ (TX17 b).2.1 := by decide +kernel
theorem tyX17_ok : ∀ k, k < 3 → parseFieldDescriptor (TX17 k).2.2.1 = some (tyX17 k) := by decide +kernel
abbrev cX17_init : ByteArray := prog_5_method_1_code
def yX17_init : MethodName := ⟨RX17, "<init>", "(Ljava/lang/String;CI)V"⟩
def dkwX17_init_0 : List UInt8 := [42, 183, 0, 1, 42, 43, 181, 0, 7, 42, 28, 181, 0, 13, 42, 29, 181, 0, 17, 177]
abbrev dktX17_init_0 : List UInt8 := dkwX17_init_0 ++ []
theorem dksX17_init_0 : cX17_init.data.toList.drop 0 = dktX17_init_0 := by decide +kernel
theorem dX17_init_0 : decode cX17_init 0 = .ok (.aload_n 0, 1) := dk_42 (dk_at dksX17_init_0 0 rfl rfl)
theorem dX17_init_1 : decode cX17_init 1 = .ok (.invokespecial 1, 3) := dk_183 0 1 (dk_at dksX17_init_0 1 rfl rfl)
theorem dX17_init_4 : decode cX17_init 4 = .ok (.aload_n 0, 1) := dk_42 (dk_at dksX17_init_0 4 rfl rfl)
theorem dX17_init_5 : decode cX17_init 5 = .ok (.aload_n 1, 1) := dk_43 (dk_at dksX17_init_0 5 rfl rfl)
theorem dX17_init_6 : decode cX17_init 6 = .ok (.putfield 7, 3) := dk_181 0 7 (dk_at dksX17_init_0 6 rfl rfl)
theorem dX17_init_9 : decode cX17_init 9 = .ok (.aload_n 0, 1) := dk_42 (dk_at dksX17_init_0 9 rfl rfl)
theorem dX17_init_10 : decode cX17_init 10 = .ok (.iload_n 2, 1) := dk_28 (dk_at dksX17_init_0 10 rfl rfl)
theorem dX17_init_11 : decode cX17_init 11 = .ok (.putfield 13, 3) := dk_181 0 13 (dk_at dksX17_init_0 11 rfl rfl)
theorem dX17_init_14 : decode cX17_init 14 = .ok (.aload_n 0, 1) := dk_42 (dk_at dksX17_init_0 14 rfl rfl)
theorem dX17_init_15 : decode cX17_init 15 = .ok (.iload_n 3, 1) := dk_29 (dk_at dksX17_init_0 15 rfl rfl)
theorem dX17_init_16 : decode cX17_init 16 = .ok (.putfield 17, 3) := dk_181 0 17 (dk_at dksX17_init_0 16 rfl rfl)
theorem dX17_init_19 : decode cX17_init 19 = .ok (.return_, 1) := dk_177 (dk_at dksX17_init_0 19 rfl rfl)
abbrev cX17_holds : ByteArray := prog_5_method_2_code
def yX17_holds : MethodName := ⟨RX17, "holds", "(LSpectrumAccess$Case;)Z"⟩
def dkwX17_holds_3 : List UInt8 := [167, 0, 4, 3, 172]
abbrev dktX17_holds_3 : List UInt8 := dkwX17_holds_3 ++ []
def dkwX17_holds_2 : List UInt8 := [180, 0, 17, 164, 0, 7, 4, 167, 0, 20, 3, 167, 0, 16, 28, 42, 180, 0, 17, 160, 0, 7, 4]
abbrev dktX17_holds_2 : List UInt8 := dkwX17_holds_2 ++ dktX17_holds_3
def dkwX17_holds_1 : List UInt8 := [162, 0, 7, 4, 167, 0, 45, 3, 167, 0, 41, 42, 180, 0, 13, 16, 62, 160, 0, 19, 28, 42]
abbrev dktX17_holds_1 : List UInt8 := dkwX17_holds_1 ++ dktX17_holds_2
def dkwX17_holds_0 : List UInt8 := [43, 42, 180, 0, 7, 182, 0, 21, 61, 42, 180, 0, 13, 16, 60, 160, 0, 19, 28, 42, 180, 0, 17]
abbrev dktX17_holds_0 : List UInt8 := dkwX17_holds_0 ++ dktX17_holds_1
theorem dksX17_holds_0 : cX17_holds.data.toList.drop 0 = dktX17_holds_0 := by decide +kernel
theorem dksX17_holds_1 : cX17_holds.data.toList.drop 23 = dktX17_holds_1 := dk_seg dksX17_holds_0 23 rfl rfl
theorem dksX17_holds_2 : cX17_holds.data.toList.drop 45 = dktX17_holds_2 := dk_seg dksX17_holds_1 22 rfl rfl
theorem dksX17_holds_3 : cX17_holds.data.toList.drop 68 = dktX17_holds_3 := dk_seg dksX17_holds_2 23 rfl rfl
theorem dX17_holds_0 : decode cX17_holds 0 = .ok (.aload_n 1, 1) := dk_43 (dk_at dksX17_holds_0 0 rfl rfl)
theorem dX17_holds_1 : decode cX17_holds 1 = .ok (.aload_n 0, 1) := dk_42 (dk_at dksX17_holds_0 1 rfl rfl)
theorem dX17_holds_2 : decode cX17_holds 2 = .ok (.getfield 7, 3) := dk_180 0 7 (dk_at dksX17_holds_0 2 rfl rfl)
theorem dX17_holds_5 : decode cX17_holds 5 = .ok (.invokevirtual 21, 3) := dk_182 0 21 (dk_at dksX17_holds_0 5 rfl rfl)
theorem dX17_holds_8 : decode cX17_holds 8 = .ok (.istore_n 2, 1) := dk_61 (dk_at dksX17_holds_0 8 rfl rfl)
theorem dX17_holds_9 : decode cX17_holds 9 = .ok (.aload_n 0, 1) := dk_42 (dk_at dksX17_holds_0 9 rfl rfl)
theorem dX17_holds_10 : decode cX17_holds 10 = .ok (.getfield 13, 3) := dk_180 0 13 (dk_at dksX17_holds_0 10 rfl rfl)
theorem dX17_holds_13 : decode cX17_holds 13 = .ok (.bipush 60, 2) := dk_16 60 (dk_at dksX17_holds_0 13 rfl rfl)
theorem dX17_holds_15 : decode cX17_holds 15 = .ok (.if_icmp .ne 19, 3) := dk_160 0 19 (dk_at dksX17_holds_0 15 rfl rfl)
theorem dX17_holds_18 : decode cX17_holds 18 = .ok (.iload_n 2, 1) := dk_28 (dk_at dksX17_holds_0 18 rfl rfl)
theorem dX17_holds_19 : decode cX17_holds 19 = .ok (.aload_n 0, 1) := dk_42 (dk_at dksX17_holds_0 19 rfl rfl)
theorem dX17_holds_20 : decode cX17_holds 20 = .ok (.getfield 17, 3) := dk_180 0 17 (dk_at dksX17_holds_0 20 rfl rfl)
theorem dX17_holds_23 : decode cX17_holds 23 = .ok (.if_icmp .ge 7, 3) := dk_162 0 7 (dk_at dksX17_holds_1 0 rfl rfl)
theorem dX17_holds_26 : decode cX17_holds 26 = .ok (.iconst 1, 1) := dk_4 (dk_at dksX17_holds_1 3 rfl rfl)
theorem dX17_holds_27 : decode cX17_holds 27 = .ok (.goto 45, 3) := dk_167 0 45 (dk_at dksX17_holds_1 4 rfl rfl)
theorem dX17_holds_30 : decode cX17_holds 30 = .ok (.iconst 0, 1) := dk_3 (dk_at dksX17_holds_1 7 rfl rfl)
theorem dX17_holds_31 : decode cX17_holds 31 = .ok (.goto 41, 3) := dk_167 0 41 (dk_at dksX17_holds_1 8 rfl rfl)
theorem dX17_holds_34 : decode cX17_holds 34 = .ok (.aload_n 0, 1) := dk_42 (dk_at dksX17_holds_1 11 rfl rfl)
theorem dX17_holds_35 : decode cX17_holds 35 = .ok (.getfield 13, 3) := dk_180 0 13 (dk_at dksX17_holds_1 12 rfl rfl)
theorem dX17_holds_38 : decode cX17_holds 38 = .ok (.bipush 62, 2) := dk_16 62 (dk_at dksX17_holds_1 15 rfl rfl)
theorem dX17_holds_40 : decode cX17_holds 40 = .ok (.if_icmp .ne 19, 3) := dk_160 0 19 (dk_at dksX17_holds_1 17 rfl rfl)
theorem dX17_holds_43 : decode cX17_holds 43 = .ok (.iload_n 2, 1) := dk_28 (dk_at dksX17_holds_1 20 rfl rfl)
theorem dX17_holds_44 : decode cX17_holds 44 = .ok (.aload_n 0, 1) := dk_42 (dk_at dksX17_holds_1 21 rfl rfl)
theorem dX17_holds_45 : decode cX17_holds 45 = .ok (.getfield 17, 3) := dk_180 0 17 (dk_at dksX17_holds_2 0 rfl rfl)
theorem dX17_holds_48 : decode cX17_holds 48 = .ok (.if_icmp .le 7, 3) := dk_164 0 7 (dk_at dksX17_holds_2 3 rfl rfl)
theorem dX17_holds_51 : decode cX17_holds 51 = .ok (.iconst 1, 1) := dk_4 (dk_at dksX17_holds_2 6 rfl rfl)
theorem dX17_holds_52 : decode cX17_holds 52 = .ok (.goto 20, 3) := dk_167 0 20 (dk_at dksX17_holds_2 7 rfl rfl)
theorem dX17_holds_55 : decode cX17_holds 55 = .ok (.iconst 0, 1) := dk_3 (dk_at dksX17_holds_2 10 rfl rfl)
theorem dX17_holds_56 : decode cX17_holds 56 = .ok (.goto 16, 3) := dk_167 0 16 (dk_at dksX17_holds_2 11 rfl rfl)
theorem dX17_holds_59 : decode cX17_holds 59 = .ok (.iload_n 2, 1) := dk_28 (dk_at dksX17_holds_2 14 rfl rfl)
theorem dX17_holds_60 : decode cX17_holds 60 = .ok (.aload_n 0, 1) := dk_42 (dk_at dksX17_holds_2 15 rfl rfl)
theorem dX17_holds_61 : decode cX17_holds 61 = .ok (.getfield 17, 3) := dk_180 0 17 (dk_at dksX17_holds_2 16 rfl rfl)
theorem dX17_holds_64 : decode cX17_holds 64 = .ok (.if_icmp .ne 7, 3) := dk_160 0 7 (dk_at dksX17_holds_2 19 rfl rfl)
theorem dX17_holds_67 : decode cX17_holds 67 = .ok (.iconst 1, 1) := dk_4 (dk_at dksX17_holds_2 22 rfl rfl)
theorem dX17_holds_68 : decode cX17_holds 68 = .ok (.goto 4, 3) := dk_167 0 4 (dk_at dksX17_holds_3 0 rfl rfl)
theorem dX17_holds_71 : decode cX17_holds 71 = .ok (.iconst 0, 1) := dk_3 (dk_at dksX17_holds_3 3 rfl rfl)
theorem dX17_holds_72 : decode cX17_holds 72 = .ok (.ireturn, 1) := dk_172 (dk_at dksX17_holds_3 4 rfl rfl)
theorem q181 : (Jvm.Cond.initialized "SpectrumAccess$Comparison") ∈ lw_all := lw_g (lw_at lw_m1 42 rfl) rfl
theorem q872 : (Jvm.Cond.selects "SpectrumAccess$Comparison" ({ cls := "java/lang/Object", name := "getClass", desc := "()Ljava/lang/Class;" } : Jvm.MethodName) ({ cls := "java/lang/Object", name := "getClass", desc := "()Ljava/lang/Class;" } : Jvm.MethodName)) ∈ lw_all := lw_g (lw_at lw_m4 13 rfl) rfl
theorem q1616 : (Jvm.Cond.instantiable "SpectrumAccess$Comparison" (3 : Nat)) ∈ lw_all := lw_g (lw_at lw_m7 37 rfl) rfl
theorem q1618 : (Jvm.Cond.instanceMethod ({ cls := "SpectrumAccess$Comparison", name := "<init>", desc := "(Ljava/lang/String;CI)V" } : Jvm.MethodName)) ∈ lw_all := lw_g (lw_at lw_m7 39 rfl) rfl
theorem q1619 : (Jvm.Cond.code ({ cls := "SpectrumAccess$Comparison", name := "<init>", desc := "(Ljava/lang/String;CI)V" } : Jvm.MethodName) prog_5_method_1_code (4 : Nat) (Option.none : Option Jvm.ClassFile.FieldType)) ∈ lw_all := lw_g (lw_at lw_m7 40 rfl) rfl
theorem q1620 : (Jvm.Cond.methodLinkNest "SpectrumAccess$Comparison" (1 : Nat) ({ cls := "SpectrumAccess$Test", name := "<init>", desc := "()V" } : Jvm.MethodName) "SpectrumAccess") ∈ lw_tbl := lw_at lw_m7 41 rfl
theorem q1621 : (Jvm.Cond.fieldLink "SpectrumAccess$Comparison" (7 : Nat) "SpectrumAccess$Comparison" "value" "Ljava/lang/String;") ∈ lw_all := lw_g (lw_at lw_m7 42 rfl) rfl
theorem q1622 : (Jvm.Cond.fieldLink "SpectrumAccess$Comparison" (13 : Nat) "SpectrumAccess$Comparison" "sign" "C") ∈ lw_all := lw_g (lw_at lw_m7 43 rfl) rfl
theorem q1623 : (Jvm.Cond.fieldLink "SpectrumAccess$Comparison" (17 : Nat) "SpectrumAccess$Comparison" "number" "I") ∈ lw_all := lw_g (lw_at lw_m7 44 rfl) rfl
theorem q1624 : (Jvm.Cond.laysFinal "SpectrumAccess$Comparison" "SpectrumAccess$Comparison" "value" "Ljava/lang/String;") ∈ lw_all := lw_g (lw_at lw_m7 45 rfl) rfl
theorem q1625 : (Jvm.Cond.soleField "SpectrumAccess$Comparison" "value") ∈ lw_all := lw_g (lw_at lw_m7 46 rfl) rfl
theorem q1626 : (Jvm.Cond.laysFinal "SpectrumAccess$Comparison" "SpectrumAccess$Comparison" "sign" "C") ∈ lw_all := lw_g (lw_at lw_m7 47 rfl) rfl
theorem q1627 : (Jvm.Cond.soleField "SpectrumAccess$Comparison" "sign") ∈ lw_all := lw_g (lw_at lw_m7 48 rfl) rfl
theorem q1628 : (Jvm.Cond.laysFinal "SpectrumAccess$Comparison" "SpectrumAccess$Comparison" "number" "I") ∈ lw_all := lw_g (lw_at lw_m7 49 rfl) rfl
theorem q1629 : (Jvm.Cond.soleField "SpectrumAccess$Comparison" "number") ∈ lw_all := lw_g (lw_at lw_m7 50 rfl) rfl
theorem q1630 : (Jvm.Cond.superclass "SpectrumAccess$Comparison" "SpectrumAccess$Test") ∈ lw_all := lw_g (lw_at lw_m7 51 rfl) rfl
theorem q2056 : (Jvm.Cond.selects "SpectrumAccess$Comparison" ({ cls := "SpectrumAccess$Test", name := "holds", desc := "(LSpectrumAccess$Case;)Z" } : Jvm.MethodName) ({ cls := "SpectrumAccess$Comparison", name := "holds", desc := "(LSpectrumAccess$Case;)Z" } : Jvm.MethodName)) ∈ lw_all := lw_g (lw_at lw_m8 237 rfl) rfl
theorem q2057 : (Jvm.Cond.instanceMethod ({ cls := "SpectrumAccess$Comparison", name := "holds", desc := "(LSpectrumAccess$Case;)Z" } : Jvm.MethodName)) ∈ lw_all := lw_g (lw_at lw_m8 238 rfl) rfl
theorem q2058 : (Jvm.Cond.code ({ cls := "SpectrumAccess$Comparison", name := "holds", desc := "(LSpectrumAccess$Case;)Z" } : Jvm.MethodName) prog_5_method_2_code (3 : Nat) (Option.some Jvm.ClassFile.FieldType.boolean)) ∈ lw_all := lw_g (lw_at lw_m8 239 rfl) rfl
theorem q2059 : (Jvm.Cond.methodLink "SpectrumAccess$Comparison" (21 : Nat) ({ cls := "SpectrumAccess$Case", name := "value", desc := "(Ljava/lang/String;)I" } : Jvm.MethodName)) ∈ lw_all := lw_g (lw_at lw_m9 0 rfl) rfl
theorem q3481 : (Jvm.Cond.castable "SpectrumAccess$Comparison" "SpectrumAccess$Test") ∈ lw_tbl := lw_at lw_m14 222 rfl
theorem q3509 : (Jvm.Cond.castable "SpectrumAccess$Comparison" "java/lang/Object") ∈ lw_tbl := lw_at lw_m15 10 rfl
theorem in_X17 : ∀ w ∈ wsX170, w ∈ lw_all := lw_in wsX170 [1624, 1626, 1628] (by decide +kernel) (by decide +kernel)


/-! SpectrumAccess$Pair -/
set_option maxRecDepth 100000
def RX18 : String := "SpectrumAccess$Pair"
def TX18 : u_T := fun k => match k with
  | 0 => ("SpectrumAccess$Pair", "isAnd", "Z", true)
  | 1 => ("SpectrumAccess$Pair", "left", "LSpectrumAccess$Test;", true)
  | _ => ("SpectrumAccess$Pair", "right", "LSpectrumAccess$Test;", true)
def tyX18 : Nat → FieldType := fun k => match k with
  | 0 => .boolean
  | 1 => .object "SpectrumAccess$Test"
  | _ => .object "SpectrumAccess$Test"
abbrev wsX180 : List Cond := u_ws RX18 TX18 3
theorem nmX18 : ∀ a, a < 3 → ∀ b, b < 3 → a ≠ b → (TX18 a).2.1 ≠ (TX18 b).2.1 := by decide +kernel
theorem tyX18_ok : ∀ k, k < 3 → parseFieldDescriptor (TX18 k).2.2.1 = some (tyX18 k) := by decide +kernel
abbrev cX18_init : ByteArray := prog_11_method_1_code
def yX18_init : MethodName := ⟨RX18, "<init>", "(ZLSpectrumAccess$Test;LSpectrumAccess$Test;)V"⟩
def dkwX18_init_0 : List UInt8 := [42, 183, 0, 1, 42, 27, 181, 0, 7, 42, 44, 181, 0, 13, 42, 45, 181, 0, 17, 177]
abbrev dktX18_init_0 : List UInt8 := dkwX18_init_0 ++ []
theorem dksX18_init_0 : cX18_init.data.toList.drop 0 = dktX18_init_0 := by decide +kernel
theorem dX18_init_0 : decode cX18_init 0 = .ok (.aload_n 0, 1) := dk_42 (dk_at dksX18_init_0 0 rfl rfl)
theorem dX18_init_1 : decode cX18_init 1 = .ok (.invokespecial 1, 3) := dk_183 0 1 (dk_at dksX18_init_0 1 rfl rfl)
theorem dX18_init_4 : decode cX18_init 4 = .ok (.aload_n 0, 1) := dk_42 (dk_at dksX18_init_0 4 rfl rfl)
theorem dX18_init_5 : decode cX18_init 5 = .ok (.iload_n 1, 1) := dk_27 (dk_at dksX18_init_0 5 rfl rfl)
theorem dX18_init_6 : decode cX18_init 6 = .ok (.putfield 7, 3) := dk_181 0 7 (dk_at dksX18_init_0 6 rfl rfl)
theorem dX18_init_9 : decode cX18_init 9 = .ok (.aload_n 0, 1) := dk_42 (dk_at dksX18_init_0 9 rfl rfl)
theorem dX18_init_10 : decode cX18_init 10 = .ok (.aload_n 2, 1) := dk_44 (dk_at dksX18_init_0 10 rfl rfl)
theorem dX18_init_11 : decode cX18_init 11 = .ok (.putfield 13, 3) := dk_181 0 13 (dk_at dksX18_init_0 11 rfl rfl)
theorem dX18_init_14 : decode cX18_init 14 = .ok (.aload_n 0, 1) := dk_42 (dk_at dksX18_init_0 14 rfl rfl)
theorem dX18_init_15 : decode cX18_init 15 = .ok (.aload_n 3, 1) := dk_45 (dk_at dksX18_init_0 15 rfl rfl)
theorem dX18_init_16 : decode cX18_init 16 = .ok (.putfield 17, 3) := dk_181 0 17 (dk_at dksX18_init_0 16 rfl rfl)
theorem dX18_init_19 : decode cX18_init 19 = .ok (.return_, 1) := dk_177 (dk_at dksX18_init_0 19 rfl rfl)
abbrev cX18_holds : ByteArray := prog_11_method_2_code
def yX18_holds : MethodName := ⟨RX18, "holds", "(LSpectrumAccess$Case;)Z"⟩
def dkwX18_holds_2 : List UInt8 := [154, 0, 14, 42, 180, 0, 17, 43, 182, 0, 20, 153, 0, 7, 4, 167, 0, 4, 3, 172]
abbrev dktX18_holds_2 : List UInt8 := dkwX18_holds_2 ++ []
def dkwX18_holds_1 : List UInt8 := [182, 0, 20, 153, 0, 7, 4, 167, 0, 34, 3, 167, 0, 30, 42, 180, 0, 13, 43, 182, 0, 20]
abbrev dktX18_holds_1 : List UInt8 := dkwX18_holds_1 ++ dktX18_holds_2
def dkwX18_holds_0 : List UInt8 := [42, 180, 0, 7, 153, 0, 33, 42, 180, 0, 13, 43, 182, 0, 20, 153, 0, 18, 42, 180, 0, 17, 43]
abbrev dktX18_holds_0 : List UInt8 := dkwX18_holds_0 ++ dktX18_holds_1
theorem dksX18_holds_0 : cX18_holds.data.toList.drop 0 = dktX18_holds_0 := by decide +kernel
theorem dksX18_holds_1 : cX18_holds.data.toList.drop 23 = dktX18_holds_1 := dk_seg dksX18_holds_0 23 rfl rfl
theorem dksX18_holds_2 : cX18_holds.data.toList.drop 45 = dktX18_holds_2 := dk_seg dksX18_holds_1 22 rfl rfl
theorem dX18_holds_0 : decode cX18_holds 0 = .ok (.aload_n 0, 1) := dk_42 (dk_at dksX18_holds_0 0 rfl rfl)
theorem dX18_holds_1 : decode cX18_holds 1 = .ok (.getfield 7, 3) := dk_180 0 7 (dk_at dksX18_holds_0 1 rfl rfl)
theorem dX18_holds_4 : decode cX18_holds 4 = .ok (.ifCond .eq 33, 3) := dk_153 0 33 (dk_at dksX18_holds_0 4 rfl rfl)
theorem dX18_holds_7 : decode cX18_holds 7 = .ok (.aload_n 0, 1) := dk_42 (dk_at dksX18_holds_0 7 rfl rfl)
theorem dX18_holds_8 : decode cX18_holds 8 = .ok (.getfield 13, 3) := dk_180 0 13 (dk_at dksX18_holds_0 8 rfl rfl)
theorem dX18_holds_11 : decode cX18_holds 11 = .ok (.aload_n 1, 1) := dk_43 (dk_at dksX18_holds_0 11 rfl rfl)
theorem dX18_holds_12 : decode cX18_holds 12 = .ok (.invokevirtual 20, 3) := dk_182 0 20 (dk_at dksX18_holds_0 12 rfl rfl)
theorem dX18_holds_15 : decode cX18_holds 15 = .ok (.ifCond .eq 18, 3) := dk_153 0 18 (dk_at dksX18_holds_0 15 rfl rfl)
theorem dX18_holds_18 : decode cX18_holds 18 = .ok (.aload_n 0, 1) := dk_42 (dk_at dksX18_holds_0 18 rfl rfl)
theorem dX18_holds_19 : decode cX18_holds 19 = .ok (.getfield 17, 3) := dk_180 0 17 (dk_at dksX18_holds_0 19 rfl rfl)
theorem dX18_holds_22 : decode cX18_holds 22 = .ok (.aload_n 1, 1) := dk_43 (dk_at dksX18_holds_0 22 rfl rfl)
theorem dX18_holds_23 : decode cX18_holds 23 = .ok (.invokevirtual 20, 3) := dk_182 0 20 (dk_at dksX18_holds_1 0 rfl rfl)
theorem dX18_holds_26 : decode cX18_holds 26 = .ok (.ifCond .eq 7, 3) := dk_153 0 7 (dk_at dksX18_holds_1 3 rfl rfl)
theorem dX18_holds_29 : decode cX18_holds 29 = .ok (.iconst 1, 1) := dk_4 (dk_at dksX18_holds_1 6 rfl rfl)
theorem dX18_holds_30 : decode cX18_holds 30 = .ok (.goto 34, 3) := dk_167 0 34 (dk_at dksX18_holds_1 7 rfl rfl)
theorem dX18_holds_33 : decode cX18_holds 33 = .ok (.iconst 0, 1) := dk_3 (dk_at dksX18_holds_1 10 rfl rfl)
theorem dX18_holds_34 : decode cX18_holds 34 = .ok (.goto 30, 3) := dk_167 0 30 (dk_at dksX18_holds_1 11 rfl rfl)
theorem dX18_holds_37 : decode cX18_holds 37 = .ok (.aload_n 0, 1) := dk_42 (dk_at dksX18_holds_1 14 rfl rfl)
theorem dX18_holds_38 : decode cX18_holds 38 = .ok (.getfield 13, 3) := dk_180 0 13 (dk_at dksX18_holds_1 15 rfl rfl)
theorem dX18_holds_41 : decode cX18_holds 41 = .ok (.aload_n 1, 1) := dk_43 (dk_at dksX18_holds_1 18 rfl rfl)
theorem dX18_holds_42 : decode cX18_holds 42 = .ok (.invokevirtual 20, 3) := dk_182 0 20 (dk_at dksX18_holds_1 19 rfl rfl)
theorem dX18_holds_45 : decode cX18_holds 45 = .ok (.ifCond .ne 14, 3) := dk_154 0 14 (dk_at dksX18_holds_2 0 rfl rfl)
theorem dX18_holds_48 : decode cX18_holds 48 = .ok (.aload_n 0, 1) := dk_42 (dk_at dksX18_holds_2 3 rfl rfl)
theorem dX18_holds_49 : decode cX18_holds 49 = .ok (.getfield 17, 3) := dk_180 0 17 (dk_at dksX18_holds_2 4 rfl rfl)
theorem dX18_holds_52 : decode cX18_holds 52 = .ok (.aload_n 1, 1) := dk_43 (dk_at dksX18_holds_2 7 rfl rfl)
theorem dX18_holds_53 : decode cX18_holds 53 = .ok (.invokevirtual 20, 3) := dk_182 0 20 (dk_at dksX18_holds_2 8 rfl rfl)
theorem dX18_holds_56 : decode cX18_holds 56 = .ok (.ifCond .eq 7, 3) := dk_153 0 7 (dk_at dksX18_holds_2 11 rfl rfl)
theorem dX18_holds_59 : decode cX18_holds 59 = .ok (.iconst 1, 1) := dk_4 (dk_at dksX18_holds_2 14 rfl rfl)
theorem dX18_holds_60 : decode cX18_holds 60 = .ok (.goto 4, 3) := dk_167 0 4 (dk_at dksX18_holds_2 15 rfl rfl)
theorem dX18_holds_63 : decode cX18_holds 63 = .ok (.iconst 0, 1) := dk_3 (dk_at dksX18_holds_2 18 rfl rfl)
theorem dX18_holds_64 : decode cX18_holds 64 = .ok (.ireturn, 1) := dk_172 (dk_at dksX18_holds_2 19 rfl rfl)
theorem q182 : (Jvm.Cond.initialized "SpectrumAccess$Pair") ∈ lw_all := lw_g (lw_at lw_m1 43 rfl) rfl
theorem q878 : (Jvm.Cond.selects "SpectrumAccess$Pair" ({ cls := "java/lang/Object", name := "getClass", desc := "()Ljava/lang/Class;" } : Jvm.MethodName) ({ cls := "java/lang/Object", name := "getClass", desc := "()Ljava/lang/Class;" } : Jvm.MethodName)) ∈ lw_all := lw_g (lw_at lw_m4 19 rfl) rfl
theorem q1634 : (Jvm.Cond.instantiable "SpectrumAccess$Pair" (3 : Nat)) ∈ lw_all := lw_g (lw_at lw_m7 55 rfl) rfl
theorem q1636 : (Jvm.Cond.instanceMethod ({ cls := "SpectrumAccess$Pair", name := "<init>", desc := "(ZLSpectrumAccess$Test;LSpectrumAccess$Test;)V" } : Jvm.MethodName)) ∈ lw_all := lw_g (lw_at lw_m7 57 rfl) rfl
theorem q1637 : (Jvm.Cond.code ({ cls := "SpectrumAccess$Pair", name := "<init>", desc := "(ZLSpectrumAccess$Test;LSpectrumAccess$Test;)V" } : Jvm.MethodName) prog_11_method_1_code (4 : Nat) (Option.none : Option Jvm.ClassFile.FieldType)) ∈ lw_all := lw_g (lw_at lw_m7 58 rfl) rfl
theorem q1638 : (Jvm.Cond.methodLinkNest "SpectrumAccess$Pair" (1 : Nat) ({ cls := "SpectrumAccess$Test", name := "<init>", desc := "()V" } : Jvm.MethodName) "SpectrumAccess") ∈ lw_tbl := lw_at lw_m7 59 rfl
theorem q1639 : (Jvm.Cond.fieldLink "SpectrumAccess$Pair" (7 : Nat) "SpectrumAccess$Pair" "isAnd" "Z") ∈ lw_all := lw_g (lw_at lw_m7 60 rfl) rfl
theorem q1640 : (Jvm.Cond.fieldLink "SpectrumAccess$Pair" (13 : Nat) "SpectrumAccess$Pair" "left" "LSpectrumAccess$Test;") ∈ lw_all := lw_g (lw_at lw_m7 61 rfl) rfl
theorem q1641 : (Jvm.Cond.fieldLink "SpectrumAccess$Pair" (17 : Nat) "SpectrumAccess$Pair" "right" "LSpectrumAccess$Test;") ∈ lw_all := lw_g (lw_at lw_m7 62 rfl) rfl
theorem q1642 : (Jvm.Cond.laysFinal "SpectrumAccess$Pair" "SpectrumAccess$Pair" "isAnd" "Z") ∈ lw_all := lw_g (lw_at lw_m7 63 rfl) rfl
theorem q1643 : (Jvm.Cond.soleField "SpectrumAccess$Pair" "isAnd") ∈ lw_all := lw_g (lw_at lw_m7 64 rfl) rfl
theorem q1644 : (Jvm.Cond.laysFinal "SpectrumAccess$Pair" "SpectrumAccess$Pair" "left" "LSpectrumAccess$Test;") ∈ lw_all := lw_g (lw_at lw_m7 65 rfl) rfl
theorem q1645 : (Jvm.Cond.soleField "SpectrumAccess$Pair" "left") ∈ lw_all := lw_g (lw_at lw_m7 66 rfl) rfl
theorem q1646 : (Jvm.Cond.laysFinal "SpectrumAccess$Pair" "SpectrumAccess$Pair" "right" "LSpectrumAccess$Test;") ∈ lw_all := lw_g (lw_at lw_m7 67 rfl) rfl
theorem q1647 : (Jvm.Cond.soleField "SpectrumAccess$Pair" "right") ∈ lw_all := lw_g (lw_at lw_m7 68 rfl) rfl
theorem q1648 : (Jvm.Cond.superclass "SpectrumAccess$Pair" "SpectrumAccess$Test") ∈ lw_all := lw_g (lw_at lw_m7 69 rfl) rfl
theorem q2073 : (Jvm.Cond.instanceMethod ({ cls := "SpectrumAccess$Pair", name := "holds", desc := "(LSpectrumAccess$Case;)Z" } : Jvm.MethodName)) ∈ lw_all := lw_g (lw_at lw_m9 14 rfl) rfl
theorem q2074 : (Jvm.Cond.code ({ cls := "SpectrumAccess$Pair", name := "holds", desc := "(LSpectrumAccess$Case;)Z" } : Jvm.MethodName) prog_11_method_2_code (2 : Nat) (Option.some Jvm.ClassFile.FieldType.boolean)) ∈ lw_all := lw_g (lw_at lw_m9 15 rfl) rfl
theorem q2075 : (Jvm.Cond.methodLink "SpectrumAccess$Pair" (20 : Nat) ({ cls := "SpectrumAccess$Test", name := "holds", desc := "(LSpectrumAccess$Case;)Z" } : Jvm.MethodName)) ∈ lw_all := lw_g (lw_at lw_m9 16 rfl) rfl
theorem q2076 : (Jvm.Cond.selects "SpectrumAccess$Pair" ({ cls := "SpectrumAccess$Test", name := "holds", desc := "(LSpectrumAccess$Case;)Z" } : Jvm.MethodName) ({ cls := "SpectrumAccess$Pair", name := "holds", desc := "(LSpectrumAccess$Case;)Z" } : Jvm.MethodName)) ∈ lw_all := lw_g (lw_at lw_m9 17 rfl) rfl
theorem q3483 : (Jvm.Cond.castable "SpectrumAccess$Pair" "SpectrumAccess$Test") ∈ lw_tbl := lw_at lw_m14 224 rfl
theorem q3510 : (Jvm.Cond.castable "SpectrumAccess$Pair" "java/lang/Object") ∈ lw_tbl := lw_at lw_m15 11 rfl
theorem in_X18 : ∀ w ∈ wsX180, w ∈ lw_all := lw_in wsX180 [1642, 1644, 1646] (by decide +kernel) (by decide +kernel)


/-! SpectrumAccess$Device -/
set_option maxRecDepth 100000
def RX19 : String := "SpectrumAccess$Device"
def TX19 : u_T := fun k => match k with
  | 0 => ("SpectrumAccess$Point", "x", "I", true)
  | 1 => ("SpectrumAccess$Point", "y", "I", true)
  | 2 => ("SpectrumAccess$Device", "licence", "I", true)
  | _ => ("SpectrumAccess$Device", "isOff", "Z", true)
def tyX19 : Nat → FieldType := fun k => match k with
  | 0 => .int
  | 1 => .int
  | 2 => .int
  | _ => .boolean
abbrev wsX190 : List Cond := u_ws RX19 TX19 4
theorem nmX19 : ∀ a, a < 4 → ∀ b, b < 4 → a ≠ b → (TX19 a).2.1 ≠ (TX19 b).2.1 := by decide +kernel
theorem tyX19_ok : ∀ k, k < 4 → parseFieldDescriptor (TX19 k).2.2.1 = some (tyX19 k) := by decide +kernel
abbrev cX19_isLicensed : ByteArray := prog_6_method_3_code
def yX19_isLicensed : MethodName := ⟨RX19, "isLicensed", "()Z"⟩
def dkwX19_isLicensed_0 : List UInt8 := [42, 180, 0, 25, 2, 159, 0, 7, 4, 167, 0, 4, 3, 172]
abbrev dktX19_isLicensed_0 : List UInt8 := dkwX19_isLicensed_0 ++ []
theorem dksX19_isLicensed_0 : cX19_isLicensed.data.toList.drop 0 = dktX19_isLicensed_0 := by decide +kernel
theorem dX19_isLicensed_0 : decode cX19_isLicensed 0 = .ok (.aload_n 0, 1) := dk_42 (dk_at dksX19_isLicensed_0 0 rfl rfl)
theorem dX19_isLicensed_1 : decode cX19_isLicensed 1 = .ok (.getfield 25, 3) := dk_180 0 25 (dk_at dksX19_isLicensed_0 1 rfl rfl)
theorem dX19_isLicensed_4 : decode cX19_isLicensed 4 = .ok (.iconst (-1), 1) := dk_2 (dk_at dksX19_isLicensed_0 4 rfl rfl)
theorem dX19_isLicensed_5 : decode cX19_isLicensed 5 = .ok (.if_icmp .eq 7, 3) := dk_159 0 7 (dk_at dksX19_isLicensed_0 5 rfl rfl)
theorem dX19_isLicensed_8 : decode cX19_isLicensed 8 = .ok (.iconst 1, 1) := dk_4 (dk_at dksX19_isLicensed_0 8 rfl rfl)
theorem dX19_isLicensed_9 : decode cX19_isLicensed 9 = .ok (.goto 4, 3) := dk_167 0 4 (dk_at dksX19_isLicensed_0 9 rfl rfl)
theorem dX19_isLicensed_12 : decode cX19_isLicensed 12 = .ok (.iconst 0, 1) := dk_3 (dk_at dksX19_isLicensed_0 12 rfl rfl)
theorem dX19_isLicensed_13 : decode cX19_isLicensed 13 = .ok (.ireturn, 1) := dk_172 (dk_at dksX19_isLicensed_0 13 rfl rfl)
abbrev cX19_init : ByteArray := prog_6_method_1_code
def yX19_init : MethodName := ⟨RX19, "<init>", "(LSpectrumAccess$Point;Z)V"⟩
def dkwX19_init_0 : List UInt8 := [42, 43, 28, 2, 183, 0, 3, 177]
abbrev dktX19_init_0 : List UInt8 := dkwX19_init_0 ++ []
theorem dksX19_init_0 : cX19_init.data.toList.drop 0 = dktX19_init_0 := by decide +kernel
theorem dX19_init_0 : decode cX19_init 0 = .ok (.aload_n 0, 1) := dk_42 (dk_at dksX19_init_0 0 rfl rfl)
theorem dX19_init_1 : decode cX19_init 1 = .ok (.aload_n 1, 1) := dk_43 (dk_at dksX19_init_0 1 rfl rfl)
theorem dX19_init_2 : decode cX19_init 2 = .ok (.iload_n 2, 1) := dk_28 (dk_at dksX19_init_0 2 rfl rfl)
theorem dX19_init_3 : decode cX19_init 3 = .ok (.iconst (-1), 1) := dk_2 (dk_at dksX19_init_0 3 rfl rfl)
theorem dX19_init_4 : decode cX19_init 4 = .ok (.invokespecial 3, 3) := dk_183 0 3 (dk_at dksX19_init_0 4 rfl rfl)
theorem dX19_init_7 : decode cX19_init 7 = .ok (.return_, 1) := dk_177 (dk_at dksX19_init_0 7 rfl rfl)
abbrev cX19_init_2 : ByteArray := prog_6_method_2_code
def yX19_init_2 : MethodName := ⟨RX19, "<init>", "(LSpectrumAccess$Point;ZI)V"⟩
def dkwX19_init_2_0 : List UInt8 := [42, 43, 180, 0, 9, 43, 180, 0, 15, 183, 0, 18, 42, 28, 181, 0, 21, 42, 29, 181, 0, 25, 177]
abbrev dktX19_init_2_0 : List UInt8 := dkwX19_init_2_0 ++ []
theorem dksX19_init_2_0 : cX19_init_2.data.toList.drop 0 = dktX19_init_2_0 := by decide +kernel
theorem dX19_init_2_0 : decode cX19_init_2 0 = .ok (.aload_n 0, 1) := dk_42 (dk_at dksX19_init_2_0 0 rfl rfl)
theorem dX19_init_2_1 : decode cX19_init_2 1 = .ok (.aload_n 1, 1) := dk_43 (dk_at dksX19_init_2_0 1 rfl rfl)
theorem dX19_init_2_2 : decode cX19_init_2 2 = .ok (.getfield 9, 3) := dk_180 0 9 (dk_at dksX19_init_2_0 2 rfl rfl)
theorem dX19_init_2_5 : decode cX19_init_2 5 = .ok (.aload_n 1, 1) := dk_43 (dk_at dksX19_init_2_0 5 rfl rfl)
theorem dX19_init_2_6 : decode cX19_init_2 6 = .ok (.getfield 15, 3) := dk_180 0 15 (dk_at dksX19_init_2_0 6 rfl rfl)
theorem dX19_init_2_9 : decode cX19_init_2 9 = .ok (.invokespecial 18, 3) := dk_183 0 18 (dk_at dksX19_init_2_0 9 rfl rfl)
theorem dX19_init_2_12 : decode cX19_init_2 12 = .ok (.aload_n 0, 1) := dk_42 (dk_at dksX19_init_2_0 12 rfl rfl)
theorem dX19_init_2_13 : decode cX19_init_2 13 = .ok (.iload_n 2, 1) := dk_28 (dk_at dksX19_init_2_0 13 rfl rfl)
theorem dX19_init_2_14 : decode cX19_init_2 14 = .ok (.putfield 21, 3) := dk_181 0 21 (dk_at dksX19_init_2_0 14 rfl rfl)
theorem dX19_init_2_17 : decode cX19_init_2 17 = .ok (.aload_n 0, 1) := dk_42 (dk_at dksX19_init_2_0 17 rfl rfl)
theorem dX19_init_2_18 : decode cX19_init_2 18 = .ok (.iload_n 3, 1) := dk_29 (dk_at dksX19_init_2_0 18 rfl rfl)
theorem dX19_init_2_19 : decode cX19_init_2 19 = .ok (.putfield 25, 3) := dk_181 0 25 (dk_at dksX19_init_2_0 19 rfl rfl)
theorem dX19_init_2_22 : decode cX19_init_2 22 = .ok (.return_, 1) := dk_177 (dk_at dksX19_init_2_0 22 rfl rfl)
theorem q183 : (Jvm.Cond.initialized "SpectrumAccess$Device") ∈ lw_all := lw_g (lw_at lw_m1 44 rfl) rfl
theorem q779 : (Jvm.Cond.instanceMethod ({ cls := "SpectrumAccess$Device", name := "isLicensed", desc := "()Z" } : Jvm.MethodName)) ∈ lw_all := lw_g (lw_at lw_m3 160 rfl) rfl
theorem q780 : (Jvm.Cond.selects "SpectrumAccess$Device" ({ cls := "SpectrumAccess$Device", name := "isLicensed", desc := "()Z" } : Jvm.MethodName) ({ cls := "SpectrumAccess$Device", name := "isLicensed", desc := "()Z" } : Jvm.MethodName)) ∈ lw_all := lw_g (lw_at lw_m3 161 rfl) rfl
theorem q781 : (Jvm.Cond.code ({ cls := "SpectrumAccess$Device", name := "isLicensed", desc := "()Z" } : Jvm.MethodName) prog_6_method_3_code (1 : Nat) (Option.some Jvm.ClassFile.FieldType.boolean)) ∈ lw_all := lw_g (lw_at lw_m3 162 rfl) rfl
theorem q873 : (Jvm.Cond.selects "SpectrumAccess$Device" ({ cls := "java/lang/Object", name := "getClass", desc := "()Ljava/lang/Class;" } : Jvm.MethodName) ({ cls := "java/lang/Object", name := "getClass", desc := "()Ljava/lang/Class;" } : Jvm.MethodName)) ∈ lw_all := lw_g (lw_at lw_m4 14 rfl) rfl
theorem q1393 : (Jvm.Cond.fieldLinkNest "SpectrumAccess$Device" (9 : Nat) "SpectrumAccess$Point" "x" "I" "SpectrumAccess") ∈ lw_tbl := lw_at lw_m6 54 rfl
theorem q1398 : (Jvm.Cond.fieldLinkNest "SpectrumAccess$Device" (15 : Nat) "SpectrumAccess$Point" "y" "I" "SpectrumAccess") ∈ lw_tbl := lw_at lw_m6 59 rfl
theorem q1662 : (Jvm.Cond.instantiable "SpectrumAccess$Device" (4 : Nat)) ∈ lw_all := lw_g (lw_at lw_m7 83 rfl) rfl
theorem q1664 : (Jvm.Cond.instanceMethod ({ cls := "SpectrumAccess$Device", name := "<init>", desc := "(LSpectrumAccess$Point;Z)V" } : Jvm.MethodName)) ∈ lw_all := lw_g (lw_at lw_m7 85 rfl) rfl
theorem q1665 : (Jvm.Cond.code ({ cls := "SpectrumAccess$Device", name := "<init>", desc := "(LSpectrumAccess$Point;Z)V" } : Jvm.MethodName) prog_6_method_1_code (3 : Nat) (Option.none : Option Jvm.ClassFile.FieldType)) ∈ lw_all := lw_g (lw_at lw_m7 86 rfl) rfl
theorem q1666 : (Jvm.Cond.methodLink "SpectrumAccess$Device" (3 : Nat) ({ cls := "SpectrumAccess$Device", name := "<init>", desc := "(LSpectrumAccess$Point;ZI)V" } : Jvm.MethodName)) ∈ lw_all := lw_g (lw_at lw_m7 87 rfl) rfl
theorem q1667 : (Jvm.Cond.instanceMethod ({ cls := "SpectrumAccess$Device", name := "<init>", desc := "(LSpectrumAccess$Point;ZI)V" } : Jvm.MethodName)) ∈ lw_all := lw_g (lw_at lw_m7 88 rfl) rfl
theorem q1668 : (Jvm.Cond.code ({ cls := "SpectrumAccess$Device", name := "<init>", desc := "(LSpectrumAccess$Point;ZI)V" } : Jvm.MethodName) prog_6_method_2_code (4 : Nat) (Option.none : Option Jvm.ClassFile.FieldType)) ∈ lw_all := lw_g (lw_at lw_m7 89 rfl) rfl
theorem q1669 : (Jvm.Cond.methodLink "SpectrumAccess$Device" (18 : Nat) ({ cls := "SpectrumAccess$Point", name := "<init>", desc := "(II)V" } : Jvm.MethodName)) ∈ lw_all := lw_g (lw_at lw_m7 90 rfl) rfl
theorem q1670 : (Jvm.Cond.fieldLink "SpectrumAccess$Device" (25 : Nat) "SpectrumAccess$Device" "licence" "I") ∈ lw_all := lw_g (lw_at lw_m7 91 rfl) rfl
theorem q1673 : (Jvm.Cond.fieldLink "SpectrumAccess$Device" (21 : Nat) "SpectrumAccess$Device" "isOff" "Z") ∈ lw_all := lw_g (lw_at lw_m7 94 rfl) rfl
theorem q1675 : (Jvm.Cond.laysFinal "SpectrumAccess$Device" "SpectrumAccess$Device" "licence" "I") ∈ lw_all := lw_g (lw_at lw_m7 96 rfl) rfl
theorem q1676 : (Jvm.Cond.soleField "SpectrumAccess$Device" "licence") ∈ lw_all := lw_g (lw_at lw_m7 97 rfl) rfl
theorem q1677 : (Jvm.Cond.laysFinal "SpectrumAccess$Device" "SpectrumAccess$Device" "isOff" "Z") ∈ lw_all := lw_g (lw_at lw_m7 98 rfl) rfl
theorem q1678 : (Jvm.Cond.soleField "SpectrumAccess$Device" "isOff") ∈ lw_all := lw_g (lw_at lw_m7 99 rfl) rfl
theorem q1679 : (Jvm.Cond.laysFinal "SpectrumAccess$Device" "SpectrumAccess$Point" "x" "I") ∈ lw_all := lw_g (lw_at lw_m7 100 rfl) rfl
theorem q1680 : (Jvm.Cond.laysFinal "SpectrumAccess$Device" "SpectrumAccess$Point" "y" "I") ∈ lw_all := lw_g (lw_at lw_m7 101 rfl) rfl
theorem q1681 : (Jvm.Cond.superclass "SpectrumAccess$Device" "SpectrumAccess$Point") ∈ lw_all := lw_g (lw_at lw_m7 102 rfl) rfl
theorem q1773 : (Jvm.Cond.selects "SpectrumAccess$Device" ({ cls := "SpectrumAccess$Point", name := "far", desc := "(II)I" } : Jvm.MethodName) ({ cls := "SpectrumAccess$Point", name := "far", desc := "(II)I" } : Jvm.MethodName)) ∈ lw_all := lw_g (lw_at lw_m7 194 rfl) rfl
theorem q1828 : (Jvm.Cond.sameMethod "SpectrumAccess$Device" "SpectrumAccess$Point" "far" "(II)I") ∈ lw_all := lw_g (lw_at lw_m8 9 rfl) rfl
theorem q1830 : (Jvm.Cond.selects "SpectrumAccess$Device" ({ cls := "SpectrumAccess$Device", name := "far", desc := "(II)I" } : Jvm.MethodName) ({ cls := "SpectrumAccess$Point", name := "far", desc := "(II)I" } : Jvm.MethodName)) ∈ lw_all := lw_g (lw_at lw_m8 11 rfl) rfl
theorem q3469 : (Jvm.Cond.selects "SpectrumAccess$Device" ({ cls := "SpectrumAccess$Point", name := "far", desc := "(LSpectrumAccess$Point;)I" } : Jvm.MethodName) ({ cls := "SpectrumAccess$Point", name := "far", desc := "(LSpectrumAccess$Point;)I" } : Jvm.MethodName)) ∈ lw_all := lw_g (lw_at lw_m14 210 rfl) rfl
theorem q3484 : (Jvm.Cond.castable "SpectrumAccess$Device" "SpectrumAccess$Point") ∈ lw_tbl := lw_at lw_m14 225 rfl
theorem q3511 : (Jvm.Cond.castable "SpectrumAccess$Device" "java/lang/Object") ∈ lw_tbl := lw_at lw_m15 12 rfl
theorem in_X19 : ∀ w ∈ wsX190, w ∈ lw_all := lw_in wsX190 [1679, 1680, 1675, 1677] (by decide +kernel) (by decide +kernel)


/-! SpectrumAccessModel -/
set_option maxRecDepth 100000
def RX2 : String := "SpectrumAccessModel"
def TX2 : u_T := fun k => match k with
  | 0 => ("SpectrumAccessModel", "thrown", "I", false)
  | 1 => ("SpectrumAccessModel", "buffer", "[I", true)
  | 2 => ("SpectrumAccessModel", "buffered", "I", false)
  | 3 => ("SpectrumAccessModel", "end", "I", false)
  | 4 => ("SpectrumAccessModel", "next", "I", false)
  | 5 => ("SpectrumAccessModel", "parseCode", "I", false)
  | 6 => ("SpectrumAccessModel", "parsePlace", "I", false)
  | 7 => ("SpectrumAccessModel", "token", "I", false)
  | 8 => ("SpectrumAccessModel", "start", "I", false)
  | 9 => ("SpectrumAccessModel", "value", "I", false)
  | 10 => ("SpectrumAccessModel", "plan", "[I", true)
  | 11 => ("SpectrumAccessModel", "newPlan", "[I", true)
  | 12 => ("SpectrumAccessModel", "now", "[I", true)
  | 13 => ("SpectrumAccessModel", "draft", "[I", true)
  | 14 => ("SpectrumAccessModel", "work", "[I", true)
  | 15 => ("SpectrumAccessModel", "history", "[I", true)
  | 16 => ("SpectrumAccessModel", "stored", "[I", true)
  | 17 => ("SpectrumAccessModel", "isStored", "[Z", true)
  | 18 => ("SpectrumAccessModel", "undos", "I", false)
  | 19 => ("SpectrumAccessModel", "hasRegion", "Z", false)
  | 20 => ("SpectrumAccessModel", "values", "[Ljava/lang/String;", true)
  | 21 => ("SpectrumAccessModel", "kind", "[I", true)
  | 22 => ("SpectrumAccessModel", "left", "[I", true)
  | 23 => ("SpectrumAccessModel", "right", "[I", true)
  | 24 => ("SpectrumAccessModel", "over", "[I", true)
  | 25 => ("SpectrumAccessModel", "bank", "I", false)
  | 26 => ("SpectrumAccessModel", "nodes", "I", false)
  | 27 => ("SpectrumAccessModel", "depth", "I", false)
  | 28 => ("SpectrumAccessModel", "askX", "I", false)
  | 29 => ("SpectrumAccessModel", "askY", "I", false)
  | 30 => ("SpectrumAccessModel", "askChannel", "I", false)
  | 31 => ("SpectrumAccessModel", "askTime", "I", false)
  | 32 => ("SpectrumAccessModel", "askMoves", "I", false)
  | 33 => ("SpectrumAccessModel", "roomAt", "[I", true)
  | 34 => ("SpectrumAccessModel", "roomBeside", "[I", true)
  | 35 => ("SpectrumAccessModel", "roomBase", "I", false)
  | 36 => ("SpectrumAccessModel", "keepsRooms", "Z", false)
  | 37 => ("SpectrumAccessModel", "hasAllRooms", "Z", false)
  | 38 => ("SpectrumAccessModel", "hasLicensedRooms", "Z", false)
  | 39 => ("SpectrumAccessModel", "isKept", "[Z", true)
  | 40 => ("SpectrumAccessModel", "offered", "I", false)
  | 41 => ("SpectrumAccessModel", "offeredWith", "I", false)
  | 42 => ("SpectrumAccessModel", "row", "[I", true)
  | 43 => ("SpectrumAccessModel", "page", "[I", true)
  | _ => ("SpectrumAccessModel", "pageSize", "I", false)
def tyX2 : Nat → FieldType := fun k => match k with
  | 0 => .int
  | 1 => .array .int
  | 2 => .int
  | 3 => .int
  | 4 => .int
  | 5 => .int
  | 6 => .int
  | 7 => .int
  | 8 => .int
  | 9 => .int
  | 10 => .array .int
  | 11 => .array .int
  | 12 => .array .int
  | 13 => .array .int
  | 14 => .array .int
  | 15 => .array .int
  | 16 => .array .int
  | 17 => .array .boolean
  | 18 => .int
  | 19 => .boolean
  | 20 => .array (.object "java/lang/String")
  | 21 => .array .int
  | 22 => .array .int
  | 23 => .array .int
  | 24 => .array .int
  | 25 => .int
  | 26 => .int
  | 27 => .int
  | 28 => .int
  | 29 => .int
  | 30 => .int
  | 31 => .int
  | 32 => .int
  | 33 => .array .int
  | 34 => .array .int
  | 35 => .int
  | 36 => .boolean
  | 37 => .boolean
  | 38 => .boolean
  | 39 => .array .boolean
  | 40 => .int
  | 41 => .int
  | 42 => .array .int
  | 43 => .array .int
  | _ => .int
abbrev wsX20 : List Cond := u_ws RX2 TX2 45
set_option maxRecDepth 100000 in
theorem nmX2 : ∀ a, a < 45 → ∀ b, b < 45 → a ≠ b → (TX2 a).2.1 ≠ (TX2 b).2.1 := by decide +kernel
set_option maxRecDepth 100000 in
theorem tyX2_ok : ∀ k, k < 45 → parseFieldDescriptor (TX2 k).2.2.1 = some (tyX2 k) := by decide +kernel
abbrev cX2_init : ByteArray := prog_22_method_1_code
def yX2_init : MethodName := ⟨RX2, "<init>", "()V"⟩
def dkwX2_init_8 : List UInt8 := [17, 1, 44, 188, 10, 181, 0, 82, 177]
abbrev dktX2_init_8 : List UInt8 := dkwX2_init_8 ++ []
def dkwX2_init_7 : List UInt8 := [188, 10, 181, 0, 73, 42, 16, 10, 188, 4, 181, 0, 76, 42, 16, 16, 188, 10, 181, 0, 79, 42]
abbrev dktX2_init_7 : List UInt8 := dkwX2_init_7 ++ dktX2_init_8
def dkwX2_init_6 : List UInt8 := [181, 0, 64, 42, 17, 5, 120, 188, 10, 181, 0, 67, 42, 17, 0, 160, 188, 10, 181, 0, 70, 42, 16, 16]
abbrev dktX2_init_6 : List UInt8 := dkwX2_init_6 ++ dktX2_init_7
def dkwX2_init_5 : List UInt8 := [42, 17, 5, 120, 188, 10, 181, 0, 58, 42, 17, 5, 120, 188, 10, 181, 0, 61, 42, 17, 5, 120, 188, 10]
abbrev dktX2_init_5 : List UInt8 := dkwX2_init_5 ++ dktX2_init_6
def dkwX2_init_4 : List UInt8 := [83, 89, 4, 18, 46, 83, 89, 5, 18, 48, 83, 89, 6, 18, 50, 83, 89, 7, 18, 52, 83, 181, 0, 54]
abbrev dktX2_init_4 : List UInt8 := dkwX2_init_4 ++ dktX2_init_5
def dkwX2_init_3 : List UInt8 := [17, 10, 236, 188, 10, 181, 0, 35, 42, 5, 188, 4, 181, 0, 38, 42, 8, 189, 0, 42, 89, 3, 18, 44]
abbrev dktX2_init_3 : List UInt8 := dkwX2_init_3 ++ dktX2_init_4
def dkwX2_init_2 : List UInt8 := [188, 10, 181, 0, 26, 42, 17, 5, 118, 188, 10, 181, 0, 29, 42, 17, 32, 196, 188, 10, 181, 0, 32, 42]
abbrev dktX2_init_2 : List UInt8 := dkwX2_init_2 ++ dktX2_init_3
def dkwX2_init_1 : List UInt8 := [181, 0, 17, 42, 16, 107, 188, 10, 181, 0, 20, 42, 17, 5, 118, 188, 10, 181, 0, 23, 42, 17, 5, 118]
abbrev dktX2_init_1 : List UInt8 := dkwX2_init_1 ++ dktX2_init_2
def dkwX2_init_0 : List UInt8 := [42, 183, 0, 1, 42, 17, 4, 176, 188, 10, 181, 0, 9, 42, 2, 181, 0, 13, 42, 16, 107, 188, 10]
abbrev dktX2_init_0 : List UInt8 := dkwX2_init_0 ++ dktX2_init_1
theorem dksX2_init_0 : cX2_init.data.toList.drop 0 = dktX2_init_0 := by decide +kernel
theorem dksX2_init_1 : cX2_init.data.toList.drop 23 = dktX2_init_1 := dk_seg dksX2_init_0 23 rfl rfl
theorem dksX2_init_2 : cX2_init.data.toList.drop 47 = dktX2_init_2 := dk_seg dksX2_init_1 24 rfl rfl
theorem dksX2_init_3 : cX2_init.data.toList.drop 71 = dktX2_init_3 := dk_seg dksX2_init_2 24 rfl rfl
theorem dksX2_init_4 : cX2_init.data.toList.drop 95 = dktX2_init_4 := dk_seg dksX2_init_3 24 rfl rfl
theorem dksX2_init_5 : cX2_init.data.toList.drop 119 = dktX2_init_5 := dk_seg dksX2_init_4 24 rfl rfl
theorem dksX2_init_6 : cX2_init.data.toList.drop 143 = dktX2_init_6 := dk_seg dksX2_init_5 24 rfl rfl
theorem dksX2_init_7 : cX2_init.data.toList.drop 167 = dktX2_init_7 := dk_seg dksX2_init_6 24 rfl rfl
theorem dksX2_init_8 : cX2_init.data.toList.drop 189 = dktX2_init_8 := dk_seg dksX2_init_7 22 rfl rfl
theorem dX2_init_0 : decode cX2_init 0 = .ok (.aload_n 0, 1) := dk_42 (dk_at dksX2_init_0 0 rfl rfl)
theorem dX2_init_1 : decode cX2_init 1 = .ok (.invokespecial 1, 3) := dk_183 0 1 (dk_at dksX2_init_0 1 rfl rfl)
theorem dX2_init_4 : decode cX2_init 4 = .ok (.aload_n 0, 1) := dk_42 (dk_at dksX2_init_0 4 rfl rfl)
theorem dX2_init_5 : decode cX2_init 5 = .ok (.sipush 1200, 3) := dk_17 4 176 (dk_at dksX2_init_0 5 rfl rfl)
theorem dX2_init_8 : decode cX2_init 8 = .ok (.newarray .int, 2) := dk_188_10 (dk_at dksX2_init_0 8 rfl rfl)
theorem dX2_init_10 : decode cX2_init 10 = .ok (.putfield 9, 3) := dk_181 0 9 (dk_at dksX2_init_0 10 rfl rfl)
theorem dX2_init_13 : decode cX2_init 13 = .ok (.aload_n 0, 1) := dk_42 (dk_at dksX2_init_0 13 rfl rfl)
theorem dX2_init_14 : decode cX2_init 14 = .ok (.iconst (-1), 1) := dk_2 (dk_at dksX2_init_0 14 rfl rfl)
theorem dX2_init_15 : decode cX2_init 15 = .ok (.putfield 13, 3) := dk_181 0 13 (dk_at dksX2_init_0 15 rfl rfl)
theorem dX2_init_18 : decode cX2_init 18 = .ok (.aload_n 0, 1) := dk_42 (dk_at dksX2_init_0 18 rfl rfl)
theorem dX2_init_19 : decode cX2_init 19 = .ok (.bipush 107, 2) := dk_16 107 (dk_at dksX2_init_0 19 rfl rfl)
theorem dX2_init_21 : decode cX2_init 21 = .ok (.newarray .int, 2) := dk_188_10 (dk_at dksX2_init_0 21 rfl rfl)
theorem dX2_init_23 : decode cX2_init 23 = .ok (.putfield 17, 3) := dk_181 0 17 (dk_at dksX2_init_1 0 rfl rfl)
theorem dX2_init_26 : decode cX2_init 26 = .ok (.aload_n 0, 1) := dk_42 (dk_at dksX2_init_1 3 rfl rfl)
theorem dX2_init_27 : decode cX2_init 27 = .ok (.bipush 107, 2) := dk_16 107 (dk_at dksX2_init_1 4 rfl rfl)
theorem dX2_init_29 : decode cX2_init 29 = .ok (.newarray .int, 2) := dk_188_10 (dk_at dksX2_init_1 6 rfl rfl)
theorem dX2_init_31 : decode cX2_init 31 = .ok (.putfield 20, 3) := dk_181 0 20 (dk_at dksX2_init_1 8 rfl rfl)
theorem dX2_init_34 : decode cX2_init 34 = .ok (.aload_n 0, 1) := dk_42 (dk_at dksX2_init_1 11 rfl rfl)
theorem dX2_init_35 : decode cX2_init 35 = .ok (.sipush 1398, 3) := dk_17 5 118 (dk_at dksX2_init_1 12 rfl rfl)
theorem dX2_init_38 : decode cX2_init 38 = .ok (.newarray .int, 2) := dk_188_10 (dk_at dksX2_init_1 15 rfl rfl)
theorem dX2_init_40 : decode cX2_init 40 = .ok (.putfield 23, 3) := dk_181 0 23 (dk_at dksX2_init_1 17 rfl rfl)
theorem dX2_init_43 : decode cX2_init 43 = .ok (.aload_n 0, 1) := dk_42 (dk_at dksX2_init_1 20 rfl rfl)
theorem dX2_init_44 : decode cX2_init 44 = .ok (.sipush 1398, 3) := dk_17 5 118 (dk_at dksX2_init_1 21 rfl rfl)
theorem dX2_init_47 : decode cX2_init 47 = .ok (.newarray .int, 2) := dk_188_10 (dk_at dksX2_init_2 0 rfl rfl)
theorem dX2_init_49 : decode cX2_init 49 = .ok (.putfield 26, 3) := dk_181 0 26 (dk_at dksX2_init_2 2 rfl rfl)
theorem dX2_init_52 : decode cX2_init 52 = .ok (.aload_n 0, 1) := dk_42 (dk_at dksX2_init_2 5 rfl rfl)
theorem dX2_init_53 : decode cX2_init 53 = .ok (.sipush 1398, 3) := dk_17 5 118 (dk_at dksX2_init_2 6 rfl rfl)
theorem dX2_init_56 : decode cX2_init 56 = .ok (.newarray .int, 2) := dk_188_10 (dk_at dksX2_init_2 9 rfl rfl)
theorem dX2_init_58 : decode cX2_init 58 = .ok (.putfield 29, 3) := dk_181 0 29 (dk_at dksX2_init_2 11 rfl rfl)
theorem dX2_init_61 : decode cX2_init 61 = .ok (.aload_n 0, 1) := dk_42 (dk_at dksX2_init_2 14 rfl rfl)
theorem dX2_init_62 : decode cX2_init 62 = .ok (.sipush 8388, 3) := dk_17 32 196 (dk_at dksX2_init_2 15 rfl rfl)
theorem dX2_init_65 : decode cX2_init 65 = .ok (.newarray .int, 2) := dk_188_10 (dk_at dksX2_init_2 18 rfl rfl)
theorem dX2_init_67 : decode cX2_init 67 = .ok (.putfield 32, 3) := dk_181 0 32 (dk_at dksX2_init_2 20 rfl rfl)
theorem dX2_init_70 : decode cX2_init 70 = .ok (.aload_n 0, 1) := dk_42 (dk_at dksX2_init_2 23 rfl rfl)
theorem dX2_init_71 : decode cX2_init 71 = .ok (.sipush 2796, 3) := dk_17 10 236 (dk_at dksX2_init_3 0 rfl rfl)
theorem dX2_init_74 : decode cX2_init 74 = .ok (.newarray .int, 2) := dk_188_10 (dk_at dksX2_init_3 3 rfl rfl)
theorem dX2_init_76 : decode cX2_init 76 = .ok (.putfield 35, 3) := dk_181 0 35 (dk_at dksX2_init_3 5 rfl rfl)
theorem dX2_init_79 : decode cX2_init 79 = .ok (.aload_n 0, 1) := dk_42 (dk_at dksX2_init_3 8 rfl rfl)
theorem dX2_init_80 : decode cX2_init 80 = .ok (.iconst 2, 1) := dk_5 (dk_at dksX2_init_3 9 rfl rfl)
theorem dX2_init_81 : decode cX2_init 81 = .ok (.newarray .boolean, 2) := dk_188_4 (dk_at dksX2_init_3 10 rfl rfl)
theorem dX2_init_83 : decode cX2_init 83 = .ok (.putfield 38, 3) := dk_181 0 38 (dk_at dksX2_init_3 12 rfl rfl)
theorem dX2_init_86 : decode cX2_init 86 = .ok (.aload_n 0, 1) := dk_42 (dk_at dksX2_init_3 15 rfl rfl)
theorem dX2_init_87 : decode cX2_init 87 = .ok (.iconst 5, 1) := dk_8 (dk_at dksX2_init_3 16 rfl rfl)
theorem dX2_init_88 : decode cX2_init 88 = .ok (.anewarray 42, 3) := dk_189 0 42 (dk_at dksX2_init_3 17 rfl rfl)
theorem dX2_init_91 : decode cX2_init 91 = .ok (.dup, 1) := dk_89 (dk_at dksX2_init_3 20 rfl rfl)
theorem dX2_init_92 : decode cX2_init 92 = .ok (.iconst 0, 1) := dk_3 (dk_at dksX2_init_3 21 rfl rfl)
theorem dX2_init_93 : decode cX2_init 93 = .ok (.ldc 44, 2) := dk_18 44 (dk_at dksX2_init_3 22 rfl rfl)
theorem dX2_init_95 : decode cX2_init 95 = .ok (.aastore, 1) := dk_83 (dk_at dksX2_init_4 0 rfl rfl)
theorem dX2_init_96 : decode cX2_init 96 = .ok (.dup, 1) := dk_89 (dk_at dksX2_init_4 1 rfl rfl)
theorem dX2_init_97 : decode cX2_init 97 = .ok (.iconst 1, 1) := dk_4 (dk_at dksX2_init_4 2 rfl rfl)
theorem dX2_init_98 : decode cX2_init 98 = .ok (.ldc 46, 2) := dk_18 46 (dk_at dksX2_init_4 3 rfl rfl)
theorem dX2_init_100 : decode cX2_init 100 = .ok (.aastore, 1) := dk_83 (dk_at dksX2_init_4 5 rfl rfl)
theorem dX2_init_101 : decode cX2_init 101 = .ok (.dup, 1) := dk_89 (dk_at dksX2_init_4 6 rfl rfl)
theorem dX2_init_102 : decode cX2_init 102 = .ok (.iconst 2, 1) := dk_5 (dk_at dksX2_init_4 7 rfl rfl)
theorem dX2_init_103 : decode cX2_init 103 = .ok (.ldc 48, 2) := dk_18 48 (dk_at dksX2_init_4 8 rfl rfl)
theorem dX2_init_105 : decode cX2_init 105 = .ok (.aastore, 1) := dk_83 (dk_at dksX2_init_4 10 rfl rfl)
theorem dX2_init_106 : decode cX2_init 106 = .ok (.dup, 1) := dk_89 (dk_at dksX2_init_4 11 rfl rfl)
theorem dX2_init_107 : decode cX2_init 107 = .ok (.iconst 3, 1) := dk_6 (dk_at dksX2_init_4 12 rfl rfl)
theorem dX2_init_108 : decode cX2_init 108 = .ok (.ldc 50, 2) := dk_18 50 (dk_at dksX2_init_4 13 rfl rfl)
theorem dX2_init_110 : decode cX2_init 110 = .ok (.aastore, 1) := dk_83 (dk_at dksX2_init_4 15 rfl rfl)
theorem dX2_init_111 : decode cX2_init 111 = .ok (.dup, 1) := dk_89 (dk_at dksX2_init_4 16 rfl rfl)
theorem dX2_init_112 : decode cX2_init 112 = .ok (.iconst 4, 1) := dk_7 (dk_at dksX2_init_4 17 rfl rfl)
theorem dX2_init_113 : decode cX2_init 113 = .ok (.ldc 52, 2) := dk_18 52 (dk_at dksX2_init_4 18 rfl rfl)
theorem dX2_init_115 : decode cX2_init 115 = .ok (.aastore, 1) := dk_83 (dk_at dksX2_init_4 20 rfl rfl)
theorem dX2_init_116 : decode cX2_init 116 = .ok (.putfield 54, 3) := dk_181 0 54 (dk_at dksX2_init_4 21 rfl rfl)
theorem dX2_init_119 : decode cX2_init 119 = .ok (.aload_n 0, 1) := dk_42 (dk_at dksX2_init_5 0 rfl rfl)
theorem dX2_init_120 : decode cX2_init 120 = .ok (.sipush 1400, 3) := dk_17 5 120 (dk_at dksX2_init_5 1 rfl rfl)
theorem dX2_init_123 : decode cX2_init 123 = .ok (.newarray .int, 2) := dk_188_10 (dk_at dksX2_init_5 4 rfl rfl)
theorem dX2_init_125 : decode cX2_init 125 = .ok (.putfield 58, 3) := dk_181 0 58 (dk_at dksX2_init_5 6 rfl rfl)
theorem dX2_init_128 : decode cX2_init 128 = .ok (.aload_n 0, 1) := dk_42 (dk_at dksX2_init_5 9 rfl rfl)
theorem dX2_init_129 : decode cX2_init 129 = .ok (.sipush 1400, 3) := dk_17 5 120 (dk_at dksX2_init_5 10 rfl rfl)
theorem dX2_init_132 : decode cX2_init 132 = .ok (.newarray .int, 2) := dk_188_10 (dk_at dksX2_init_5 13 rfl rfl)
theorem dX2_init_134 : decode cX2_init 134 = .ok (.putfield 61, 3) := dk_181 0 61 (dk_at dksX2_init_5 15 rfl rfl)
theorem dX2_init_137 : decode cX2_init 137 = .ok (.aload_n 0, 1) := dk_42 (dk_at dksX2_init_5 18 rfl rfl)
theorem dX2_init_138 : decode cX2_init 138 = .ok (.sipush 1400, 3) := dk_17 5 120 (dk_at dksX2_init_5 19 rfl rfl)
theorem dX2_init_141 : decode cX2_init 141 = .ok (.newarray .int, 2) := dk_188_10 (dk_at dksX2_init_5 22 rfl rfl)
theorem dX2_init_143 : decode cX2_init 143 = .ok (.putfield 64, 3) := dk_181 0 64 (dk_at dksX2_init_6 0 rfl rfl)
theorem dX2_init_146 : decode cX2_init 146 = .ok (.aload_n 0, 1) := dk_42 (dk_at dksX2_init_6 3 rfl rfl)
theorem dX2_init_147 : decode cX2_init 147 = .ok (.sipush 1400, 3) := dk_17 5 120 (dk_at dksX2_init_6 4 rfl rfl)
theorem dX2_init_150 : decode cX2_init 150 = .ok (.newarray .int, 2) := dk_188_10 (dk_at dksX2_init_6 7 rfl rfl)
theorem dX2_init_152 : decode cX2_init 152 = .ok (.putfield 67, 3) := dk_181 0 67 (dk_at dksX2_init_6 9 rfl rfl)
theorem dX2_init_155 : decode cX2_init 155 = .ok (.aload_n 0, 1) := dk_42 (dk_at dksX2_init_6 12 rfl rfl)
theorem dX2_init_156 : decode cX2_init 156 = .ok (.sipush 160, 3) := dk_17 0 160 (dk_at dksX2_init_6 13 rfl rfl)
theorem dX2_init_159 : decode cX2_init 159 = .ok (.newarray .int, 2) := dk_188_10 (dk_at dksX2_init_6 16 rfl rfl)
theorem dX2_init_161 : decode cX2_init 161 = .ok (.putfield 70, 3) := dk_181 0 70 (dk_at dksX2_init_6 18 rfl rfl)
theorem dX2_init_164 : decode cX2_init 164 = .ok (.aload_n 0, 1) := dk_42 (dk_at dksX2_init_6 21 rfl rfl)
theorem dX2_init_165 : decode cX2_init 165 = .ok (.bipush 16, 2) := dk_16 16 (dk_at dksX2_init_6 22 rfl rfl)
theorem dX2_init_167 : decode cX2_init 167 = .ok (.newarray .int, 2) := dk_188_10 (dk_at dksX2_init_7 0 rfl rfl)
theorem dX2_init_169 : decode cX2_init 169 = .ok (.putfield 73, 3) := dk_181 0 73 (dk_at dksX2_init_7 2 rfl rfl)
theorem dX2_init_172 : decode cX2_init 172 = .ok (.aload_n 0, 1) := dk_42 (dk_at dksX2_init_7 5 rfl rfl)
theorem dX2_init_173 : decode cX2_init 173 = .ok (.bipush 10, 2) := dk_16 10 (dk_at dksX2_init_7 6 rfl rfl)
theorem dX2_init_175 : decode cX2_init 175 = .ok (.newarray .boolean, 2) := dk_188_4 (dk_at dksX2_init_7 8 rfl rfl)
theorem dX2_init_177 : decode cX2_init 177 = .ok (.putfield 76, 3) := dk_181 0 76 (dk_at dksX2_init_7 10 rfl rfl)
theorem dX2_init_180 : decode cX2_init 180 = .ok (.aload_n 0, 1) := dk_42 (dk_at dksX2_init_7 13 rfl rfl)
theorem dX2_init_181 : decode cX2_init 181 = .ok (.bipush 16, 2) := dk_16 16 (dk_at dksX2_init_7 14 rfl rfl)
theorem dX2_init_183 : decode cX2_init 183 = .ok (.newarray .int, 2) := dk_188_10 (dk_at dksX2_init_7 16 rfl rfl)
theorem dX2_init_185 : decode cX2_init 185 = .ok (.putfield 79, 3) := dk_181 0 79 (dk_at dksX2_init_7 18 rfl rfl)
theorem dX2_init_188 : decode cX2_init 188 = .ok (.aload_n 0, 1) := dk_42 (dk_at dksX2_init_7 21 rfl rfl)
theorem dX2_init_189 : decode cX2_init 189 = .ok (.sipush 300, 3) := dk_17 1 44 (dk_at dksX2_init_8 0 rfl rfl)
theorem dX2_init_192 : decode cX2_init 192 = .ok (.newarray .int, 2) := dk_188_10 (dk_at dksX2_init_8 3 rfl rfl)
theorem dX2_init_194 : decode cX2_init 194 = .ok (.putfield 82, 3) := dk_181 0 82 (dk_at dksX2_init_8 5 rfl rfl)
theorem dX2_init_197 : decode cX2_init 197 = .ok (.return_, 1) := dk_177 (dk_at dksX2_init_8 8 rfl rfl)
abbrev cX2_thrown : ByteArray := prog_22_method_2_code
def yX2_thrown : MethodName := ⟨RX2, "thrown", "()I"⟩
theorem dX2_thrown_0 : decode cX2_thrown 0 = .ok (.aload_n 0, 1) := by decide +kernel
theorem dX2_thrown_1 : decode cX2_thrown 1 = .ok (.getfield 85, 3) := by decide +kernel
theorem dX2_thrown_4 : decode cX2_thrown 4 = .ok (.ireturn, 1) := by decide +kernel
abbrev cX2_append : ByteArray := prog_22_method_6_code
def yX2_append : MethodName := ⟨RX2, "append", "(IIIII)I"⟩
def dkwX2_append_2 : List UInt8 := [182, 0, 91, 42, 180, 0, 88, 172]
abbrev dktX2_append_2 : List UInt8 := dkwX2_append_2 ++ []
def dkwX2_append_1 : List UInt8 := [182, 0, 91, 42, 28, 182, 0, 91, 42, 29, 182, 0, 91, 42, 21, 4, 182, 0, 91, 42, 21, 5]
abbrev dktX2_append_1 : List UInt8 := dkwX2_append_1 ++ dktX2_append_2
def dkwX2_append_0 : List UInt8 := [42, 3, 181, 0, 85, 42, 180, 0, 88, 16, 20, 96, 17, 4, 176, 164, 0, 5, 2, 172, 42, 27]
abbrev dktX2_append_0 : List UInt8 := dkwX2_append_0 ++ dktX2_append_1
theorem dksX2_append_0 : cX2_append.data.toList.drop 0 = dktX2_append_0 := by decide +kernel
theorem dksX2_append_1 : cX2_append.data.toList.drop 22 = dktX2_append_1 := dk_seg dksX2_append_0 22 rfl rfl
theorem dksX2_append_2 : cX2_append.data.toList.drop 44 = dktX2_append_2 := dk_seg dksX2_append_1 22 rfl rfl
theorem dX2_append_0 : decode cX2_append 0 = .ok (.aload_n 0, 1) := dk_42 (dk_at dksX2_append_0 0 rfl rfl)
theorem dX2_append_1 : decode cX2_append 1 = .ok (.iconst 0, 1) := dk_3 (dk_at dksX2_append_0 1 rfl rfl)
theorem dX2_append_2 : decode cX2_append 2 = .ok (.putfield 85, 3) := dk_181 0 85 (dk_at dksX2_append_0 2 rfl rfl)
theorem dX2_append_5 : decode cX2_append 5 = .ok (.aload_n 0, 1) := dk_42 (dk_at dksX2_append_0 5 rfl rfl)
theorem dX2_append_6 : decode cX2_append 6 = .ok (.getfield 88, 3) := dk_180 0 88 (dk_at dksX2_append_0 6 rfl rfl)
theorem dX2_append_9 : decode cX2_append 9 = .ok (.bipush 20, 2) := dk_16 20 (dk_at dksX2_append_0 9 rfl rfl)
theorem dX2_append_11 : decode cX2_append 11 = .ok (.iadd, 1) := dk_96 (dk_at dksX2_append_0 11 rfl rfl)
theorem dX2_append_12 : decode cX2_append 12 = .ok (.sipush 1200, 3) := dk_17 4 176 (dk_at dksX2_append_0 12 rfl rfl)
theorem dX2_append_15 : decode cX2_append 15 = .ok (.if_icmp .le 5, 3) := dk_164 0 5 (dk_at dksX2_append_0 15 rfl rfl)
theorem dX2_append_18 : decode cX2_append 18 = .ok (.iconst (-1), 1) := dk_2 (dk_at dksX2_append_0 18 rfl rfl)
theorem dX2_append_19 : decode cX2_append 19 = .ok (.ireturn, 1) := dk_172 (dk_at dksX2_append_0 19 rfl rfl)
theorem dX2_append_20 : decode cX2_append 20 = .ok (.aload_n 0, 1) := dk_42 (dk_at dksX2_append_0 20 rfl rfl)
theorem dX2_append_21 : decode cX2_append 21 = .ok (.iload_n 1, 1) := dk_27 (dk_at dksX2_append_0 21 rfl rfl)
theorem dX2_append_22 : decode cX2_append 22 = .ok (.invokevirtual 91, 3) := dk_182 0 91 (dk_at dksX2_append_1 0 rfl rfl)
theorem dX2_append_25 : decode cX2_append 25 = .ok (.aload_n 0, 1) := dk_42 (dk_at dksX2_append_1 3 rfl rfl)
theorem dX2_append_26 : decode cX2_append 26 = .ok (.iload_n 2, 1) := dk_28 (dk_at dksX2_append_1 4 rfl rfl)
theorem dX2_append_27 : decode cX2_append 27 = .ok (.invokevirtual 91, 3) := dk_182 0 91 (dk_at dksX2_append_1 5 rfl rfl)
theorem dX2_append_30 : decode cX2_append 30 = .ok (.aload_n 0, 1) := dk_42 (dk_at dksX2_append_1 8 rfl rfl)
theorem dX2_append_31 : decode cX2_append 31 = .ok (.iload_n 3, 1) := dk_29 (dk_at dksX2_append_1 9 rfl rfl)
theorem dX2_append_32 : decode cX2_append 32 = .ok (.invokevirtual 91, 3) := dk_182 0 91 (dk_at dksX2_append_1 10 rfl rfl)
theorem dX2_append_35 : decode cX2_append 35 = .ok (.aload_n 0, 1) := dk_42 (dk_at dksX2_append_1 13 rfl rfl)
theorem dX2_append_36 : decode cX2_append 36 = .ok (.iload 4, 2) := dk_21 4 (dk_at dksX2_append_1 14 rfl rfl)
theorem dX2_append_38 : decode cX2_append 38 = .ok (.invokevirtual 91, 3) := dk_182 0 91 (dk_at dksX2_append_1 16 rfl rfl)
theorem dX2_append_41 : decode cX2_append 41 = .ok (.aload_n 0, 1) := dk_42 (dk_at dksX2_append_1 19 rfl rfl)
theorem dX2_append_42 : decode cX2_append 42 = .ok (.iload 5, 2) := dk_21 5 (dk_at dksX2_append_1 20 rfl rfl)
theorem dX2_append_44 : decode cX2_append 44 = .ok (.invokevirtual 91, 3) := dk_182 0 91 (dk_at dksX2_append_2 0 rfl rfl)
theorem dX2_append_47 : decode cX2_append 47 = .ok (.aload_n 0, 1) := dk_42 (dk_at dksX2_append_2 3 rfl rfl)
theorem dX2_append_48 : decode cX2_append 48 = .ok (.getfield 88, 3) := dk_180 0 88 (dk_at dksX2_append_2 4 rfl rfl)
theorem dX2_append_51 : decode cX2_append 51 = .ok (.ireturn, 1) := dk_172 (dk_at dksX2_append_2 7 rfl rfl)
abbrev cX2_four : ByteArray := prog_22_method_5_code
def yX2_four : MethodName := ⟨RX2, "four", "(I)V"⟩
def dkwX2_four_1 : List UInt8 := [89, 180, 0, 88, 4, 96, 181, 0, 88, 132, 2, 248, 167, 255, 223, 177]
abbrev dktX2_four_1 : List UInt8 := dkwX2_four_1 ++ []
def dkwX2_four_0 : List UInt8 := [16, 24, 61, 28, 155, 0, 35, 42, 180, 0, 9, 42, 180, 0, 88, 27, 28, 122, 17, 0, 255, 126, 79, 42]
abbrev dktX2_four_0 : List UInt8 := dkwX2_four_0 ++ dktX2_four_1
theorem dksX2_four_0 : cX2_four.data.toList.drop 0 = dktX2_four_0 := by decide +kernel
theorem dksX2_four_1 : cX2_four.data.toList.drop 24 = dktX2_four_1 := dk_seg dksX2_four_0 24 rfl rfl
theorem dX2_four_0 : decode cX2_four 0 = .ok (.bipush 24, 2) := dk_16 24 (dk_at dksX2_four_0 0 rfl rfl)
theorem dX2_four_2 : decode cX2_four 2 = .ok (.istore_n 2, 1) := dk_61 (dk_at dksX2_four_0 2 rfl rfl)
theorem dX2_four_3 : decode cX2_four 3 = .ok (.iload_n 2, 1) := dk_28 (dk_at dksX2_four_0 3 rfl rfl)
theorem dX2_four_4 : decode cX2_four 4 = .ok (.ifCond .lt 35, 3) := dk_155 0 35 (dk_at dksX2_four_0 4 rfl rfl)
theorem dX2_four_7 : decode cX2_four 7 = .ok (.aload_n 0, 1) := dk_42 (dk_at dksX2_four_0 7 rfl rfl)
theorem dX2_four_8 : decode cX2_four 8 = .ok (.getfield 9, 3) := dk_180 0 9 (dk_at dksX2_four_0 8 rfl rfl)
theorem dX2_four_11 : decode cX2_four 11 = .ok (.aload_n 0, 1) := dk_42 (dk_at dksX2_four_0 11 rfl rfl)
theorem dX2_four_12 : decode cX2_four 12 = .ok (.getfield 88, 3) := dk_180 0 88 (dk_at dksX2_four_0 12 rfl rfl)
theorem dX2_four_15 : decode cX2_four 15 = .ok (.iload_n 1, 1) := dk_27 (dk_at dksX2_four_0 15 rfl rfl)
theorem dX2_four_16 : decode cX2_four 16 = .ok (.iload_n 2, 1) := dk_28 (dk_at dksX2_four_0 16 rfl rfl)
theorem dX2_four_17 : decode cX2_four 17 = .ok (.ishr, 1) := dk_122 (dk_at dksX2_four_0 17 rfl rfl)
theorem dX2_four_18 : decode cX2_four 18 = .ok (.sipush 255, 3) := dk_17 0 255 (dk_at dksX2_four_0 18 rfl rfl)
theorem dX2_four_21 : decode cX2_four 21 = .ok (.iand, 1) := dk_126 (dk_at dksX2_four_0 21 rfl rfl)
theorem dX2_four_22 : decode cX2_four 22 = .ok (.iastore, 1) := dk_79 (dk_at dksX2_four_0 22 rfl rfl)
theorem dX2_four_23 : decode cX2_four 23 = .ok (.aload_n 0, 1) := dk_42 (dk_at dksX2_four_0 23 rfl rfl)
theorem dX2_four_24 : decode cX2_four 24 = .ok (.dup, 1) := dk_89 (dk_at dksX2_four_1 0 rfl rfl)
theorem dX2_four_25 : decode cX2_four 25 = .ok (.getfield 88, 3) := dk_180 0 88 (dk_at dksX2_four_1 1 rfl rfl)
theorem dX2_four_28 : decode cX2_four 28 = .ok (.iconst 1, 1) := dk_4 (dk_at dksX2_four_1 4 rfl rfl)
theorem dX2_four_29 : decode cX2_four 29 = .ok (.iadd, 1) := dk_96 (dk_at dksX2_four_1 5 rfl rfl)
theorem dX2_four_30 : decode cX2_four 30 = .ok (.putfield 88, 3) := dk_181 0 88 (dk_at dksX2_four_1 6 rfl rfl)
theorem dX2_four_33 : decode cX2_four 33 = .ok (.iinc 2 (-8), 3) := dk_132 2 248 (dk_at dksX2_four_1 9 rfl rfl)
theorem dX2_four_36 : decode cX2_four 36 = .ok (.goto (-33), 3) := dk_167 255 223 (dk_at dksX2_four_1 12 rfl rfl)
theorem dX2_four_39 : decode cX2_four 39 = .ok (.return_, 1) := dk_177 (dk_at dksX2_four_1 15 rfl rfl)
abbrev cX2_buffered : ByteArray := prog_22_method_7_code
def yX2_buffered : MethodName := ⟨RX2, "buffered", "()I"⟩
def dkwX2_buffered_0 : List UInt8 := [42, 3, 181, 0, 85, 42, 180, 0, 88, 172]
abbrev dktX2_buffered_0 : List UInt8 := dkwX2_buffered_0 ++ []
theorem dksX2_buffered_0 : cX2_buffered.data.toList.drop 0 = dktX2_buffered_0 := by decide +kernel
theorem dX2_buffered_0 : decode cX2_buffered 0 = .ok (.aload_n 0, 1) := dk_42 (dk_at dksX2_buffered_0 0 rfl rfl)
theorem dX2_buffered_1 : decode cX2_buffered 1 = .ok (.iconst 0, 1) := dk_3 (dk_at dksX2_buffered_0 1 rfl rfl)
theorem dX2_buffered_2 : decode cX2_buffered 2 = .ok (.putfield 85, 3) := dk_181 0 85 (dk_at dksX2_buffered_0 2 rfl rfl)
theorem dX2_buffered_5 : decode cX2_buffered 5 = .ok (.aload_n 0, 1) := dk_42 (dk_at dksX2_buffered_0 5 rfl rfl)
theorem dX2_buffered_6 : decode cX2_buffered 6 = .ok (.getfield 88, 3) := dk_180 0 88 (dk_at dksX2_buffered_0 6 rfl rfl)
theorem dX2_buffered_9 : decode cX2_buffered 9 = .ok (.ireturn, 1) := dk_172 (dk_at dksX2_buffered_0 9 rfl rfl)
abbrev cX2_parseError : ByteArray := prog_22_method_8_code
def yX2_parseError : MethodName := ⟨RX2, "parseError", "()I"⟩
def dkwX2_parseError_0 : List UInt8 := [42, 3, 181, 0, 85, 42, 180, 0, 95, 172]
abbrev dktX2_parseError_0 : List UInt8 := dkwX2_parseError_0 ++ []
theorem dksX2_parseError_0 : cX2_parseError.data.toList.drop 0 = dktX2_parseError_0 := by decide +kernel
theorem dX2_parseError_0 : decode cX2_parseError 0 = .ok (.aload_n 0, 1) := dk_42 (dk_at dksX2_parseError_0 0 rfl rfl)
theorem dX2_parseError_1 : decode cX2_parseError 1 = .ok (.iconst 0, 1) := dk_3 (dk_at dksX2_parseError_0 1 rfl rfl)
theorem dX2_parseError_2 : decode cX2_parseError 2 = .ok (.putfield 85, 3) := dk_181 0 85 (dk_at dksX2_parseError_0 2 rfl rfl)
theorem dX2_parseError_5 : decode cX2_parseError 5 = .ok (.aload_n 0, 1) := dk_42 (dk_at dksX2_parseError_0 5 rfl rfl)
theorem dX2_parseError_6 : decode cX2_parseError 6 = .ok (.getfield 95, 3) := dk_180 0 95 (dk_at dksX2_parseError_0 6 rfl rfl)
theorem dX2_parseError_9 : decode cX2_parseError 9 = .ok (.ireturn, 1) := dk_172 (dk_at dksX2_parseError_0 9 rfl rfl)
abbrev cX2_errorPosition : ByteArray := prog_22_method_9_code
def yX2_errorPosition : MethodName := ⟨RX2, "errorPosition", "()I"⟩
def dkwX2_errorPosition_0 : List UInt8 := [42, 3, 181, 0, 85, 42, 180, 0, 13, 172]
abbrev dktX2_errorPosition_0 : List UInt8 := dkwX2_errorPosition_0 ++ []
theorem dksX2_errorPosition_0 : cX2_errorPosition.data.toList.drop 0 = dktX2_errorPosition_0 := by decide +kernel
theorem dX2_errorPosition_0 : decode cX2_errorPosition 0 = .ok (.aload_n 0, 1) := dk_42 (dk_at dksX2_errorPosition_0 0 rfl rfl)
theorem dX2_errorPosition_1 : decode cX2_errorPosition 1 = .ok (.iconst 0, 1) := dk_3 (dk_at dksX2_errorPosition_0 1 rfl rfl)
theorem dX2_errorPosition_2 : decode cX2_errorPosition 2 = .ok (.putfield 85, 3) := dk_181 0 85 (dk_at dksX2_errorPosition_0 2 rfl rfl)
theorem dX2_errorPosition_5 : decode cX2_errorPosition 5 = .ok (.aload_n 0, 1) := dk_42 (dk_at dksX2_errorPosition_0 5 rfl rfl)
theorem dX2_errorPosition_6 : decode cX2_errorPosition 6 = .ok (.getfield 13, 3) := dk_180 0 13 (dk_at dksX2_errorPosition_0 6 rfl rfl)
theorem dX2_errorPosition_9 : decode cX2_errorPosition 9 = .ok (.ireturn, 1) := dk_172 (dk_at dksX2_errorPosition_0 9 rfl rfl)
abbrev cX2_load : ByteArray := prog_22_method_45_code
def yX2_load : MethodName := ⟨RX2, "load", "(I)I"⟩
def dkwX2_load_6 : List UInt8 := [16, 10, 46, 172]
abbrev dktX2_load_6 : List UInt8 := dkwX2_load_6 ++ []
def dkwX2_load_5 : List UInt8 := [42, 180, 0, 38, 3, 3, 84, 42, 180, 0, 38, 4, 3, 84, 42, 3, 181, 1, 54, 42, 180, 0, 17]
abbrev dktX2_load_5 : List UInt8 := dkwX2_load_5 ++ dktX2_load_6
def dkwX2_load_4 : List UInt8 := [28, 46, 79, 132, 2, 1, 167, 255, 235, 42, 4, 42, 180, 0, 199, 100, 181, 0, 199, 42, 4, 181, 1, 50]
abbrev dktX2_load_4 : List UInt8 := dkwX2_load_4 ++ dktX2_load_5
def dkwX2_load_3 : List UInt8 := [180, 0, 23, 3, 184, 1, 46, 3, 61, 28, 16, 107, 162, 0, 21, 42, 180, 0, 17, 28, 42, 180, 0, 20]
abbrev dktX2_load_3 : List UInt8 := dkwX2_load_3 ++ dktX2_load_4
def dkwX2_load_2 : List UInt8 := [42, 182, 1, 43, 42, 180, 0, 95, 158, 0, 9, 42, 5, 182, 1, 40, 172, 42, 180, 0, 26, 3, 42]
abbrev dktX2_load_2 : List UInt8 := dkwX2_load_2 ++ dktX2_load_3
def dkwX2_load_1 : List UInt8 := [27, 181, 0, 98, 42, 3, 181, 0, 88, 42, 3, 181, 0, 104, 42, 3, 181, 0, 95, 42, 2, 181, 0, 13]
abbrev dktX2_load_1 : List UInt8 := dkwX2_load_1 ++ dktX2_load_2
def dkwX2_load_0 : List UInt8 := [42, 3, 181, 0, 85, 27, 3, 42, 180, 0, 88, 184, 0, 114, 154, 0, 9, 42, 4, 182, 1, 40, 172, 42]
abbrev dktX2_load_0 : List UInt8 := dkwX2_load_0 ++ dktX2_load_1
theorem dksX2_load_0 : cX2_load.data.toList.drop 0 = dktX2_load_0 := by decide +kernel
theorem dksX2_load_1 : cX2_load.data.toList.drop 24 = dktX2_load_1 := dk_seg dksX2_load_0 24 rfl rfl
theorem dksX2_load_2 : cX2_load.data.toList.drop 48 = dktX2_load_2 := dk_seg dksX2_load_1 24 rfl rfl
theorem dksX2_load_3 : cX2_load.data.toList.drop 71 = dktX2_load_3 := dk_seg dksX2_load_2 23 rfl rfl
theorem dksX2_load_4 : cX2_load.data.toList.drop 95 = dktX2_load_4 := dk_seg dksX2_load_3 24 rfl rfl
theorem dksX2_load_5 : cX2_load.data.toList.drop 119 = dktX2_load_5 := dk_seg dksX2_load_4 24 rfl rfl
theorem dksX2_load_6 : cX2_load.data.toList.drop 142 = dktX2_load_6 := dk_seg dksX2_load_5 23 rfl rfl
theorem dX2_load_0 : decode cX2_load 0 = .ok (.aload_n 0, 1) := dk_42 (dk_at dksX2_load_0 0 rfl rfl)
theorem dX2_load_1 : decode cX2_load 1 = .ok (.iconst 0, 1) := dk_3 (dk_at dksX2_load_0 1 rfl rfl)
theorem dX2_load_2 : decode cX2_load 2 = .ok (.putfield 85, 3) := dk_181 0 85 (dk_at dksX2_load_0 2 rfl rfl)
theorem dX2_load_5 : decode cX2_load 5 = .ok (.iload_n 1, 1) := dk_27 (dk_at dksX2_load_0 5 rfl rfl)
theorem dX2_load_6 : decode cX2_load 6 = .ok (.iconst 0, 1) := dk_3 (dk_at dksX2_load_0 6 rfl rfl)
theorem dX2_load_7 : decode cX2_load 7 = .ok (.aload_n 0, 1) := dk_42 (dk_at dksX2_load_0 7 rfl rfl)
theorem dX2_load_8 : decode cX2_load 8 = .ok (.getfield 88, 3) := dk_180 0 88 (dk_at dksX2_load_0 8 rfl rfl)
theorem dX2_load_11 : decode cX2_load 11 = .ok (.invokestatic 114, 3) := dk_184 0 114 (dk_at dksX2_load_0 11 rfl rfl)
theorem dX2_load_14 : decode cX2_load 14 = .ok (.ifCond .ne 9, 3) := dk_154 0 9 (dk_at dksX2_load_0 14 rfl rfl)
theorem dX2_load_17 : decode cX2_load 17 = .ok (.aload_n 0, 1) := dk_42 (dk_at dksX2_load_0 17 rfl rfl)
theorem dX2_load_18 : decode cX2_load 18 = .ok (.iconst 1, 1) := dk_4 (dk_at dksX2_load_0 18 rfl rfl)
theorem dX2_load_19 : decode cX2_load 19 = .ok (.invokevirtual 296, 3) := dk_182 1 40 (dk_at dksX2_load_0 19 rfl rfl)
theorem dX2_load_22 : decode cX2_load 22 = .ok (.ireturn, 1) := dk_172 (dk_at dksX2_load_0 22 rfl rfl)
theorem dX2_load_23 : decode cX2_load 23 = .ok (.aload_n 0, 1) := dk_42 (dk_at dksX2_load_0 23 rfl rfl)
theorem dX2_load_24 : decode cX2_load 24 = .ok (.iload_n 1, 1) := dk_27 (dk_at dksX2_load_1 0 rfl rfl)
theorem dX2_load_25 : decode cX2_load 25 = .ok (.putfield 98, 3) := dk_181 0 98 (dk_at dksX2_load_1 1 rfl rfl)
theorem dX2_load_28 : decode cX2_load 28 = .ok (.aload_n 0, 1) := dk_42 (dk_at dksX2_load_1 4 rfl rfl)
theorem dX2_load_29 : decode cX2_load 29 = .ok (.iconst 0, 1) := dk_3 (dk_at dksX2_load_1 5 rfl rfl)
theorem dX2_load_30 : decode cX2_load 30 = .ok (.putfield 88, 3) := dk_181 0 88 (dk_at dksX2_load_1 6 rfl rfl)
theorem dX2_load_33 : decode cX2_load 33 = .ok (.aload_n 0, 1) := dk_42 (dk_at dksX2_load_1 9 rfl rfl)
theorem dX2_load_34 : decode cX2_load 34 = .ok (.iconst 0, 1) := dk_3 (dk_at dksX2_load_1 10 rfl rfl)
theorem dX2_load_35 : decode cX2_load 35 = .ok (.putfield 104, 3) := dk_181 0 104 (dk_at dksX2_load_1 11 rfl rfl)
theorem dX2_load_38 : decode cX2_load 38 = .ok (.aload_n 0, 1) := dk_42 (dk_at dksX2_load_1 14 rfl rfl)
theorem dX2_load_39 : decode cX2_load 39 = .ok (.iconst 0, 1) := dk_3 (dk_at dksX2_load_1 15 rfl rfl)
theorem dX2_load_40 : decode cX2_load 40 = .ok (.putfield 95, 3) := dk_181 0 95 (dk_at dksX2_load_1 16 rfl rfl)
theorem dX2_load_43 : decode cX2_load 43 = .ok (.aload_n 0, 1) := dk_42 (dk_at dksX2_load_1 19 rfl rfl)
theorem dX2_load_44 : decode cX2_load 44 = .ok (.iconst (-1), 1) := dk_2 (dk_at dksX2_load_1 20 rfl rfl)
theorem dX2_load_45 : decode cX2_load 45 = .ok (.putfield 13, 3) := dk_181 0 13 (dk_at dksX2_load_1 21 rfl rfl)
theorem dX2_load_48 : decode cX2_load 48 = .ok (.aload_n 0, 1) := dk_42 (dk_at dksX2_load_2 0 rfl rfl)
theorem dX2_load_49 : decode cX2_load 49 = .ok (.invokevirtual 299, 3) := dk_182 1 43 (dk_at dksX2_load_2 1 rfl rfl)
theorem dX2_load_52 : decode cX2_load 52 = .ok (.aload_n 0, 1) := dk_42 (dk_at dksX2_load_2 4 rfl rfl)
theorem dX2_load_53 : decode cX2_load 53 = .ok (.getfield 95, 3) := dk_180 0 95 (dk_at dksX2_load_2 5 rfl rfl)
theorem dX2_load_56 : decode cX2_load 56 = .ok (.ifCond .le 9, 3) := dk_158 0 9 (dk_at dksX2_load_2 8 rfl rfl)
theorem dX2_load_59 : decode cX2_load 59 = .ok (.aload_n 0, 1) := dk_42 (dk_at dksX2_load_2 11 rfl rfl)
theorem dX2_load_60 : decode cX2_load 60 = .ok (.iconst 2, 1) := dk_5 (dk_at dksX2_load_2 12 rfl rfl)
theorem dX2_load_61 : decode cX2_load 61 = .ok (.invokevirtual 296, 3) := dk_182 1 40 (dk_at dksX2_load_2 13 rfl rfl)
theorem dX2_load_64 : decode cX2_load 64 = .ok (.ireturn, 1) := dk_172 (dk_at dksX2_load_2 16 rfl rfl)
theorem dX2_load_65 : decode cX2_load 65 = .ok (.aload_n 0, 1) := dk_42 (dk_at dksX2_load_2 17 rfl rfl)
theorem dX2_load_66 : decode cX2_load 66 = .ok (.getfield 26, 3) := dk_180 0 26 (dk_at dksX2_load_2 18 rfl rfl)
theorem dX2_load_69 : decode cX2_load 69 = .ok (.iconst 0, 1) := dk_3 (dk_at dksX2_load_2 21 rfl rfl)
theorem dX2_load_70 : decode cX2_load 70 = .ok (.aload_n 0, 1) := dk_42 (dk_at dksX2_load_2 22 rfl rfl)
theorem dX2_load_71 : decode cX2_load 71 = .ok (.getfield 23, 3) := dk_180 0 23 (dk_at dksX2_load_3 0 rfl rfl)
theorem dX2_load_74 : decode cX2_load 74 = .ok (.iconst 0, 1) := dk_3 (dk_at dksX2_load_3 3 rfl rfl)
theorem dX2_load_75 : decode cX2_load 75 = .ok (.invokestatic 302, 3) := dk_184 1 46 (dk_at dksX2_load_3 4 rfl rfl)
theorem dX2_load_78 : decode cX2_load 78 = .ok (.iconst 0, 1) := dk_3 (dk_at dksX2_load_3 7 rfl rfl)
theorem dX2_load_79 : decode cX2_load 79 = .ok (.istore_n 2, 1) := dk_61 (dk_at dksX2_load_3 8 rfl rfl)
theorem dX2_load_80 : decode cX2_load 80 = .ok (.iload_n 2, 1) := dk_28 (dk_at dksX2_load_3 9 rfl rfl)
theorem dX2_load_81 : decode cX2_load 81 = .ok (.bipush 107, 2) := dk_16 107 (dk_at dksX2_load_3 10 rfl rfl)
theorem dX2_load_83 : decode cX2_load 83 = .ok (.if_icmp .ge 21, 3) := dk_162 0 21 (dk_at dksX2_load_3 12 rfl rfl)
theorem dX2_load_86 : decode cX2_load 86 = .ok (.aload_n 0, 1) := dk_42 (dk_at dksX2_load_3 15 rfl rfl)
theorem dX2_load_87 : decode cX2_load 87 = .ok (.getfield 17, 3) := dk_180 0 17 (dk_at dksX2_load_3 16 rfl rfl)
theorem dX2_load_90 : decode cX2_load 90 = .ok (.iload_n 2, 1) := dk_28 (dk_at dksX2_load_3 19 rfl rfl)
theorem dX2_load_91 : decode cX2_load 91 = .ok (.aload_n 0, 1) := dk_42 (dk_at dksX2_load_3 20 rfl rfl)
theorem dX2_load_92 : decode cX2_load 92 = .ok (.getfield 20, 3) := dk_180 0 20 (dk_at dksX2_load_3 21 rfl rfl)
theorem dX2_load_95 : decode cX2_load 95 = .ok (.iload_n 2, 1) := dk_28 (dk_at dksX2_load_4 0 rfl rfl)
theorem dX2_load_96 : decode cX2_load 96 = .ok (.iaload, 1) := dk_46 (dk_at dksX2_load_4 1 rfl rfl)
theorem dX2_load_97 : decode cX2_load 97 = .ok (.iastore, 1) := dk_79 (dk_at dksX2_load_4 2 rfl rfl)
theorem dX2_load_98 : decode cX2_load 98 = .ok (.iinc 2 1, 3) := dk_132 2 1 (dk_at dksX2_load_4 3 rfl rfl)
theorem dX2_load_101 : decode cX2_load 101 = .ok (.goto (-21), 3) := dk_167 255 235 (dk_at dksX2_load_4 6 rfl rfl)
theorem dX2_load_104 : decode cX2_load 104 = .ok (.aload_n 0, 1) := dk_42 (dk_at dksX2_load_4 9 rfl rfl)
theorem dX2_load_105 : decode cX2_load 105 = .ok (.iconst 1, 1) := dk_4 (dk_at dksX2_load_4 10 rfl rfl)
theorem dX2_load_106 : decode cX2_load 106 = .ok (.aload_n 0, 1) := dk_42 (dk_at dksX2_load_4 11 rfl rfl)
theorem dX2_load_107 : decode cX2_load 107 = .ok (.getfield 199, 3) := dk_180 0 199 (dk_at dksX2_load_4 12 rfl rfl)
theorem dX2_load_110 : decode cX2_load 110 = .ok (.isub, 1) := dk_100 (dk_at dksX2_load_4 15 rfl rfl)
theorem dX2_load_111 : decode cX2_load 111 = .ok (.putfield 199, 3) := dk_181 0 199 (dk_at dksX2_load_4 16 rfl rfl)
theorem dX2_load_114 : decode cX2_load 114 = .ok (.aload_n 0, 1) := dk_42 (dk_at dksX2_load_4 19 rfl rfl)
theorem dX2_load_115 : decode cX2_load 115 = .ok (.iconst 1, 1) := dk_4 (dk_at dksX2_load_4 20 rfl rfl)
theorem dX2_load_116 : decode cX2_load 116 = .ok (.putfield 306, 3) := dk_181 1 50 (dk_at dksX2_load_4 21 rfl rfl)
theorem dX2_load_119 : decode cX2_load 119 = .ok (.aload_n 0, 1) := dk_42 (dk_at dksX2_load_5 0 rfl rfl)
theorem dX2_load_120 : decode cX2_load 120 = .ok (.getfield 38, 3) := dk_180 0 38 (dk_at dksX2_load_5 1 rfl rfl)
theorem dX2_load_123 : decode cX2_load 123 = .ok (.iconst 0, 1) := dk_3 (dk_at dksX2_load_5 4 rfl rfl)
theorem dX2_load_124 : decode cX2_load 124 = .ok (.iconst 0, 1) := dk_3 (dk_at dksX2_load_5 5 rfl rfl)
theorem dX2_load_125 : decode cX2_load 125 = .ok (.bastore, 1) := dk_84 (dk_at dksX2_load_5 6 rfl rfl)
theorem dX2_load_126 : decode cX2_load 126 = .ok (.aload_n 0, 1) := dk_42 (dk_at dksX2_load_5 7 rfl rfl)
theorem dX2_load_127 : decode cX2_load 127 = .ok (.getfield 38, 3) := dk_180 0 38 (dk_at dksX2_load_5 8 rfl rfl)
theorem dX2_load_130 : decode cX2_load 130 = .ok (.iconst 1, 1) := dk_4 (dk_at dksX2_load_5 11 rfl rfl)
theorem dX2_load_131 : decode cX2_load 131 = .ok (.iconst 0, 1) := dk_3 (dk_at dksX2_load_5 12 rfl rfl)
theorem dX2_load_132 : decode cX2_load 132 = .ok (.bastore, 1) := dk_84 (dk_at dksX2_load_5 13 rfl rfl)
theorem dX2_load_133 : decode cX2_load 133 = .ok (.aload_n 0, 1) := dk_42 (dk_at dksX2_load_5 14 rfl rfl)
theorem dX2_load_134 : decode cX2_load 134 = .ok (.iconst 0, 1) := dk_3 (dk_at dksX2_load_5 15 rfl rfl)
theorem dX2_load_135 : decode cX2_load 135 = .ok (.putfield 310, 3) := dk_181 1 54 (dk_at dksX2_load_5 16 rfl rfl)
theorem dX2_load_138 : decode cX2_load 138 = .ok (.aload_n 0, 1) := dk_42 (dk_at dksX2_load_5 19 rfl rfl)
theorem dX2_load_139 : decode cX2_load 139 = .ok (.getfield 17, 3) := dk_180 0 17 (dk_at dksX2_load_5 20 rfl rfl)
theorem dX2_load_142 : decode cX2_load 142 = .ok (.bipush 10, 2) := dk_16 10 (dk_at dksX2_load_6 0 rfl rfl)
theorem dX2_load_144 : decode cX2_load 144 = .ok (.iaload, 1) := dk_46 (dk_at dksX2_load_6 2 rfl rfl)
theorem dX2_load_145 : decode cX2_load 145 = .ok (.ireturn, 1) := dk_172 (dk_at dksX2_load_6 3 rfl rfl)
abbrev cX2_in : ByteArray := prog_22_method_3_code
def yX2_in : MethodName := ⟨RX2, "in", "(III)Z"⟩
def dkwX2_in_0 : List UInt8 := [26, 27, 161, 0, 12, 26, 28, 163, 0, 7, 4, 167, 0, 4, 3, 172]
abbrev dktX2_in_0 : List UInt8 := dkwX2_in_0 ++ []
theorem dksX2_in_0 : cX2_in.data.toList.drop 0 = dktX2_in_0 := by decide +kernel
theorem dX2_in_0 : decode cX2_in 0 = .ok (.iload_n 0, 1) := dk_26 (dk_at dksX2_in_0 0 rfl rfl)
theorem dX2_in_1 : decode cX2_in 1 = .ok (.iload_n 1, 1) := dk_27 (dk_at dksX2_in_0 1 rfl rfl)
theorem dX2_in_2 : decode cX2_in 2 = .ok (.if_icmp .lt 12, 3) := dk_161 0 12 (dk_at dksX2_in_0 2 rfl rfl)
theorem dX2_in_5 : decode cX2_in 5 = .ok (.iload_n 0, 1) := dk_26 (dk_at dksX2_in_0 5 rfl rfl)
theorem dX2_in_6 : decode cX2_in 6 = .ok (.iload_n 2, 1) := dk_28 (dk_at dksX2_in_0 6 rfl rfl)
theorem dX2_in_7 : decode cX2_in 7 = .ok (.if_icmp .gt 7, 3) := dk_163 0 7 (dk_at dksX2_in_0 7 rfl rfl)
theorem dX2_in_10 : decode cX2_in 10 = .ok (.iconst 1, 1) := dk_4 (dk_at dksX2_in_0 10 rfl rfl)
theorem dX2_in_11 : decode cX2_in 11 = .ok (.goto 4, 3) := dk_167 0 4 (dk_at dksX2_in_0 11 rfl rfl)
theorem dX2_in_14 : decode cX2_in 14 = .ok (.iconst 0, 1) := dk_3 (dk_at dksX2_in_0 14 rfl rfl)
theorem dX2_in_15 : decode cX2_in 15 = .ok (.ireturn, 1) := dk_172 (dk_at dksX2_in_0 15 rfl rfl)
abbrev cX2_throwsAt : ByteArray := prog_22_method_4_code
def yX2_throwsAt : MethodName := ⟨RX2, "throwsAt", "(I)I"⟩
def dkwX2_throwsAt_0 : List UInt8 := [42, 27, 181, 0, 85, 3, 172]
abbrev dktX2_throwsAt_0 : List UInt8 := dkwX2_throwsAt_0 ++ []
theorem dksX2_throwsAt_0 : cX2_throwsAt.data.toList.drop 0 = dktX2_throwsAt_0 := by decide +kernel
theorem dX2_throwsAt_0 : decode cX2_throwsAt 0 = .ok (.aload_n 0, 1) := dk_42 (dk_at dksX2_throwsAt_0 0 rfl rfl)
theorem dX2_throwsAt_1 : decode cX2_throwsAt 1 = .ok (.iload_n 1, 1) := dk_27 (dk_at dksX2_throwsAt_0 1 rfl rfl)
theorem dX2_throwsAt_2 : decode cX2_throwsAt 2 = .ok (.putfield 85, 3) := dk_181 0 85 (dk_at dksX2_throwsAt_0 2 rfl rfl)
theorem dX2_throwsAt_5 : decode cX2_throwsAt 5 = .ok (.iconst 0, 1) := dk_3 (dk_at dksX2_throwsAt_0 5 rfl rfl)
theorem dX2_throwsAt_6 : decode cX2_throwsAt 6 = .ok (.ireturn, 1) := dk_172 (dk_at dksX2_throwsAt_0 6 rfl rfl)
abbrev cX2_readText : ByteArray := prog_22_method_44_code
def yX2_readText : MethodName := ⟨RX2, "readText", "()V"⟩
def dkwX2_readText_4 : List UInt8 := [182, 0, 143, 42, 180, 0, 20, 16, 10, 46, 154, 0, 8, 42, 8, 182, 0, 143, 177]
abbrev dktX2_readText_4 : List UInt8 := dkwX2_readText_4 ++ []
def dkwX2_readText_3 : List UInt8 := [182, 1, 37, 167, 255, 239, 42, 180, 0, 95, 154, 0, 16, 42, 180, 0, 111, 4, 159, 0, 8, 42, 4]
abbrev dktX2_readText_3 : List UInt8 := dkwX2_readText_3 ++ dktX2_readText_4
def dkwX2_readText_2 : List UInt8 := [42, 182, 0, 137, 42, 182, 1, 34, 42, 16, 59, 182, 0, 221, 153, 0, 14, 42, 182, 0, 137, 42]
abbrev dktX2_readText_2 : List UInt8 := dkwX2_readText_2 ++ dktX2_readText_3
def dkwX2_readText_1 : List UInt8 := [27, 16, 107, 162, 0, 16, 42, 180, 0, 20, 27, 3, 79, 132, 1, 1, 167, 255, 240, 42, 3, 181, 0, 202]
abbrev dktX2_readText_1 : List UInt8 := dkwX2_readText_1 ++ dktX2_readText_2
def dkwX2_readText_0 : List UInt8 := [3, 60, 27, 17, 5, 118, 162, 0, 16, 42, 180, 0, 26, 27, 3, 79, 132, 1, 1, 167, 255, 239, 3, 60]
abbrev dktX2_readText_0 : List UInt8 := dkwX2_readText_0 ++ dktX2_readText_1
theorem dksX2_readText_0 : cX2_readText.data.toList.drop 0 = dktX2_readText_0 := by decide +kernel
theorem dksX2_readText_1 : cX2_readText.data.toList.drop 24 = dktX2_readText_1 := dk_seg dksX2_readText_0 24 rfl rfl
theorem dksX2_readText_2 : cX2_readText.data.toList.drop 48 = dktX2_readText_2 := dk_seg dksX2_readText_1 24 rfl rfl
theorem dksX2_readText_3 : cX2_readText.data.toList.drop 70 = dktX2_readText_3 := dk_seg dksX2_readText_2 22 rfl rfl
theorem dksX2_readText_4 : cX2_readText.data.toList.drop 93 = dktX2_readText_4 := dk_seg dksX2_readText_3 23 rfl rfl
theorem dX2_readText_0 : decode cX2_readText 0 = .ok (.iconst 0, 1) := dk_3 (dk_at dksX2_readText_0 0 rfl rfl)
theorem dX2_readText_1 : decode cX2_readText 1 = .ok (.istore_n 1, 1) := dk_60 (dk_at dksX2_readText_0 1 rfl rfl)
theorem dX2_readText_2 : decode cX2_readText 2 = .ok (.iload_n 1, 1) := dk_27 (dk_at dksX2_readText_0 2 rfl rfl)
theorem dX2_readText_3 : decode cX2_readText 3 = .ok (.sipush 1398, 3) := dk_17 5 118 (dk_at dksX2_readText_0 3 rfl rfl)
theorem dX2_readText_6 : decode cX2_readText 6 = .ok (.if_icmp .ge 16, 3) := dk_162 0 16 (dk_at dksX2_readText_0 6 rfl rfl)
theorem dX2_readText_9 : decode cX2_readText 9 = .ok (.aload_n 0, 1) := dk_42 (dk_at dksX2_readText_0 9 rfl rfl)
theorem dX2_readText_10 : decode cX2_readText 10 = .ok (.getfield 26, 3) := dk_180 0 26 (dk_at dksX2_readText_0 10 rfl rfl)
theorem dX2_readText_13 : decode cX2_readText 13 = .ok (.iload_n 1, 1) := dk_27 (dk_at dksX2_readText_0 13 rfl rfl)
theorem dX2_readText_14 : decode cX2_readText 14 = .ok (.iconst 0, 1) := dk_3 (dk_at dksX2_readText_0 14 rfl rfl)
theorem dX2_readText_15 : decode cX2_readText 15 = .ok (.iastore, 1) := dk_79 (dk_at dksX2_readText_0 15 rfl rfl)
theorem dX2_readText_16 : decode cX2_readText 16 = .ok (.iinc 1 1, 3) := dk_132 1 1 (dk_at dksX2_readText_0 16 rfl rfl)
theorem dX2_readText_19 : decode cX2_readText 19 = .ok (.goto (-17), 3) := dk_167 255 239 (dk_at dksX2_readText_0 19 rfl rfl)
theorem dX2_readText_22 : decode cX2_readText 22 = .ok (.iconst 0, 1) := dk_3 (dk_at dksX2_readText_0 22 rfl rfl)
theorem dX2_readText_23 : decode cX2_readText 23 = .ok (.istore_n 1, 1) := dk_60 (dk_at dksX2_readText_0 23 rfl rfl)
theorem dX2_readText_24 : decode cX2_readText 24 = .ok (.iload_n 1, 1) := dk_27 (dk_at dksX2_readText_1 0 rfl rfl)
theorem dX2_readText_25 : decode cX2_readText 25 = .ok (.bipush 107, 2) := dk_16 107 (dk_at dksX2_readText_1 1 rfl rfl)
theorem dX2_readText_27 : decode cX2_readText 27 = .ok (.if_icmp .ge 16, 3) := dk_162 0 16 (dk_at dksX2_readText_1 3 rfl rfl)
theorem dX2_readText_30 : decode cX2_readText 30 = .ok (.aload_n 0, 1) := dk_42 (dk_at dksX2_readText_1 6 rfl rfl)
theorem dX2_readText_31 : decode cX2_readText 31 = .ok (.getfield 20, 3) := dk_180 0 20 (dk_at dksX2_readText_1 7 rfl rfl)
theorem dX2_readText_34 : decode cX2_readText 34 = .ok (.iload_n 1, 1) := dk_27 (dk_at dksX2_readText_1 10 rfl rfl)
theorem dX2_readText_35 : decode cX2_readText 35 = .ok (.iconst 0, 1) := dk_3 (dk_at dksX2_readText_1 11 rfl rfl)
theorem dX2_readText_36 : decode cX2_readText 36 = .ok (.iastore, 1) := dk_79 (dk_at dksX2_readText_1 12 rfl rfl)
theorem dX2_readText_37 : decode cX2_readText 37 = .ok (.iinc 1 1, 3) := dk_132 1 1 (dk_at dksX2_readText_1 13 rfl rfl)
theorem dX2_readText_40 : decode cX2_readText 40 = .ok (.goto (-16), 3) := dk_167 255 240 (dk_at dksX2_readText_1 16 rfl rfl)
theorem dX2_readText_43 : decode cX2_readText 43 = .ok (.aload_n 0, 1) := dk_42 (dk_at dksX2_readText_1 19 rfl rfl)
theorem dX2_readText_44 : decode cX2_readText 44 = .ok (.iconst 0, 1) := dk_3 (dk_at dksX2_readText_1 20 rfl rfl)
theorem dX2_readText_45 : decode cX2_readText 45 = .ok (.putfield 202, 3) := dk_181 0 202 (dk_at dksX2_readText_1 21 rfl rfl)
theorem dX2_readText_48 : decode cX2_readText 48 = .ok (.aload_n 0, 1) := dk_42 (dk_at dksX2_readText_2 0 rfl rfl)
theorem dX2_readText_49 : decode cX2_readText 49 = .ok (.invokevirtual 137, 3) := dk_182 0 137 (dk_at dksX2_readText_2 1 rfl rfl)
theorem dX2_readText_52 : decode cX2_readText 52 = .ok (.aload_n 0, 1) := dk_42 (dk_at dksX2_readText_2 4 rfl rfl)
theorem dX2_readText_53 : decode cX2_readText 53 = .ok (.invokevirtual 290, 3) := dk_182 1 34 (dk_at dksX2_readText_2 5 rfl rfl)
theorem dX2_readText_56 : decode cX2_readText 56 = .ok (.aload_n 0, 1) := dk_42 (dk_at dksX2_readText_2 8 rfl rfl)
theorem dX2_readText_57 : decode cX2_readText 57 = .ok (.bipush 59, 2) := dk_16 59 (dk_at dksX2_readText_2 9 rfl rfl)
theorem dX2_readText_59 : decode cX2_readText 59 = .ok (.invokevirtual 221, 3) := dk_182 0 221 (dk_at dksX2_readText_2 11 rfl rfl)
theorem dX2_readText_62 : decode cX2_readText 62 = .ok (.ifCond .eq 14, 3) := dk_153 0 14 (dk_at dksX2_readText_2 14 rfl rfl)
theorem dX2_readText_65 : decode cX2_readText 65 = .ok (.aload_n 0, 1) := dk_42 (dk_at dksX2_readText_2 17 rfl rfl)
theorem dX2_readText_66 : decode cX2_readText 66 = .ok (.invokevirtual 137, 3) := dk_182 0 137 (dk_at dksX2_readText_2 18 rfl rfl)
theorem dX2_readText_69 : decode cX2_readText 69 = .ok (.aload_n 0, 1) := dk_42 (dk_at dksX2_readText_2 21 rfl rfl)
theorem dX2_readText_70 : decode cX2_readText 70 = .ok (.invokevirtual 293, 3) := dk_182 1 37 (dk_at dksX2_readText_3 0 rfl rfl)
theorem dX2_readText_73 : decode cX2_readText 73 = .ok (.goto (-17), 3) := dk_167 255 239 (dk_at dksX2_readText_3 3 rfl rfl)
theorem dX2_readText_76 : decode cX2_readText 76 = .ok (.aload_n 0, 1) := dk_42 (dk_at dksX2_readText_3 6 rfl rfl)
theorem dX2_readText_77 : decode cX2_readText 77 = .ok (.getfield 95, 3) := dk_180 0 95 (dk_at dksX2_readText_3 7 rfl rfl)
theorem dX2_readText_80 : decode cX2_readText 80 = .ok (.ifCond .ne 16, 3) := dk_154 0 16 (dk_at dksX2_readText_3 10 rfl rfl)
theorem dX2_readText_83 : decode cX2_readText 83 = .ok (.aload_n 0, 1) := dk_42 (dk_at dksX2_readText_3 13 rfl rfl)
theorem dX2_readText_84 : decode cX2_readText 84 = .ok (.getfield 111, 3) := dk_180 0 111 (dk_at dksX2_readText_3 14 rfl rfl)
theorem dX2_readText_87 : decode cX2_readText 87 = .ok (.iconst 1, 1) := dk_4 (dk_at dksX2_readText_3 17 rfl rfl)
theorem dX2_readText_88 : decode cX2_readText 88 = .ok (.if_icmp .eq 8, 3) := dk_159 0 8 (dk_at dksX2_readText_3 18 rfl rfl)
theorem dX2_readText_91 : decode cX2_readText 91 = .ok (.aload_n 0, 1) := dk_42 (dk_at dksX2_readText_3 21 rfl rfl)
theorem dX2_readText_92 : decode cX2_readText 92 = .ok (.iconst 1, 1) := dk_4 (dk_at dksX2_readText_3 22 rfl rfl)
theorem dX2_readText_93 : decode cX2_readText 93 = .ok (.invokevirtual 143, 3) := dk_182 0 143 (dk_at dksX2_readText_4 0 rfl rfl)
theorem dX2_readText_96 : decode cX2_readText 96 = .ok (.aload_n 0, 1) := dk_42 (dk_at dksX2_readText_4 3 rfl rfl)
theorem dX2_readText_97 : decode cX2_readText 97 = .ok (.getfield 20, 3) := dk_180 0 20 (dk_at dksX2_readText_4 4 rfl rfl)
theorem dX2_readText_100 : decode cX2_readText 100 = .ok (.bipush 10, 2) := dk_16 10 (dk_at dksX2_readText_4 7 rfl rfl)
theorem dX2_readText_102 : decode cX2_readText 102 = .ok (.iaload, 1) := dk_46 (dk_at dksX2_readText_4 9 rfl rfl)
theorem dX2_readText_103 : decode cX2_readText 103 = .ok (.ifCond .ne 8, 3) := dk_154 0 8 (dk_at dksX2_readText_4 10 rfl rfl)
theorem dX2_readText_106 : decode cX2_readText 106 = .ok (.aload_n 0, 1) := dk_42 (dk_at dksX2_readText_4 13 rfl rfl)
theorem dX2_readText_107 : decode cX2_readText 107 = .ok (.iconst 5, 1) := dk_8 (dk_at dksX2_readText_4 14 rfl rfl)
theorem dX2_readText_108 : decode cX2_readText 108 = .ok (.invokevirtual 143, 3) := dk_182 0 143 (dk_at dksX2_readText_4 15 rfl rfl)
theorem dX2_readText_111 : decode cX2_readText 111 = .ok (.return_, 1) := dk_177 (dk_at dksX2_readText_4 18 rfl rfl)
abbrev cX2_nextToken : ByteArray := prog_22_method_12_code
def yX2_nextToken : MethodName := ⟨RX2, "nextToken", "()V"⟩
def dkwX2_nextToken_12 : List UInt8 := [3, 181, 0, 111, 42, 89, 180, 0, 104, 4, 96, 181, 0, 104, 177]
abbrev dktX2_nextToken_12 : List UInt8 := dkwX2_nextToken_12 ++ []
def dkwX2_nextToken_11 : List UInt8 := [180, 0, 104, 182, 0, 107, 181, 0, 118, 42, 42, 180, 0, 118, 184, 0, 121, 153, 0, 7, 7, 167, 0, 4]
abbrev dktX2_nextToken_11 : List UInt8 := dkwX2_nextToken_11 ++ dktX2_nextToken_12
def dkwX2_nextToken_10 : List UInt8 := [180, 0, 101, 100, 8, 164, 0, 7, 3, 167, 0, 4, 6, 181, 0, 111, 167, 0, 44, 42, 42, 42]
abbrev dktX2_nextToken_10 : List UInt8 := dkwX2_nextToken_10 ++ dktX2_nextToken_11
def dkwX2_nextToken_9 : List UInt8 := [100, 181, 0, 118, 42, 89, 180, 0, 104, 4, 96, 181, 0, 104, 167, 255, 192, 42, 42, 180, 0, 104, 42]
abbrev dktX2_nextToken_9 : List UInt8 := dkwX2_nextToken_9 ++ dktX2_nextToken_10
def dkwX2_nextToken_8 : List UInt8 := [100, 8, 162, 0, 26, 42, 16, 10, 42, 180, 0, 118, 104, 42, 42, 180, 0, 104, 182, 0, 107, 96, 16, 48]
abbrev dktX2_nextToken_8 : List UInt8 := dkwX2_nextToken_8 ++ dktX2_nextToken_9
def dkwX2_nextToken_7 : List UInt8 := [180, 0, 104, 182, 0, 107, 16, 48, 16, 57, 184, 0, 114, 153, 0, 52, 42, 180, 0, 104, 42, 180, 0, 101]
abbrev dktX2_nextToken_7 : List UInt8 := dkwX2_nextToken_7 ++ dktX2_nextToken_8
def dkwX2_nextToken_6 : List UInt8 := [180, 0, 104, 182, 0, 107, 16, 48, 16, 57, 184, 0, 114, 153, 0, 100, 42, 3, 181, 0, 118, 42, 42]
abbrev dktX2_nextToken_6 : List UInt8 := dkwX2_nextToken_6 ++ dktX2_nextToken_7
def dkwX2_nextToken_5 : List UInt8 := [180, 0, 101, 100, 16, 9, 164, 0, 7, 3, 167, 0, 4, 5, 181, 0, 111, 167, 0, 159, 42, 42]
abbrev dktX2_nextToken_5 : List UInt8 := dkwX2_nextToken_5 ++ dktX2_nextToken_6
def dkwX2_nextToken_4 : List UInt8 := [153, 0, 16, 42, 89, 180, 0, 104, 4, 96, 181, 0, 104, 167, 255, 228, 42, 42, 180, 0, 104, 42]
abbrev dktX2_nextToken_4 : List UInt8 := dkwX2_nextToken_4 ++ dktX2_nextToken_5
def dkwX2_nextToken_3 : List UInt8 := [16, 122, 184, 0, 114, 153, 0, 60, 42, 42, 180, 0, 104, 182, 0, 107, 16, 97, 16, 122, 184, 0, 114]
abbrev dktX2_nextToken_3 : List UInt8 := dkwX2_nextToken_3 ++ dktX2_nextToken_4
def dkwX2_nextToken_2 : List UInt8 := [180, 0, 98, 160, 0, 11, 42, 4, 181, 0, 111, 167, 0, 234, 42, 42, 180, 0, 104, 182, 0, 107, 16, 97]
abbrev dktX2_nextToken_2 : List UInt8 := dkwX2_nextToken_2 ++ dktX2_nextToken_3
def dkwX2_nextToken_1 : List UInt8 := [180, 0, 104, 4, 96, 181, 0, 104, 167, 255, 233, 42, 42, 180, 0, 104, 181, 0, 101, 42, 180, 0, 104, 42]
abbrev dktX2_nextToken_1 : List UInt8 := dkwX2_nextToken_1 ++ dktX2_nextToken_2
def dkwX2_nextToken_0 : List UInt8 := [42, 180, 0, 95, 158, 0, 4, 177, 42, 42, 180, 0, 104, 182, 0, 107, 16, 32, 160, 0, 16, 42, 89]
abbrev dktX2_nextToken_0 : List UInt8 := dkwX2_nextToken_0 ++ dktX2_nextToken_1
theorem dksX2_nextToken_0 : cX2_nextToken.data.toList.drop 0 = dktX2_nextToken_0 := by decide +kernel
theorem dksX2_nextToken_1 : cX2_nextToken.data.toList.drop 23 = dktX2_nextToken_1 := dk_seg dksX2_nextToken_0 23 rfl rfl
theorem dksX2_nextToken_2 : cX2_nextToken.data.toList.drop 47 = dktX2_nextToken_2 := dk_seg dksX2_nextToken_1 24 rfl rfl
theorem dksX2_nextToken_3 : cX2_nextToken.data.toList.drop 71 = dktX2_nextToken_3 := dk_seg dksX2_nextToken_2 24 rfl rfl
theorem dksX2_nextToken_4 : cX2_nextToken.data.toList.drop 94 = dktX2_nextToken_4 := dk_seg dksX2_nextToken_3 23 rfl rfl
theorem dksX2_nextToken_5 : cX2_nextToken.data.toList.drop 116 = dktX2_nextToken_5 := dk_seg dksX2_nextToken_4 22 rfl rfl
theorem dksX2_nextToken_6 : cX2_nextToken.data.toList.drop 138 = dktX2_nextToken_6 := dk_seg dksX2_nextToken_5 22 rfl rfl
theorem dksX2_nextToken_7 : cX2_nextToken.data.toList.drop 161 = dktX2_nextToken_7 := dk_seg dksX2_nextToken_6 23 rfl rfl
theorem dksX2_nextToken_8 : cX2_nextToken.data.toList.drop 185 = dktX2_nextToken_8 := dk_seg dksX2_nextToken_7 24 rfl rfl
theorem dksX2_nextToken_9 : cX2_nextToken.data.toList.drop 209 = dktX2_nextToken_9 := dk_seg dksX2_nextToken_8 24 rfl rfl
theorem dksX2_nextToken_10 : cX2_nextToken.data.toList.drop 232 = dktX2_nextToken_10 := dk_seg dksX2_nextToken_9 23 rfl rfl
theorem dksX2_nextToken_11 : cX2_nextToken.data.toList.drop 254 = dktX2_nextToken_11 := dk_seg dksX2_nextToken_10 22 rfl rfl
theorem dksX2_nextToken_12 : cX2_nextToken.data.toList.drop 278 = dktX2_nextToken_12 := dk_seg dksX2_nextToken_11 24 rfl rfl
theorem dX2_nextToken_0 : decode cX2_nextToken 0 = .ok (.aload_n 0, 1) := dk_42 (dk_at dksX2_nextToken_0 0 rfl rfl)
theorem dX2_nextToken_1 : decode cX2_nextToken 1 = .ok (.getfield 95, 3) := dk_180 0 95 (dk_at dksX2_nextToken_0 1 rfl rfl)
theorem dX2_nextToken_4 : decode cX2_nextToken 4 = .ok (.ifCond .le 4, 3) := dk_158 0 4 (dk_at dksX2_nextToken_0 4 rfl rfl)
theorem dX2_nextToken_7 : decode cX2_nextToken 7 = .ok (.return_, 1) := dk_177 (dk_at dksX2_nextToken_0 7 rfl rfl)
theorem dX2_nextToken_8 : decode cX2_nextToken 8 = .ok (.aload_n 0, 1) := dk_42 (dk_at dksX2_nextToken_0 8 rfl rfl)
theorem dX2_nextToken_9 : decode cX2_nextToken 9 = .ok (.aload_n 0, 1) := dk_42 (dk_at dksX2_nextToken_0 9 rfl rfl)
theorem dX2_nextToken_10 : decode cX2_nextToken 10 = .ok (.getfield 104, 3) := dk_180 0 104 (dk_at dksX2_nextToken_0 10 rfl rfl)
theorem dX2_nextToken_13 : decode cX2_nextToken 13 = .ok (.invokevirtual 107, 3) := dk_182 0 107 (dk_at dksX2_nextToken_0 13 rfl rfl)
theorem dX2_nextToken_16 : decode cX2_nextToken 16 = .ok (.bipush 32, 2) := dk_16 32 (dk_at dksX2_nextToken_0 16 rfl rfl)
theorem dX2_nextToken_18 : decode cX2_nextToken 18 = .ok (.if_icmp .ne 16, 3) := dk_160 0 16 (dk_at dksX2_nextToken_0 18 rfl rfl)
theorem dX2_nextToken_21 : decode cX2_nextToken 21 = .ok (.aload_n 0, 1) := dk_42 (dk_at dksX2_nextToken_0 21 rfl rfl)
theorem dX2_nextToken_22 : decode cX2_nextToken 22 = .ok (.dup, 1) := dk_89 (dk_at dksX2_nextToken_0 22 rfl rfl)
theorem dX2_nextToken_23 : decode cX2_nextToken 23 = .ok (.getfield 104, 3) := dk_180 0 104 (dk_at dksX2_nextToken_1 0 rfl rfl)
theorem dX2_nextToken_26 : decode cX2_nextToken 26 = .ok (.iconst 1, 1) := dk_4 (dk_at dksX2_nextToken_1 3 rfl rfl)
theorem dX2_nextToken_27 : decode cX2_nextToken 27 = .ok (.iadd, 1) := dk_96 (dk_at dksX2_nextToken_1 4 rfl rfl)
theorem dX2_nextToken_28 : decode cX2_nextToken 28 = .ok (.putfield 104, 3) := dk_181 0 104 (dk_at dksX2_nextToken_1 5 rfl rfl)
theorem dX2_nextToken_31 : decode cX2_nextToken 31 = .ok (.goto (-23), 3) := dk_167 255 233 (dk_at dksX2_nextToken_1 8 rfl rfl)
theorem dX2_nextToken_34 : decode cX2_nextToken 34 = .ok (.aload_n 0, 1) := dk_42 (dk_at dksX2_nextToken_1 11 rfl rfl)
theorem dX2_nextToken_35 : decode cX2_nextToken 35 = .ok (.aload_n 0, 1) := dk_42 (dk_at dksX2_nextToken_1 12 rfl rfl)
theorem dX2_nextToken_36 : decode cX2_nextToken 36 = .ok (.getfield 104, 3) := dk_180 0 104 (dk_at dksX2_nextToken_1 13 rfl rfl)
theorem dX2_nextToken_39 : decode cX2_nextToken 39 = .ok (.putfield 101, 3) := dk_181 0 101 (dk_at dksX2_nextToken_1 16 rfl rfl)
theorem dX2_nextToken_42 : decode cX2_nextToken 42 = .ok (.aload_n 0, 1) := dk_42 (dk_at dksX2_nextToken_1 19 rfl rfl)
theorem dX2_nextToken_43 : decode cX2_nextToken 43 = .ok (.getfield 104, 3) := dk_180 0 104 (dk_at dksX2_nextToken_1 20 rfl rfl)
theorem dX2_nextToken_46 : decode cX2_nextToken 46 = .ok (.aload_n 0, 1) := dk_42 (dk_at dksX2_nextToken_1 23 rfl rfl)
theorem dX2_nextToken_47 : decode cX2_nextToken 47 = .ok (.getfield 98, 3) := dk_180 0 98 (dk_at dksX2_nextToken_2 0 rfl rfl)
theorem dX2_nextToken_50 : decode cX2_nextToken 50 = .ok (.if_icmp .ne 11, 3) := dk_160 0 11 (dk_at dksX2_nextToken_2 3 rfl rfl)
theorem dX2_nextToken_53 : decode cX2_nextToken 53 = .ok (.aload_n 0, 1) := dk_42 (dk_at dksX2_nextToken_2 6 rfl rfl)
theorem dX2_nextToken_54 : decode cX2_nextToken 54 = .ok (.iconst 1, 1) := dk_4 (dk_at dksX2_nextToken_2 7 rfl rfl)
theorem dX2_nextToken_55 : decode cX2_nextToken 55 = .ok (.putfield 111, 3) := dk_181 0 111 (dk_at dksX2_nextToken_2 8 rfl rfl)
theorem dX2_nextToken_58 : decode cX2_nextToken 58 = .ok (.goto 234, 3) := dk_167 0 234 (dk_at dksX2_nextToken_2 11 rfl rfl)
theorem dX2_nextToken_61 : decode cX2_nextToken 61 = .ok (.aload_n 0, 1) := dk_42 (dk_at dksX2_nextToken_2 14 rfl rfl)
theorem dX2_nextToken_62 : decode cX2_nextToken 62 = .ok (.aload_n 0, 1) := dk_42 (dk_at dksX2_nextToken_2 15 rfl rfl)
theorem dX2_nextToken_63 : decode cX2_nextToken 63 = .ok (.getfield 104, 3) := dk_180 0 104 (dk_at dksX2_nextToken_2 16 rfl rfl)
theorem dX2_nextToken_66 : decode cX2_nextToken 66 = .ok (.invokevirtual 107, 3) := dk_182 0 107 (dk_at dksX2_nextToken_2 19 rfl rfl)
theorem dX2_nextToken_69 : decode cX2_nextToken 69 = .ok (.bipush 97, 2) := dk_16 97 (dk_at dksX2_nextToken_2 22 rfl rfl)
theorem dX2_nextToken_71 : decode cX2_nextToken 71 = .ok (.bipush 122, 2) := dk_16 122 (dk_at dksX2_nextToken_3 0 rfl rfl)
theorem dX2_nextToken_73 : decode cX2_nextToken 73 = .ok (.invokestatic 114, 3) := dk_184 0 114 (dk_at dksX2_nextToken_3 2 rfl rfl)
theorem dX2_nextToken_76 : decode cX2_nextToken 76 = .ok (.ifCond .eq 60, 3) := dk_153 0 60 (dk_at dksX2_nextToken_3 5 rfl rfl)
theorem dX2_nextToken_79 : decode cX2_nextToken 79 = .ok (.aload_n 0, 1) := dk_42 (dk_at dksX2_nextToken_3 8 rfl rfl)
theorem dX2_nextToken_80 : decode cX2_nextToken 80 = .ok (.aload_n 0, 1) := dk_42 (dk_at dksX2_nextToken_3 9 rfl rfl)
theorem dX2_nextToken_81 : decode cX2_nextToken 81 = .ok (.getfield 104, 3) := dk_180 0 104 (dk_at dksX2_nextToken_3 10 rfl rfl)
theorem dX2_nextToken_84 : decode cX2_nextToken 84 = .ok (.invokevirtual 107, 3) := dk_182 0 107 (dk_at dksX2_nextToken_3 13 rfl rfl)
theorem dX2_nextToken_87 : decode cX2_nextToken 87 = .ok (.bipush 97, 2) := dk_16 97 (dk_at dksX2_nextToken_3 16 rfl rfl)
theorem dX2_nextToken_89 : decode cX2_nextToken 89 = .ok (.bipush 122, 2) := dk_16 122 (dk_at dksX2_nextToken_3 18 rfl rfl)
theorem dX2_nextToken_91 : decode cX2_nextToken 91 = .ok (.invokestatic 114, 3) := dk_184 0 114 (dk_at dksX2_nextToken_3 20 rfl rfl)
theorem dX2_nextToken_94 : decode cX2_nextToken 94 = .ok (.ifCond .eq 16, 3) := dk_153 0 16 (dk_at dksX2_nextToken_4 0 rfl rfl)
theorem dX2_nextToken_97 : decode cX2_nextToken 97 = .ok (.aload_n 0, 1) := dk_42 (dk_at dksX2_nextToken_4 3 rfl rfl)
theorem dX2_nextToken_98 : decode cX2_nextToken 98 = .ok (.dup, 1) := dk_89 (dk_at dksX2_nextToken_4 4 rfl rfl)
theorem dX2_nextToken_99 : decode cX2_nextToken 99 = .ok (.getfield 104, 3) := dk_180 0 104 (dk_at dksX2_nextToken_4 5 rfl rfl)
theorem dX2_nextToken_102 : decode cX2_nextToken 102 = .ok (.iconst 1, 1) := dk_4 (dk_at dksX2_nextToken_4 8 rfl rfl)
theorem dX2_nextToken_103 : decode cX2_nextToken 103 = .ok (.iadd, 1) := dk_96 (dk_at dksX2_nextToken_4 9 rfl rfl)
theorem dX2_nextToken_104 : decode cX2_nextToken 104 = .ok (.putfield 104, 3) := dk_181 0 104 (dk_at dksX2_nextToken_4 10 rfl rfl)
theorem dX2_nextToken_107 : decode cX2_nextToken 107 = .ok (.goto (-28), 3) := dk_167 255 228 (dk_at dksX2_nextToken_4 13 rfl rfl)
theorem dX2_nextToken_110 : decode cX2_nextToken 110 = .ok (.aload_n 0, 1) := dk_42 (dk_at dksX2_nextToken_4 16 rfl rfl)
theorem dX2_nextToken_111 : decode cX2_nextToken 111 = .ok (.aload_n 0, 1) := dk_42 (dk_at dksX2_nextToken_4 17 rfl rfl)
theorem dX2_nextToken_112 : decode cX2_nextToken 112 = .ok (.getfield 104, 3) := dk_180 0 104 (dk_at dksX2_nextToken_4 18 rfl rfl)
theorem dX2_nextToken_115 : decode cX2_nextToken 115 = .ok (.aload_n 0, 1) := dk_42 (dk_at dksX2_nextToken_4 21 rfl rfl)
theorem dX2_nextToken_116 : decode cX2_nextToken 116 = .ok (.getfield 101, 3) := dk_180 0 101 (dk_at dksX2_nextToken_5 0 rfl rfl)
theorem dX2_nextToken_119 : decode cX2_nextToken 119 = .ok (.isub, 1) := dk_100 (dk_at dksX2_nextToken_5 3 rfl rfl)
theorem dX2_nextToken_120 : decode cX2_nextToken 120 = .ok (.bipush 9, 2) := dk_16 9 (dk_at dksX2_nextToken_5 4 rfl rfl)
theorem dX2_nextToken_122 : decode cX2_nextToken 122 = .ok (.if_icmp .le 7, 3) := dk_164 0 7 (dk_at dksX2_nextToken_5 6 rfl rfl)
theorem dX2_nextToken_125 : decode cX2_nextToken 125 = .ok (.iconst 0, 1) := dk_3 (dk_at dksX2_nextToken_5 9 rfl rfl)
theorem dX2_nextToken_126 : decode cX2_nextToken 126 = .ok (.goto 4, 3) := dk_167 0 4 (dk_at dksX2_nextToken_5 10 rfl rfl)
theorem dX2_nextToken_129 : decode cX2_nextToken 129 = .ok (.iconst 2, 1) := dk_5 (dk_at dksX2_nextToken_5 13 rfl rfl)
theorem dX2_nextToken_130 : decode cX2_nextToken 130 = .ok (.putfield 111, 3) := dk_181 0 111 (dk_at dksX2_nextToken_5 14 rfl rfl)
theorem dX2_nextToken_133 : decode cX2_nextToken 133 = .ok (.goto 159, 3) := dk_167 0 159 (dk_at dksX2_nextToken_5 17 rfl rfl)
theorem dX2_nextToken_136 : decode cX2_nextToken 136 = .ok (.aload_n 0, 1) := dk_42 (dk_at dksX2_nextToken_5 20 rfl rfl)
theorem dX2_nextToken_137 : decode cX2_nextToken 137 = .ok (.aload_n 0, 1) := dk_42 (dk_at dksX2_nextToken_5 21 rfl rfl)
theorem dX2_nextToken_138 : decode cX2_nextToken 138 = .ok (.getfield 104, 3) := dk_180 0 104 (dk_at dksX2_nextToken_6 0 rfl rfl)
theorem dX2_nextToken_141 : decode cX2_nextToken 141 = .ok (.invokevirtual 107, 3) := dk_182 0 107 (dk_at dksX2_nextToken_6 3 rfl rfl)
theorem dX2_nextToken_144 : decode cX2_nextToken 144 = .ok (.bipush 48, 2) := dk_16 48 (dk_at dksX2_nextToken_6 6 rfl rfl)
theorem dX2_nextToken_146 : decode cX2_nextToken 146 = .ok (.bipush 57, 2) := dk_16 57 (dk_at dksX2_nextToken_6 8 rfl rfl)
theorem dX2_nextToken_148 : decode cX2_nextToken 148 = .ok (.invokestatic 114, 3) := dk_184 0 114 (dk_at dksX2_nextToken_6 10 rfl rfl)
theorem dX2_nextToken_151 : decode cX2_nextToken 151 = .ok (.ifCond .eq 100, 3) := dk_153 0 100 (dk_at dksX2_nextToken_6 13 rfl rfl)
theorem dX2_nextToken_154 : decode cX2_nextToken 154 = .ok (.aload_n 0, 1) := dk_42 (dk_at dksX2_nextToken_6 16 rfl rfl)
theorem dX2_nextToken_155 : decode cX2_nextToken 155 = .ok (.iconst 0, 1) := dk_3 (dk_at dksX2_nextToken_6 17 rfl rfl)
theorem dX2_nextToken_156 : decode cX2_nextToken 156 = .ok (.putfield 118, 3) := dk_181 0 118 (dk_at dksX2_nextToken_6 18 rfl rfl)
theorem dX2_nextToken_159 : decode cX2_nextToken 159 = .ok (.aload_n 0, 1) := dk_42 (dk_at dksX2_nextToken_6 21 rfl rfl)
theorem dX2_nextToken_160 : decode cX2_nextToken 160 = .ok (.aload_n 0, 1) := dk_42 (dk_at dksX2_nextToken_6 22 rfl rfl)
theorem dX2_nextToken_161 : decode cX2_nextToken 161 = .ok (.getfield 104, 3) := dk_180 0 104 (dk_at dksX2_nextToken_7 0 rfl rfl)
theorem dX2_nextToken_164 : decode cX2_nextToken 164 = .ok (.invokevirtual 107, 3) := dk_182 0 107 (dk_at dksX2_nextToken_7 3 rfl rfl)
theorem dX2_nextToken_167 : decode cX2_nextToken 167 = .ok (.bipush 48, 2) := dk_16 48 (dk_at dksX2_nextToken_7 6 rfl rfl)
theorem dX2_nextToken_169 : decode cX2_nextToken 169 = .ok (.bipush 57, 2) := dk_16 57 (dk_at dksX2_nextToken_7 8 rfl rfl)
theorem dX2_nextToken_171 : decode cX2_nextToken 171 = .ok (.invokestatic 114, 3) := dk_184 0 114 (dk_at dksX2_nextToken_7 10 rfl rfl)
theorem dX2_nextToken_174 : decode cX2_nextToken 174 = .ok (.ifCond .eq 52, 3) := dk_153 0 52 (dk_at dksX2_nextToken_7 13 rfl rfl)
theorem dX2_nextToken_177 : decode cX2_nextToken 177 = .ok (.aload_n 0, 1) := dk_42 (dk_at dksX2_nextToken_7 16 rfl rfl)
theorem dX2_nextToken_178 : decode cX2_nextToken 178 = .ok (.getfield 104, 3) := dk_180 0 104 (dk_at dksX2_nextToken_7 17 rfl rfl)
theorem dX2_nextToken_181 : decode cX2_nextToken 181 = .ok (.aload_n 0, 1) := dk_42 (dk_at dksX2_nextToken_7 20 rfl rfl)
theorem dX2_nextToken_182 : decode cX2_nextToken 182 = .ok (.getfield 101, 3) := dk_180 0 101 (dk_at dksX2_nextToken_7 21 rfl rfl)
theorem dX2_nextToken_185 : decode cX2_nextToken 185 = .ok (.isub, 1) := dk_100 (dk_at dksX2_nextToken_8 0 rfl rfl)
theorem dX2_nextToken_186 : decode cX2_nextToken 186 = .ok (.iconst 5, 1) := dk_8 (dk_at dksX2_nextToken_8 1 rfl rfl)
theorem dX2_nextToken_187 : decode cX2_nextToken 187 = .ok (.if_icmp .ge 26, 3) := dk_162 0 26 (dk_at dksX2_nextToken_8 2 rfl rfl)
theorem dX2_nextToken_190 : decode cX2_nextToken 190 = .ok (.aload_n 0, 1) := dk_42 (dk_at dksX2_nextToken_8 5 rfl rfl)
theorem dX2_nextToken_191 : decode cX2_nextToken 191 = .ok (.bipush 10, 2) := dk_16 10 (dk_at dksX2_nextToken_8 6 rfl rfl)
theorem dX2_nextToken_193 : decode cX2_nextToken 193 = .ok (.aload_n 0, 1) := dk_42 (dk_at dksX2_nextToken_8 8 rfl rfl)
theorem dX2_nextToken_194 : decode cX2_nextToken 194 = .ok (.getfield 118, 3) := dk_180 0 118 (dk_at dksX2_nextToken_8 9 rfl rfl)
theorem dX2_nextToken_197 : decode cX2_nextToken 197 = .ok (.imul, 1) := dk_104 (dk_at dksX2_nextToken_8 12 rfl rfl)
theorem dX2_nextToken_198 : decode cX2_nextToken 198 = .ok (.aload_n 0, 1) := dk_42 (dk_at dksX2_nextToken_8 13 rfl rfl)
theorem dX2_nextToken_199 : decode cX2_nextToken 199 = .ok (.aload_n 0, 1) := dk_42 (dk_at dksX2_nextToken_8 14 rfl rfl)
theorem dX2_nextToken_200 : decode cX2_nextToken 200 = .ok (.getfield 104, 3) := dk_180 0 104 (dk_at dksX2_nextToken_8 15 rfl rfl)
theorem dX2_nextToken_203 : decode cX2_nextToken 203 = .ok (.invokevirtual 107, 3) := dk_182 0 107 (dk_at dksX2_nextToken_8 18 rfl rfl)
theorem dX2_nextToken_206 : decode cX2_nextToken 206 = .ok (.iadd, 1) := dk_96 (dk_at dksX2_nextToken_8 21 rfl rfl)
theorem dX2_nextToken_207 : decode cX2_nextToken 207 = .ok (.bipush 48, 2) := dk_16 48 (dk_at dksX2_nextToken_8 22 rfl rfl)
theorem dX2_nextToken_209 : decode cX2_nextToken 209 = .ok (.isub, 1) := dk_100 (dk_at dksX2_nextToken_9 0 rfl rfl)
theorem dX2_nextToken_210 : decode cX2_nextToken 210 = .ok (.putfield 118, 3) := dk_181 0 118 (dk_at dksX2_nextToken_9 1 rfl rfl)
theorem dX2_nextToken_213 : decode cX2_nextToken 213 = .ok (.aload_n 0, 1) := dk_42 (dk_at dksX2_nextToken_9 4 rfl rfl)
theorem dX2_nextToken_214 : decode cX2_nextToken 214 = .ok (.dup, 1) := dk_89 (dk_at dksX2_nextToken_9 5 rfl rfl)
theorem dX2_nextToken_215 : decode cX2_nextToken 215 = .ok (.getfield 104, 3) := dk_180 0 104 (dk_at dksX2_nextToken_9 6 rfl rfl)
theorem dX2_nextToken_218 : decode cX2_nextToken 218 = .ok (.iconst 1, 1) := dk_4 (dk_at dksX2_nextToken_9 9 rfl rfl)
theorem dX2_nextToken_219 : decode cX2_nextToken 219 = .ok (.iadd, 1) := dk_96 (dk_at dksX2_nextToken_9 10 rfl rfl)
theorem dX2_nextToken_220 : decode cX2_nextToken 220 = .ok (.putfield 104, 3) := dk_181 0 104 (dk_at dksX2_nextToken_9 11 rfl rfl)
theorem dX2_nextToken_223 : decode cX2_nextToken 223 = .ok (.goto (-64), 3) := dk_167 255 192 (dk_at dksX2_nextToken_9 14 rfl rfl)
theorem dX2_nextToken_226 : decode cX2_nextToken 226 = .ok (.aload_n 0, 1) := dk_42 (dk_at dksX2_nextToken_9 17 rfl rfl)
theorem dX2_nextToken_227 : decode cX2_nextToken 227 = .ok (.aload_n 0, 1) := dk_42 (dk_at dksX2_nextToken_9 18 rfl rfl)
theorem dX2_nextToken_228 : decode cX2_nextToken 228 = .ok (.getfield 104, 3) := dk_180 0 104 (dk_at dksX2_nextToken_9 19 rfl rfl)
theorem dX2_nextToken_231 : decode cX2_nextToken 231 = .ok (.aload_n 0, 1) := dk_42 (dk_at dksX2_nextToken_9 22 rfl rfl)
theorem dX2_nextToken_232 : decode cX2_nextToken 232 = .ok (.getfield 101, 3) := dk_180 0 101 (dk_at dksX2_nextToken_10 0 rfl rfl)
theorem dX2_nextToken_235 : decode cX2_nextToken 235 = .ok (.isub, 1) := dk_100 (dk_at dksX2_nextToken_10 3 rfl rfl)
theorem dX2_nextToken_236 : decode cX2_nextToken 236 = .ok (.iconst 5, 1) := dk_8 (dk_at dksX2_nextToken_10 4 rfl rfl)
theorem dX2_nextToken_237 : decode cX2_nextToken 237 = .ok (.if_icmp .le 7, 3) := dk_164 0 7 (dk_at dksX2_nextToken_10 5 rfl rfl)
theorem dX2_nextToken_240 : decode cX2_nextToken 240 = .ok (.iconst 0, 1) := dk_3 (dk_at dksX2_nextToken_10 8 rfl rfl)
theorem dX2_nextToken_241 : decode cX2_nextToken 241 = .ok (.goto 4, 3) := dk_167 0 4 (dk_at dksX2_nextToken_10 9 rfl rfl)
theorem dX2_nextToken_244 : decode cX2_nextToken 244 = .ok (.iconst 3, 1) := dk_6 (dk_at dksX2_nextToken_10 12 rfl rfl)
theorem dX2_nextToken_245 : decode cX2_nextToken 245 = .ok (.putfield 111, 3) := dk_181 0 111 (dk_at dksX2_nextToken_10 13 rfl rfl)
theorem dX2_nextToken_248 : decode cX2_nextToken 248 = .ok (.goto 44, 3) := dk_167 0 44 (dk_at dksX2_nextToken_10 16 rfl rfl)
theorem dX2_nextToken_251 : decode cX2_nextToken 251 = .ok (.aload_n 0, 1) := dk_42 (dk_at dksX2_nextToken_10 19 rfl rfl)
theorem dX2_nextToken_252 : decode cX2_nextToken 252 = .ok (.aload_n 0, 1) := dk_42 (dk_at dksX2_nextToken_10 20 rfl rfl)
theorem dX2_nextToken_253 : decode cX2_nextToken 253 = .ok (.aload_n 0, 1) := dk_42 (dk_at dksX2_nextToken_10 21 rfl rfl)
theorem dX2_nextToken_254 : decode cX2_nextToken 254 = .ok (.getfield 104, 3) := dk_180 0 104 (dk_at dksX2_nextToken_11 0 rfl rfl)
theorem dX2_nextToken_257 : decode cX2_nextToken 257 = .ok (.invokevirtual 107, 3) := dk_182 0 107 (dk_at dksX2_nextToken_11 3 rfl rfl)
theorem dX2_nextToken_260 : decode cX2_nextToken 260 = .ok (.putfield 118, 3) := dk_181 0 118 (dk_at dksX2_nextToken_11 6 rfl rfl)
theorem dX2_nextToken_263 : decode cX2_nextToken 263 = .ok (.aload_n 0, 1) := dk_42 (dk_at dksX2_nextToken_11 9 rfl rfl)
theorem dX2_nextToken_264 : decode cX2_nextToken 264 = .ok (.aload_n 0, 1) := dk_42 (dk_at dksX2_nextToken_11 10 rfl rfl)
theorem dX2_nextToken_265 : decode cX2_nextToken 265 = .ok (.getfield 118, 3) := dk_180 0 118 (dk_at dksX2_nextToken_11 11 rfl rfl)
theorem dX2_nextToken_268 : decode cX2_nextToken 268 = .ok (.invokestatic 121, 3) := dk_184 0 121 (dk_at dksX2_nextToken_11 14 rfl rfl)
theorem dX2_nextToken_271 : decode cX2_nextToken 271 = .ok (.ifCond .eq 7, 3) := dk_153 0 7 (dk_at dksX2_nextToken_11 17 rfl rfl)
theorem dX2_nextToken_274 : decode cX2_nextToken 274 = .ok (.iconst 4, 1) := dk_7 (dk_at dksX2_nextToken_11 20 rfl rfl)
theorem dX2_nextToken_275 : decode cX2_nextToken 275 = .ok (.goto 4, 3) := dk_167 0 4 (dk_at dksX2_nextToken_11 21 rfl rfl)
theorem dX2_nextToken_278 : decode cX2_nextToken 278 = .ok (.iconst 0, 1) := dk_3 (dk_at dksX2_nextToken_12 0 rfl rfl)
theorem dX2_nextToken_279 : decode cX2_nextToken 279 = .ok (.putfield 111, 3) := dk_181 0 111 (dk_at dksX2_nextToken_12 1 rfl rfl)
theorem dX2_nextToken_282 : decode cX2_nextToken 282 = .ok (.aload_n 0, 1) := dk_42 (dk_at dksX2_nextToken_12 4 rfl rfl)
theorem dX2_nextToken_283 : decode cX2_nextToken 283 = .ok (.dup, 1) := dk_89 (dk_at dksX2_nextToken_12 5 rfl rfl)
theorem dX2_nextToken_284 : decode cX2_nextToken 284 = .ok (.getfield 104, 3) := dk_180 0 104 (dk_at dksX2_nextToken_12 6 rfl rfl)
theorem dX2_nextToken_287 : decode cX2_nextToken 287 = .ok (.iconst 1, 1) := dk_4 (dk_at dksX2_nextToken_12 9 rfl rfl)
theorem dX2_nextToken_288 : decode cX2_nextToken 288 = .ok (.iadd, 1) := dk_96 (dk_at dksX2_nextToken_12 10 rfl rfl)
theorem dX2_nextToken_289 : decode cX2_nextToken 289 = .ok (.putfield 104, 3) := dk_181 0 104 (dk_at dksX2_nextToken_12 11 rfl rfl)
theorem dX2_nextToken_292 : decode cX2_nextToken 292 = .ok (.return_, 1) := dk_177 (dk_at dksX2_nextToken_12 14 rfl rfl)
abbrev cX2_byteAt : ByteArray := prog_22_method_10_code
def yX2_byteAt : MethodName := ⟨RX2, "byteAt", "(I)I"⟩
def dkwX2_byteAt_0 : List UInt8 := [27, 42, 180, 0, 98, 162, 0, 12, 42, 180, 0, 9, 27, 46, 167, 0, 4, 2, 172]
abbrev dktX2_byteAt_0 : List UInt8 := dkwX2_byteAt_0 ++ []
theorem dksX2_byteAt_0 : cX2_byteAt.data.toList.drop 0 = dktX2_byteAt_0 := by decide +kernel
theorem dX2_byteAt_0 : decode cX2_byteAt 0 = .ok (.iload_n 1, 1) := dk_27 (dk_at dksX2_byteAt_0 0 rfl rfl)
theorem dX2_byteAt_1 : decode cX2_byteAt 1 = .ok (.aload_n 0, 1) := dk_42 (dk_at dksX2_byteAt_0 1 rfl rfl)
theorem dX2_byteAt_2 : decode cX2_byteAt 2 = .ok (.getfield 98, 3) := dk_180 0 98 (dk_at dksX2_byteAt_0 2 rfl rfl)
theorem dX2_byteAt_5 : decode cX2_byteAt 5 = .ok (.if_icmp .ge 12, 3) := dk_162 0 12 (dk_at dksX2_byteAt_0 5 rfl rfl)
theorem dX2_byteAt_8 : decode cX2_byteAt 8 = .ok (.aload_n 0, 1) := dk_42 (dk_at dksX2_byteAt_0 8 rfl rfl)
theorem dX2_byteAt_9 : decode cX2_byteAt 9 = .ok (.getfield 9, 3) := dk_180 0 9 (dk_at dksX2_byteAt_0 9 rfl rfl)
theorem dX2_byteAt_12 : decode cX2_byteAt 12 = .ok (.iload_n 1, 1) := dk_27 (dk_at dksX2_byteAt_0 12 rfl rfl)
theorem dX2_byteAt_13 : decode cX2_byteAt 13 = .ok (.iaload, 1) := dk_46 (dk_at dksX2_byteAt_0 13 rfl rfl)
theorem dX2_byteAt_14 : decode cX2_byteAt 14 = .ok (.goto 4, 3) := dk_167 0 4 (dk_at dksX2_byteAt_0 14 rfl rfl)
theorem dX2_byteAt_17 : decode cX2_byteAt 17 = .ok (.iconst (-1), 1) := dk_2 (dk_at dksX2_byteAt_0 17 rfl rfl)
theorem dX2_byteAt_18 : decode cX2_byteAt 18 = .ok (.ireturn, 1) := dk_172 (dk_at dksX2_byteAt_0 18 rfl rfl)
abbrev cX2_isSign : ByteArray := prog_22_method_13_code
def yX2_isSign : MethodName := ⟨RX2, "isSign", "(I)Z"⟩
def dkwX2_isSign_1 : List UInt8 := [26, 16, 62, 159, 0, 9, 26, 16, 61, 160, 0, 7, 4, 167, 0, 4, 3, 172]
abbrev dktX2_isSign_1 : List UInt8 := dkwX2_isSign_1 ++ []
def dkwX2_isSign_0 : List UInt8 := [26, 16, 59, 159, 0, 33, 26, 16, 40, 159, 0, 27, 26, 16, 41, 159, 0, 21, 26, 16, 60, 159, 0, 15]
abbrev dktX2_isSign_0 : List UInt8 := dkwX2_isSign_0 ++ dktX2_isSign_1
theorem dksX2_isSign_0 : cX2_isSign.data.toList.drop 0 = dktX2_isSign_0 := by decide +kernel
theorem dksX2_isSign_1 : cX2_isSign.data.toList.drop 24 = dktX2_isSign_1 := dk_seg dksX2_isSign_0 24 rfl rfl
theorem dX2_isSign_0 : decode cX2_isSign 0 = .ok (.iload_n 0, 1) := dk_26 (dk_at dksX2_isSign_0 0 rfl rfl)
theorem dX2_isSign_1 : decode cX2_isSign 1 = .ok (.bipush 59, 2) := dk_16 59 (dk_at dksX2_isSign_0 1 rfl rfl)
theorem dX2_isSign_3 : decode cX2_isSign 3 = .ok (.if_icmp .eq 33, 3) := dk_159 0 33 (dk_at dksX2_isSign_0 3 rfl rfl)
theorem dX2_isSign_6 : decode cX2_isSign 6 = .ok (.iload_n 0, 1) := dk_26 (dk_at dksX2_isSign_0 6 rfl rfl)
theorem dX2_isSign_7 : decode cX2_isSign 7 = .ok (.bipush 40, 2) := dk_16 40 (dk_at dksX2_isSign_0 7 rfl rfl)
theorem dX2_isSign_9 : decode cX2_isSign 9 = .ok (.if_icmp .eq 27, 3) := dk_159 0 27 (dk_at dksX2_isSign_0 9 rfl rfl)
theorem dX2_isSign_12 : decode cX2_isSign 12 = .ok (.iload_n 0, 1) := dk_26 (dk_at dksX2_isSign_0 12 rfl rfl)
theorem dX2_isSign_13 : decode cX2_isSign 13 = .ok (.bipush 41, 2) := dk_16 41 (dk_at dksX2_isSign_0 13 rfl rfl)
theorem dX2_isSign_15 : decode cX2_isSign 15 = .ok (.if_icmp .eq 21, 3) := dk_159 0 21 (dk_at dksX2_isSign_0 15 rfl rfl)
theorem dX2_isSign_18 : decode cX2_isSign 18 = .ok (.iload_n 0, 1) := dk_26 (dk_at dksX2_isSign_0 18 rfl rfl)
theorem dX2_isSign_19 : decode cX2_isSign 19 = .ok (.bipush 60, 2) := dk_16 60 (dk_at dksX2_isSign_0 19 rfl rfl)
theorem dX2_isSign_21 : decode cX2_isSign 21 = .ok (.if_icmp .eq 15, 3) := dk_159 0 15 (dk_at dksX2_isSign_0 21 rfl rfl)
theorem dX2_isSign_24 : decode cX2_isSign 24 = .ok (.iload_n 0, 1) := dk_26 (dk_at dksX2_isSign_1 0 rfl rfl)
theorem dX2_isSign_25 : decode cX2_isSign 25 = .ok (.bipush 62, 2) := dk_16 62 (dk_at dksX2_isSign_1 1 rfl rfl)
theorem dX2_isSign_27 : decode cX2_isSign 27 = .ok (.if_icmp .eq 9, 3) := dk_159 0 9 (dk_at dksX2_isSign_1 3 rfl rfl)
theorem dX2_isSign_30 : decode cX2_isSign 30 = .ok (.iload_n 0, 1) := dk_26 (dk_at dksX2_isSign_1 6 rfl rfl)
theorem dX2_isSign_31 : decode cX2_isSign 31 = .ok (.bipush 61, 2) := dk_16 61 (dk_at dksX2_isSign_1 7 rfl rfl)
theorem dX2_isSign_33 : decode cX2_isSign 33 = .ok (.if_icmp .ne 7, 3) := dk_160 0 7 (dk_at dksX2_isSign_1 9 rfl rfl)
theorem dX2_isSign_36 : decode cX2_isSign 36 = .ok (.iconst 1, 1) := dk_4 (dk_at dksX2_isSign_1 12 rfl rfl)
theorem dX2_isSign_37 : decode cX2_isSign 37 = .ok (.goto 4, 3) := dk_167 0 4 (dk_at dksX2_isSign_1 13 rfl rfl)
theorem dX2_isSign_40 : decode cX2_isSign 40 = .ok (.iconst 0, 1) := dk_3 (dk_at dksX2_isSign_1 16 rfl rfl)
theorem dX2_isSign_41 : decode cX2_isSign 41 = .ok (.ireturn, 1) := dk_172 (dk_at dksX2_isSign_1 17 rfl rfl)
abbrev cX2_readRegion : ByteArray := prog_22_method_21_code
def yX2_readRegion : MethodName := ⟨RX2, "readRegion", "()V"⟩
def dkwX2_readRegion_5 : List UInt8 := [3, 16, 99, 182, 0, 161, 79, 177]
abbrev dktX2_readRegion_5 : List UInt8 := dkwX2_readRegion_5 ++ []
def dkwX2_readRegion_4 : List UInt8 := [180, 0, 20, 16, 6, 42, 18, 172, 4, 16, 99, 182, 0, 161, 79, 42, 180, 0, 20, 16, 7, 42, 18, 174]
abbrev dktX2_readRegion_4 : List UInt8 := dkwX2_readRegion_4 ++ dktX2_readRegion_5
def dkwX2_readRegion_3 : List UInt8 := [18, 169, 182, 0, 161, 79, 42, 180, 0, 20, 8, 42, 18, 170, 4, 17, 3, 231, 182, 0, 161, 79, 42]
abbrev dktX2_readRegion_3 : List UInt8 := dkwX2_readRegion_3 ++ dktX2_readRegion_4
def dkwX2_readRegion_2 : List UInt8 := [180, 0, 20, 6, 42, 18, 165, 5, 16, 99, 182, 0, 161, 79, 42, 180, 0, 20, 7, 42, 18, 167, 3]
abbrev dktX2_readRegion_2 : List UInt8 := dkwX2_readRegion_2 ++ dktX2_readRegion_3
def dkwX2_readRegion_1 : List UInt8 := [42, 4, 16, 30, 182, 0, 154, 79, 42, 180, 0, 20, 5, 42, 18, 159, 4, 16, 8, 182, 0, 161, 79, 42]
abbrev dktX2_readRegion_1 : List UInt8 := dkwX2_readRegion_1 ++ dktX2_readRegion_2
def dkwX2_readRegion_0 : List UInt8 := [42, 18, 157, 182, 0, 150, 42, 180, 0, 20, 3, 42, 4, 16, 30, 182, 0, 154, 79, 42, 180, 0, 20, 4]
abbrev dktX2_readRegion_0 : List UInt8 := dkwX2_readRegion_0 ++ dktX2_readRegion_1
theorem dksX2_readRegion_0 : cX2_readRegion.data.toList.drop 0 = dktX2_readRegion_0 := by decide +kernel
theorem dksX2_readRegion_1 : cX2_readRegion.data.toList.drop 24 = dktX2_readRegion_1 := dk_seg dksX2_readRegion_0 24 rfl rfl
theorem dksX2_readRegion_2 : cX2_readRegion.data.toList.drop 48 = dktX2_readRegion_2 := dk_seg dksX2_readRegion_1 24 rfl rfl
theorem dksX2_readRegion_3 : cX2_readRegion.data.toList.drop 71 = dktX2_readRegion_3 := dk_seg dksX2_readRegion_2 23 rfl rfl
theorem dksX2_readRegion_4 : cX2_readRegion.data.toList.drop 94 = dktX2_readRegion_4 := dk_seg dksX2_readRegion_3 23 rfl rfl
theorem dksX2_readRegion_5 : cX2_readRegion.data.toList.drop 118 = dktX2_readRegion_5 := dk_seg dksX2_readRegion_4 24 rfl rfl
theorem dX2_readRegion_0 : decode cX2_readRegion 0 = .ok (.aload_n 0, 1) := dk_42 (dk_at dksX2_readRegion_0 0 rfl rfl)
theorem dX2_readRegion_1 : decode cX2_readRegion 1 = .ok (.ldc 157, 2) := dk_18 157 (dk_at dksX2_readRegion_0 1 rfl rfl)
theorem dX2_readRegion_3 : decode cX2_readRegion 3 = .ok (.invokevirtual 150, 3) := dk_182 0 150 (dk_at dksX2_readRegion_0 3 rfl rfl)
theorem dX2_readRegion_6 : decode cX2_readRegion 6 = .ok (.aload_n 0, 1) := dk_42 (dk_at dksX2_readRegion_0 6 rfl rfl)
theorem dX2_readRegion_7 : decode cX2_readRegion 7 = .ok (.getfield 20, 3) := dk_180 0 20 (dk_at dksX2_readRegion_0 7 rfl rfl)
theorem dX2_readRegion_10 : decode cX2_readRegion 10 = .ok (.iconst 0, 1) := dk_3 (dk_at dksX2_readRegion_0 10 rfl rfl)
theorem dX2_readRegion_11 : decode cX2_readRegion 11 = .ok (.aload_n 0, 1) := dk_42 (dk_at dksX2_readRegion_0 11 rfl rfl)
theorem dX2_readRegion_12 : decode cX2_readRegion 12 = .ok (.iconst 1, 1) := dk_4 (dk_at dksX2_readRegion_0 12 rfl rfl)
theorem dX2_readRegion_13 : decode cX2_readRegion 13 = .ok (.bipush 30, 2) := dk_16 30 (dk_at dksX2_readRegion_0 13 rfl rfl)
theorem dX2_readRegion_15 : decode cX2_readRegion 15 = .ok (.invokevirtual 154, 3) := dk_182 0 154 (dk_at dksX2_readRegion_0 15 rfl rfl)
theorem dX2_readRegion_18 : decode cX2_readRegion 18 = .ok (.iastore, 1) := dk_79 (dk_at dksX2_readRegion_0 18 rfl rfl)
theorem dX2_readRegion_19 : decode cX2_readRegion 19 = .ok (.aload_n 0, 1) := dk_42 (dk_at dksX2_readRegion_0 19 rfl rfl)
theorem dX2_readRegion_20 : decode cX2_readRegion 20 = .ok (.getfield 20, 3) := dk_180 0 20 (dk_at dksX2_readRegion_0 20 rfl rfl)
theorem dX2_readRegion_23 : decode cX2_readRegion 23 = .ok (.iconst 1, 1) := dk_4 (dk_at dksX2_readRegion_0 23 rfl rfl)
theorem dX2_readRegion_24 : decode cX2_readRegion 24 = .ok (.aload_n 0, 1) := dk_42 (dk_at dksX2_readRegion_1 0 rfl rfl)
theorem dX2_readRegion_25 : decode cX2_readRegion 25 = .ok (.iconst 1, 1) := dk_4 (dk_at dksX2_readRegion_1 1 rfl rfl)
theorem dX2_readRegion_26 : decode cX2_readRegion 26 = .ok (.bipush 30, 2) := dk_16 30 (dk_at dksX2_readRegion_1 2 rfl rfl)
theorem dX2_readRegion_28 : decode cX2_readRegion 28 = .ok (.invokevirtual 154, 3) := dk_182 0 154 (dk_at dksX2_readRegion_1 4 rfl rfl)
theorem dX2_readRegion_31 : decode cX2_readRegion 31 = .ok (.iastore, 1) := dk_79 (dk_at dksX2_readRegion_1 7 rfl rfl)
theorem dX2_readRegion_32 : decode cX2_readRegion 32 = .ok (.aload_n 0, 1) := dk_42 (dk_at dksX2_readRegion_1 8 rfl rfl)
theorem dX2_readRegion_33 : decode cX2_readRegion 33 = .ok (.getfield 20, 3) := dk_180 0 20 (dk_at dksX2_readRegion_1 9 rfl rfl)
theorem dX2_readRegion_36 : decode cX2_readRegion 36 = .ok (.iconst 2, 1) := dk_5 (dk_at dksX2_readRegion_1 12 rfl rfl)
theorem dX2_readRegion_37 : decode cX2_readRegion 37 = .ok (.aload_n 0, 1) := dk_42 (dk_at dksX2_readRegion_1 13 rfl rfl)
theorem dX2_readRegion_38 : decode cX2_readRegion 38 = .ok (.ldc 159, 2) := dk_18 159 (dk_at dksX2_readRegion_1 14 rfl rfl)
theorem dX2_readRegion_40 : decode cX2_readRegion 40 = .ok (.iconst 1, 1) := dk_4 (dk_at dksX2_readRegion_1 16 rfl rfl)
theorem dX2_readRegion_41 : decode cX2_readRegion 41 = .ok (.bipush 8, 2) := dk_16 8 (dk_at dksX2_readRegion_1 17 rfl rfl)
theorem dX2_readRegion_43 : decode cX2_readRegion 43 = .ok (.invokevirtual 161, 3) := dk_182 0 161 (dk_at dksX2_readRegion_1 19 rfl rfl)
theorem dX2_readRegion_46 : decode cX2_readRegion 46 = .ok (.iastore, 1) := dk_79 (dk_at dksX2_readRegion_1 22 rfl rfl)
theorem dX2_readRegion_47 : decode cX2_readRegion 47 = .ok (.aload_n 0, 1) := dk_42 (dk_at dksX2_readRegion_1 23 rfl rfl)
theorem dX2_readRegion_48 : decode cX2_readRegion 48 = .ok (.getfield 20, 3) := dk_180 0 20 (dk_at dksX2_readRegion_2 0 rfl rfl)
theorem dX2_readRegion_51 : decode cX2_readRegion 51 = .ok (.iconst 3, 1) := dk_6 (dk_at dksX2_readRegion_2 3 rfl rfl)
theorem dX2_readRegion_52 : decode cX2_readRegion 52 = .ok (.aload_n 0, 1) := dk_42 (dk_at dksX2_readRegion_2 4 rfl rfl)
theorem dX2_readRegion_53 : decode cX2_readRegion 53 = .ok (.ldc 165, 2) := dk_18 165 (dk_at dksX2_readRegion_2 5 rfl rfl)
theorem dX2_readRegion_55 : decode cX2_readRegion 55 = .ok (.iconst 2, 1) := dk_5 (dk_at dksX2_readRegion_2 7 rfl rfl)
theorem dX2_readRegion_56 : decode cX2_readRegion 56 = .ok (.bipush 99, 2) := dk_16 99 (dk_at dksX2_readRegion_2 8 rfl rfl)
theorem dX2_readRegion_58 : decode cX2_readRegion 58 = .ok (.invokevirtual 161, 3) := dk_182 0 161 (dk_at dksX2_readRegion_2 10 rfl rfl)
theorem dX2_readRegion_61 : decode cX2_readRegion 61 = .ok (.iastore, 1) := dk_79 (dk_at dksX2_readRegion_2 13 rfl rfl)
theorem dX2_readRegion_62 : decode cX2_readRegion 62 = .ok (.aload_n 0, 1) := dk_42 (dk_at dksX2_readRegion_2 14 rfl rfl)
theorem dX2_readRegion_63 : decode cX2_readRegion 63 = .ok (.getfield 20, 3) := dk_180 0 20 (dk_at dksX2_readRegion_2 15 rfl rfl)
theorem dX2_readRegion_66 : decode cX2_readRegion 66 = .ok (.iconst 4, 1) := dk_7 (dk_at dksX2_readRegion_2 18 rfl rfl)
theorem dX2_readRegion_67 : decode cX2_readRegion 67 = .ok (.aload_n 0, 1) := dk_42 (dk_at dksX2_readRegion_2 19 rfl rfl)
theorem dX2_readRegion_68 : decode cX2_readRegion 68 = .ok (.ldc 167, 2) := dk_18 167 (dk_at dksX2_readRegion_2 20 rfl rfl)
theorem dX2_readRegion_70 : decode cX2_readRegion 70 = .ok (.iconst 0, 1) := dk_3 (dk_at dksX2_readRegion_2 22 rfl rfl)
theorem dX2_readRegion_71 : decode cX2_readRegion 71 = .ok (.ldc 169, 2) := dk_18 169 (dk_at dksX2_readRegion_3 0 rfl rfl)
theorem dX2_readRegion_73 : decode cX2_readRegion 73 = .ok (.invokevirtual 161, 3) := dk_182 0 161 (dk_at dksX2_readRegion_3 2 rfl rfl)
theorem dX2_readRegion_76 : decode cX2_readRegion 76 = .ok (.iastore, 1) := dk_79 (dk_at dksX2_readRegion_3 5 rfl rfl)
theorem dX2_readRegion_77 : decode cX2_readRegion 77 = .ok (.aload_n 0, 1) := dk_42 (dk_at dksX2_readRegion_3 6 rfl rfl)
theorem dX2_readRegion_78 : decode cX2_readRegion 78 = .ok (.getfield 20, 3) := dk_180 0 20 (dk_at dksX2_readRegion_3 7 rfl rfl)
theorem dX2_readRegion_81 : decode cX2_readRegion 81 = .ok (.iconst 5, 1) := dk_8 (dk_at dksX2_readRegion_3 10 rfl rfl)
theorem dX2_readRegion_82 : decode cX2_readRegion 82 = .ok (.aload_n 0, 1) := dk_42 (dk_at dksX2_readRegion_3 11 rfl rfl)
theorem dX2_readRegion_83 : decode cX2_readRegion 83 = .ok (.ldc 170, 2) := dk_18 170 (dk_at dksX2_readRegion_3 12 rfl rfl)
theorem dX2_readRegion_85 : decode cX2_readRegion 85 = .ok (.iconst 1, 1) := dk_4 (dk_at dksX2_readRegion_3 14 rfl rfl)
theorem dX2_readRegion_86 : decode cX2_readRegion 86 = .ok (.sipush 999, 3) := dk_17 3 231 (dk_at dksX2_readRegion_3 15 rfl rfl)
theorem dX2_readRegion_89 : decode cX2_readRegion 89 = .ok (.invokevirtual 161, 3) := dk_182 0 161 (dk_at dksX2_readRegion_3 18 rfl rfl)
theorem dX2_readRegion_92 : decode cX2_readRegion 92 = .ok (.iastore, 1) := dk_79 (dk_at dksX2_readRegion_3 21 rfl rfl)
theorem dX2_readRegion_93 : decode cX2_readRegion 93 = .ok (.aload_n 0, 1) := dk_42 (dk_at dksX2_readRegion_3 22 rfl rfl)
theorem dX2_readRegion_94 : decode cX2_readRegion 94 = .ok (.getfield 20, 3) := dk_180 0 20 (dk_at dksX2_readRegion_4 0 rfl rfl)
theorem dX2_readRegion_97 : decode cX2_readRegion 97 = .ok (.bipush 6, 2) := dk_16 6 (dk_at dksX2_readRegion_4 3 rfl rfl)
theorem dX2_readRegion_99 : decode cX2_readRegion 99 = .ok (.aload_n 0, 1) := dk_42 (dk_at dksX2_readRegion_4 5 rfl rfl)
theorem dX2_readRegion_100 : decode cX2_readRegion 100 = .ok (.ldc 172, 2) := dk_18 172 (dk_at dksX2_readRegion_4 6 rfl rfl)
theorem dX2_readRegion_102 : decode cX2_readRegion 102 = .ok (.iconst 1, 1) := dk_4 (dk_at dksX2_readRegion_4 8 rfl rfl)
theorem dX2_readRegion_103 : decode cX2_readRegion 103 = .ok (.bipush 99, 2) := dk_16 99 (dk_at dksX2_readRegion_4 9 rfl rfl)
theorem dX2_readRegion_105 : decode cX2_readRegion 105 = .ok (.invokevirtual 161, 3) := dk_182 0 161 (dk_at dksX2_readRegion_4 11 rfl rfl)
theorem dX2_readRegion_108 : decode cX2_readRegion 108 = .ok (.iastore, 1) := dk_79 (dk_at dksX2_readRegion_4 14 rfl rfl)
theorem dX2_readRegion_109 : decode cX2_readRegion 109 = .ok (.aload_n 0, 1) := dk_42 (dk_at dksX2_readRegion_4 15 rfl rfl)
theorem dX2_readRegion_110 : decode cX2_readRegion 110 = .ok (.getfield 20, 3) := dk_180 0 20 (dk_at dksX2_readRegion_4 16 rfl rfl)
theorem dX2_readRegion_113 : decode cX2_readRegion 113 = .ok (.bipush 7, 2) := dk_16 7 (dk_at dksX2_readRegion_4 19 rfl rfl)
theorem dX2_readRegion_115 : decode cX2_readRegion 115 = .ok (.aload_n 0, 1) := dk_42 (dk_at dksX2_readRegion_4 21 rfl rfl)
theorem dX2_readRegion_116 : decode cX2_readRegion 116 = .ok (.ldc 174, 2) := dk_18 174 (dk_at dksX2_readRegion_4 22 rfl rfl)
theorem dX2_readRegion_118 : decode cX2_readRegion 118 = .ok (.iconst 0, 1) := dk_3 (dk_at dksX2_readRegion_5 0 rfl rfl)
theorem dX2_readRegion_119 : decode cX2_readRegion 119 = .ok (.bipush 99, 2) := dk_16 99 (dk_at dksX2_readRegion_5 1 rfl rfl)
theorem dX2_readRegion_121 : decode cX2_readRegion 121 = .ok (.invokevirtual 161, 3) := dk_182 0 161 (dk_at dksX2_readRegion_5 3 rfl rfl)
theorem dX2_readRegion_124 : decode cX2_readRegion 124 = .ok (.iastore, 1) := dk_79 (dk_at dksX2_readRegion_5 6 rfl rfl)
theorem dX2_readRegion_125 : decode cX2_readRegion 125 = .ok (.return_, 1) := dk_177 (dk_at dksX2_readRegion_5 7 rfl rfl)
abbrev cX2_keyword : ByteArray := prog_22_method_17_code
def yX2_keyword : MethodName := ⟨RX2, "keyword", "(Ljava/lang/String;)V"⟩
def dkwX2_keyword_0 : List UInt8 := [42, 43, 182, 0, 140, 154, 0, 8, 42, 4, 182, 0, 143, 177]
abbrev dktX2_keyword_0 : List UInt8 := dkwX2_keyword_0 ++ []
theorem dksX2_keyword_0 : cX2_keyword.data.toList.drop 0 = dktX2_keyword_0 := by decide +kernel
theorem dX2_keyword_0 : decode cX2_keyword 0 = .ok (.aload_n 0, 1) := dk_42 (dk_at dksX2_keyword_0 0 rfl rfl)
theorem dX2_keyword_1 : decode cX2_keyword 1 = .ok (.aload_n 1, 1) := dk_43 (dk_at dksX2_keyword_0 1 rfl rfl)
theorem dX2_keyword_2 : decode cX2_keyword 2 = .ok (.invokevirtual 140, 3) := dk_182 0 140 (dk_at dksX2_keyword_0 2 rfl rfl)
theorem dX2_keyword_5 : decode cX2_keyword 5 = .ok (.ifCond .ne 8, 3) := dk_154 0 8 (dk_at dksX2_keyword_0 5 rfl rfl)
theorem dX2_keyword_8 : decode cX2_keyword 8 = .ok (.aload_n 0, 1) := dk_42 (dk_at dksX2_keyword_0 8 rfl rfl)
theorem dX2_keyword_9 : decode cX2_keyword 9 = .ok (.iconst 1, 1) := dk_4 (dk_at dksX2_keyword_0 9 rfl rfl)
theorem dX2_keyword_10 : decode cX2_keyword 10 = .ok (.invokevirtual 143, 3) := dk_182 0 143 (dk_at dksX2_keyword_0 10 rfl rfl)
theorem dX2_keyword_13 : decode cX2_keyword 13 = .ok (.return_, 1) := dk_177 (dk_at dksX2_keyword_0 13 rfl rfl)
abbrev cX2_takes : ByteArray := prog_22_method_16_code
def yX2_takes : MethodName := ⟨RX2, "takes", "(Ljava/lang/String;)Z"⟩
def dkwX2_takes_0 : List UInt8 := [42, 43, 182, 0, 133, 61, 28, 153, 0, 7, 42, 182, 0, 137, 28, 172]
abbrev dktX2_takes_0 : List UInt8 := dkwX2_takes_0 ++ []
theorem dksX2_takes_0 : cX2_takes.data.toList.drop 0 = dktX2_takes_0 := by decide +kernel
theorem dX2_takes_0 : decode cX2_takes 0 = .ok (.aload_n 0, 1) := dk_42 (dk_at dksX2_takes_0 0 rfl rfl)
theorem dX2_takes_1 : decode cX2_takes 1 = .ok (.aload_n 1, 1) := dk_43 (dk_at dksX2_takes_0 1 rfl rfl)
theorem dX2_takes_2 : decode cX2_takes 2 = .ok (.invokevirtual 133, 3) := dk_182 0 133 (dk_at dksX2_takes_0 2 rfl rfl)
theorem dX2_takes_5 : decode cX2_takes 5 = .ok (.istore_n 2, 1) := dk_61 (dk_at dksX2_takes_0 5 rfl rfl)
theorem dX2_takes_6 : decode cX2_takes 6 = .ok (.iload_n 2, 1) := dk_28 (dk_at dksX2_takes_0 6 rfl rfl)
theorem dX2_takes_7 : decode cX2_takes 7 = .ok (.ifCond .eq 7, 3) := dk_153 0 7 (dk_at dksX2_takes_0 7 rfl rfl)
theorem dX2_takes_10 : decode cX2_takes 10 = .ok (.aload_n 0, 1) := dk_42 (dk_at dksX2_takes_0 10 rfl rfl)
theorem dX2_takes_11 : decode cX2_takes 11 = .ok (.invokevirtual 137, 3) := dk_182 0 137 (dk_at dksX2_takes_0 11 rfl rfl)
theorem dX2_takes_14 : decode cX2_takes 14 = .ok (.iload_n 2, 1) := dk_28 (dk_at dksX2_takes_0 14 rfl rfl)
theorem dX2_takes_15 : decode cX2_takes 15 = .ok (.ireturn, 1) := dk_172 (dk_at dksX2_takes_0 15 rfl rfl)
abbrev cX2_isWord : ByteArray := prog_22_method_15_code
def yX2_isWord : MethodName := ⟨RX2, "isWord", "(Ljava/lang/String;)Z"⟩
def dkwX2_isWord_2 : List UInt8 := [180, 0, 101, 28, 96, 46, 43, 28, 182, 0, 129, 159, 0, 5, 3, 172, 132, 2, 1, 167, 255, 224, 4, 172]
abbrev dktX2_isWord_2 : List UInt8 := dkwX2_isWord_2 ++ []
def dkwX2_isWord_1 : List UInt8 := [43, 182, 0, 125, 159, 0, 5, 3, 172, 3, 61, 28, 43, 182, 0, 125, 162, 0, 30, 42, 180, 0, 9, 42]
abbrev dktX2_isWord_1 : List UInt8 := dkwX2_isWord_1 ++ dktX2_isWord_2
def dkwX2_isWord_0 : List UInt8 := [42, 180, 0, 95, 157, 0, 27, 42, 180, 0, 111, 5, 160, 0, 19, 42, 180, 0, 104, 42, 180, 0, 101, 100]
abbrev dktX2_isWord_0 : List UInt8 := dkwX2_isWord_0 ++ dktX2_isWord_1
theorem dksX2_isWord_0 : cX2_isWord.data.toList.drop 0 = dktX2_isWord_0 := by decide +kernel
theorem dksX2_isWord_1 : cX2_isWord.data.toList.drop 24 = dktX2_isWord_1 := dk_seg dksX2_isWord_0 24 rfl rfl
theorem dksX2_isWord_2 : cX2_isWord.data.toList.drop 48 = dktX2_isWord_2 := dk_seg dksX2_isWord_1 24 rfl rfl
theorem dX2_isWord_0 : decode cX2_isWord 0 = .ok (.aload_n 0, 1) := dk_42 (dk_at dksX2_isWord_0 0 rfl rfl)
theorem dX2_isWord_1 : decode cX2_isWord 1 = .ok (.getfield 95, 3) := dk_180 0 95 (dk_at dksX2_isWord_0 1 rfl rfl)
theorem dX2_isWord_4 : decode cX2_isWord 4 = .ok (.ifCond .gt 27, 3) := dk_157 0 27 (dk_at dksX2_isWord_0 4 rfl rfl)
theorem dX2_isWord_7 : decode cX2_isWord 7 = .ok (.aload_n 0, 1) := dk_42 (dk_at dksX2_isWord_0 7 rfl rfl)
theorem dX2_isWord_8 : decode cX2_isWord 8 = .ok (.getfield 111, 3) := dk_180 0 111 (dk_at dksX2_isWord_0 8 rfl rfl)
theorem dX2_isWord_11 : decode cX2_isWord 11 = .ok (.iconst 2, 1) := dk_5 (dk_at dksX2_isWord_0 11 rfl rfl)
theorem dX2_isWord_12 : decode cX2_isWord 12 = .ok (.if_icmp .ne 19, 3) := dk_160 0 19 (dk_at dksX2_isWord_0 12 rfl rfl)
theorem dX2_isWord_15 : decode cX2_isWord 15 = .ok (.aload_n 0, 1) := dk_42 (dk_at dksX2_isWord_0 15 rfl rfl)
theorem dX2_isWord_16 : decode cX2_isWord 16 = .ok (.getfield 104, 3) := dk_180 0 104 (dk_at dksX2_isWord_0 16 rfl rfl)
theorem dX2_isWord_19 : decode cX2_isWord 19 = .ok (.aload_n 0, 1) := dk_42 (dk_at dksX2_isWord_0 19 rfl rfl)
theorem dX2_isWord_20 : decode cX2_isWord 20 = .ok (.getfield 101, 3) := dk_180 0 101 (dk_at dksX2_isWord_0 20 rfl rfl)
theorem dX2_isWord_23 : decode cX2_isWord 23 = .ok (.isub, 1) := dk_100 (dk_at dksX2_isWord_0 23 rfl rfl)
theorem dX2_isWord_24 : decode cX2_isWord 24 = .ok (.aload_n 1, 1) := dk_43 (dk_at dksX2_isWord_1 0 rfl rfl)
theorem dX2_isWord_25 : decode cX2_isWord 25 = .ok (.invokevirtual 125, 3) := dk_182 0 125 (dk_at dksX2_isWord_1 1 rfl rfl)
theorem dX2_isWord_28 : decode cX2_isWord 28 = .ok (.if_icmp .eq 5, 3) := dk_159 0 5 (dk_at dksX2_isWord_1 4 rfl rfl)
theorem dX2_isWord_31 : decode cX2_isWord 31 = .ok (.iconst 0, 1) := dk_3 (dk_at dksX2_isWord_1 7 rfl rfl)
theorem dX2_isWord_32 : decode cX2_isWord 32 = .ok (.ireturn, 1) := dk_172 (dk_at dksX2_isWord_1 8 rfl rfl)
theorem dX2_isWord_33 : decode cX2_isWord 33 = .ok (.iconst 0, 1) := dk_3 (dk_at dksX2_isWord_1 9 rfl rfl)
theorem dX2_isWord_34 : decode cX2_isWord 34 = .ok (.istore_n 2, 1) := dk_61 (dk_at dksX2_isWord_1 10 rfl rfl)
theorem dX2_isWord_35 : decode cX2_isWord 35 = .ok (.iload_n 2, 1) := dk_28 (dk_at dksX2_isWord_1 11 rfl rfl)
theorem dX2_isWord_36 : decode cX2_isWord 36 = .ok (.aload_n 1, 1) := dk_43 (dk_at dksX2_isWord_1 12 rfl rfl)
theorem dX2_isWord_37 : decode cX2_isWord 37 = .ok (.invokevirtual 125, 3) := dk_182 0 125 (dk_at dksX2_isWord_1 13 rfl rfl)
theorem dX2_isWord_40 : decode cX2_isWord 40 = .ok (.if_icmp .ge 30, 3) := dk_162 0 30 (dk_at dksX2_isWord_1 16 rfl rfl)
theorem dX2_isWord_43 : decode cX2_isWord 43 = .ok (.aload_n 0, 1) := dk_42 (dk_at dksX2_isWord_1 19 rfl rfl)
theorem dX2_isWord_44 : decode cX2_isWord 44 = .ok (.getfield 9, 3) := dk_180 0 9 (dk_at dksX2_isWord_1 20 rfl rfl)
theorem dX2_isWord_47 : decode cX2_isWord 47 = .ok (.aload_n 0, 1) := dk_42 (dk_at dksX2_isWord_1 23 rfl rfl)
theorem dX2_isWord_48 : decode cX2_isWord 48 = .ok (.getfield 101, 3) := dk_180 0 101 (dk_at dksX2_isWord_2 0 rfl rfl)
theorem dX2_isWord_51 : decode cX2_isWord 51 = .ok (.iload_n 2, 1) := dk_28 (dk_at dksX2_isWord_2 3 rfl rfl)
theorem dX2_isWord_52 : decode cX2_isWord 52 = .ok (.iadd, 1) := dk_96 (dk_at dksX2_isWord_2 4 rfl rfl)
theorem dX2_isWord_53 : decode cX2_isWord 53 = .ok (.iaload, 1) := dk_46 (dk_at dksX2_isWord_2 5 rfl rfl)
theorem dX2_isWord_54 : decode cX2_isWord 54 = .ok (.aload_n 1, 1) := dk_43 (dk_at dksX2_isWord_2 6 rfl rfl)
theorem dX2_isWord_55 : decode cX2_isWord 55 = .ok (.iload_n 2, 1) := dk_28 (dk_at dksX2_isWord_2 7 rfl rfl)
theorem dX2_isWord_56 : decode cX2_isWord 56 = .ok (.invokevirtual 129, 3) := dk_182 0 129 (dk_at dksX2_isWord_2 8 rfl rfl)
theorem dX2_isWord_59 : decode cX2_isWord 59 = .ok (.if_icmp .eq 5, 3) := dk_159 0 5 (dk_at dksX2_isWord_2 11 rfl rfl)
theorem dX2_isWord_62 : decode cX2_isWord 62 = .ok (.iconst 0, 1) := dk_3 (dk_at dksX2_isWord_2 14 rfl rfl)
theorem dX2_isWord_63 : decode cX2_isWord 63 = .ok (.ireturn, 1) := dk_172 (dk_at dksX2_isWord_2 15 rfl rfl)
theorem dX2_isWord_64 : decode cX2_isWord 64 = .ok (.iinc 2 1, 3) := dk_132 2 1 (dk_at dksX2_isWord_2 16 rfl rfl)
theorem dX2_isWord_67 : decode cX2_isWord 67 = .ok (.goto (-32), 3) := dk_167 255 224 (dk_at dksX2_isWord_2 19 rfl rfl)
theorem dX2_isWord_70 : decode cX2_isWord 70 = .ok (.iconst 1, 1) := dk_4 (dk_at dksX2_isWord_2 22 rfl rfl)
theorem dX2_isWord_71 : decode cX2_isWord 71 = .ok (.ireturn, 1) := dk_172 (dk_at dksX2_isWord_2 23 rfl rfl)
abbrev cX2_faults : ByteArray := prog_22_method_11_code
def yX2_faults : MethodName := ⟨RX2, "faults", "(I)V"⟩
def dkwX2_faults_0 : List UInt8 := [42, 180, 0, 95, 158, 0, 4, 177, 42, 27, 181, 0, 95, 42, 42, 180, 0, 101, 181, 0, 13, 177]
abbrev dktX2_faults_0 : List UInt8 := dkwX2_faults_0 ++ []
theorem dksX2_faults_0 : cX2_faults.data.toList.drop 0 = dktX2_faults_0 := by decide +kernel
theorem dX2_faults_0 : decode cX2_faults 0 = .ok (.aload_n 0, 1) := dk_42 (dk_at dksX2_faults_0 0 rfl rfl)
theorem dX2_faults_1 : decode cX2_faults 1 = .ok (.getfield 95, 3) := dk_180 0 95 (dk_at dksX2_faults_0 1 rfl rfl)
theorem dX2_faults_4 : decode cX2_faults 4 = .ok (.ifCond .le 4, 3) := dk_158 0 4 (dk_at dksX2_faults_0 4 rfl rfl)
theorem dX2_faults_7 : decode cX2_faults 7 = .ok (.return_, 1) := dk_177 (dk_at dksX2_faults_0 7 rfl rfl)
theorem dX2_faults_8 : decode cX2_faults 8 = .ok (.aload_n 0, 1) := dk_42 (dk_at dksX2_faults_0 8 rfl rfl)
theorem dX2_faults_9 : decode cX2_faults 9 = .ok (.iload_n 1, 1) := dk_27 (dk_at dksX2_faults_0 9 rfl rfl)
theorem dX2_faults_10 : decode cX2_faults 10 = .ok (.putfield 95, 3) := dk_181 0 95 (dk_at dksX2_faults_0 10 rfl rfl)
theorem dX2_faults_13 : decode cX2_faults 13 = .ok (.aload_n 0, 1) := dk_42 (dk_at dksX2_faults_0 13 rfl rfl)
theorem dX2_faults_14 : decode cX2_faults 14 = .ok (.aload_n 0, 1) := dk_42 (dk_at dksX2_faults_0 14 rfl rfl)
theorem dX2_faults_15 : decode cX2_faults 15 = .ok (.getfield 101, 3) := dk_180 0 101 (dk_at dksX2_faults_0 15 rfl rfl)
theorem dX2_faults_18 : decode cX2_faults 18 = .ok (.putfield 13, 3) := dk_181 0 13 (dk_at dksX2_faults_0 18 rfl rfl)
theorem dX2_faults_21 : decode cX2_faults 21 = .ok (.return_, 1) := dk_177 (dk_at dksX2_faults_0 21 rfl rfl)
abbrev cX2_number : ByteArray := prog_22_method_19_code
def yX2_number : MethodName := ⟨RX2, "number", "(II)I"⟩
def dkwX2_number_0 : List UInt8 := [42, 27, 28, 182, 0, 146, 62, 42, 182, 0, 137, 29, 172]
abbrev dktX2_number_0 : List UInt8 := dkwX2_number_0 ++ []
theorem dksX2_number_0 : cX2_number.data.toList.drop 0 = dktX2_number_0 := by decide +kernel
theorem dX2_number_0 : decode cX2_number 0 = .ok (.aload_n 0, 1) := dk_42 (dk_at dksX2_number_0 0 rfl rfl)
theorem dX2_number_1 : decode cX2_number 1 = .ok (.iload_n 1, 1) := dk_27 (dk_at dksX2_number_0 1 rfl rfl)
theorem dX2_number_2 : decode cX2_number 2 = .ok (.iload_n 2, 1) := dk_28 (dk_at dksX2_number_0 2 rfl rfl)
theorem dX2_number_3 : decode cX2_number 3 = .ok (.invokevirtual 146, 3) := dk_182 0 146 (dk_at dksX2_number_0 3 rfl rfl)
theorem dX2_number_6 : decode cX2_number 6 = .ok (.istore_n 3, 1) := dk_62 (dk_at dksX2_number_0 6 rfl rfl)
theorem dX2_number_7 : decode cX2_number 7 = .ok (.aload_n 0, 1) := dk_42 (dk_at dksX2_number_0 7 rfl rfl)
theorem dX2_number_8 : decode cX2_number 8 = .ok (.invokevirtual 137, 3) := dk_182 0 137 (dk_at dksX2_number_0 8 rfl rfl)
theorem dX2_number_11 : decode cX2_number 11 = .ok (.iload_n 3, 1) := dk_29 (dk_at dksX2_number_0 11 rfl rfl)
theorem dX2_number_12 : decode cX2_number 12 = .ok (.ireturn, 1) := dk_172 (dk_at dksX2_number_0 12 rfl rfl)
abbrev cX2_look : ByteArray := prog_22_method_18_code
def yX2_look : MethodName := ⟨RX2, "look", "(II)I"⟩
def dkwX2_look_2 : List UInt8 := [158, 0, 7, 27, 167, 0, 7, 42, 180, 0, 118, 172]
abbrev dktX2_look_2 : List UInt8 := dkwX2_look_2 ++ []
def dkwX2_look_1 : List UInt8 := [167, 0, 20, 42, 180, 0, 118, 27, 28, 184, 0, 114, 154, 0, 8, 42, 5, 182, 0, 143, 42, 180, 0, 95]
abbrev dktX2_look_1 : List UInt8 := dkwX2_look_1 ++ dktX2_look_2
def dkwX2_look_0 : List UInt8 := [42, 180, 0, 95, 158, 0, 5, 27, 172, 42, 180, 0, 111, 6, 159, 0, 11, 42, 4, 182, 0, 143]
abbrev dktX2_look_0 : List UInt8 := dkwX2_look_0 ++ dktX2_look_1
theorem dksX2_look_0 : cX2_look.data.toList.drop 0 = dktX2_look_0 := by decide +kernel
theorem dksX2_look_1 : cX2_look.data.toList.drop 22 = dktX2_look_1 := dk_seg dksX2_look_0 22 rfl rfl
theorem dksX2_look_2 : cX2_look.data.toList.drop 46 = dktX2_look_2 := dk_seg dksX2_look_1 24 rfl rfl
theorem dX2_look_0 : decode cX2_look 0 = .ok (.aload_n 0, 1) := dk_42 (dk_at dksX2_look_0 0 rfl rfl)
theorem dX2_look_1 : decode cX2_look 1 = .ok (.getfield 95, 3) := dk_180 0 95 (dk_at dksX2_look_0 1 rfl rfl)
theorem dX2_look_4 : decode cX2_look 4 = .ok (.ifCond .le 5, 3) := dk_158 0 5 (dk_at dksX2_look_0 4 rfl rfl)
theorem dX2_look_7 : decode cX2_look 7 = .ok (.iload_n 1, 1) := dk_27 (dk_at dksX2_look_0 7 rfl rfl)
theorem dX2_look_8 : decode cX2_look 8 = .ok (.ireturn, 1) := dk_172 (dk_at dksX2_look_0 8 rfl rfl)
theorem dX2_look_9 : decode cX2_look 9 = .ok (.aload_n 0, 1) := dk_42 (dk_at dksX2_look_0 9 rfl rfl)
theorem dX2_look_10 : decode cX2_look 10 = .ok (.getfield 111, 3) := dk_180 0 111 (dk_at dksX2_look_0 10 rfl rfl)
theorem dX2_look_13 : decode cX2_look 13 = .ok (.iconst 3, 1) := dk_6 (dk_at dksX2_look_0 13 rfl rfl)
theorem dX2_look_14 : decode cX2_look 14 = .ok (.if_icmp .eq 11, 3) := dk_159 0 11 (dk_at dksX2_look_0 14 rfl rfl)
theorem dX2_look_17 : decode cX2_look 17 = .ok (.aload_n 0, 1) := dk_42 (dk_at dksX2_look_0 17 rfl rfl)
theorem dX2_look_18 : decode cX2_look 18 = .ok (.iconst 1, 1) := dk_4 (dk_at dksX2_look_0 18 rfl rfl)
theorem dX2_look_19 : decode cX2_look 19 = .ok (.invokevirtual 143, 3) := dk_182 0 143 (dk_at dksX2_look_0 19 rfl rfl)
theorem dX2_look_22 : decode cX2_look 22 = .ok (.goto 20, 3) := dk_167 0 20 (dk_at dksX2_look_1 0 rfl rfl)
theorem dX2_look_25 : decode cX2_look 25 = .ok (.aload_n 0, 1) := dk_42 (dk_at dksX2_look_1 3 rfl rfl)
theorem dX2_look_26 : decode cX2_look 26 = .ok (.getfield 118, 3) := dk_180 0 118 (dk_at dksX2_look_1 4 rfl rfl)
theorem dX2_look_29 : decode cX2_look 29 = .ok (.iload_n 1, 1) := dk_27 (dk_at dksX2_look_1 7 rfl rfl)
theorem dX2_look_30 : decode cX2_look 30 = .ok (.iload_n 2, 1) := dk_28 (dk_at dksX2_look_1 8 rfl rfl)
theorem dX2_look_31 : decode cX2_look 31 = .ok (.invokestatic 114, 3) := dk_184 0 114 (dk_at dksX2_look_1 9 rfl rfl)
theorem dX2_look_34 : decode cX2_look 34 = .ok (.ifCond .ne 8, 3) := dk_154 0 8 (dk_at dksX2_look_1 12 rfl rfl)
theorem dX2_look_37 : decode cX2_look 37 = .ok (.aload_n 0, 1) := dk_42 (dk_at dksX2_look_1 15 rfl rfl)
theorem dX2_look_38 : decode cX2_look 38 = .ok (.iconst 2, 1) := dk_5 (dk_at dksX2_look_1 16 rfl rfl)
theorem dX2_look_39 : decode cX2_look 39 = .ok (.invokevirtual 143, 3) := dk_182 0 143 (dk_at dksX2_look_1 17 rfl rfl)
theorem dX2_look_42 : decode cX2_look 42 = .ok (.aload_n 0, 1) := dk_42 (dk_at dksX2_look_1 20 rfl rfl)
theorem dX2_look_43 : decode cX2_look 43 = .ok (.getfield 95, 3) := dk_180 0 95 (dk_at dksX2_look_1 21 rfl rfl)
theorem dX2_look_46 : decode cX2_look 46 = .ok (.ifCond .le 7, 3) := dk_158 0 7 (dk_at dksX2_look_2 0 rfl rfl)
theorem dX2_look_49 : decode cX2_look 49 = .ok (.iload_n 1, 1) := dk_27 (dk_at dksX2_look_2 3 rfl rfl)
theorem dX2_look_50 : decode cX2_look 50 = .ok (.goto 7, 3) := dk_167 0 7 (dk_at dksX2_look_2 4 rfl rfl)
theorem dX2_look_53 : decode cX2_look 53 = .ok (.aload_n 0, 1) := dk_42 (dk_at dksX2_look_2 7 rfl rfl)
theorem dX2_look_54 : decode cX2_look 54 = .ok (.getfield 118, 3) := dk_180 0 118 (dk_at dksX2_look_2 8 rfl rfl)
theorem dX2_look_57 : decode cX2_look 57 = .ok (.ireturn, 1) := dk_172 (dk_at dksX2_look_2 11 rfl rfl)
abbrev cX2_measure : ByteArray := prog_22_method_20_code
def yX2_measure : MethodName := ⟨RX2, "measure", "(Ljava/lang/String;II)I"⟩
def dkwX2_measure_0 : List UInt8 := [42, 43, 182, 0, 150, 42, 28, 29, 182, 0, 154, 172]
abbrev dktX2_measure_0 : List UInt8 := dkwX2_measure_0 ++ []
theorem dksX2_measure_0 : cX2_measure.data.toList.drop 0 = dktX2_measure_0 := by decide +kernel
theorem dX2_measure_0 : decode cX2_measure 0 = .ok (.aload_n 0, 1) := dk_42 (dk_at dksX2_measure_0 0 rfl rfl)
theorem dX2_measure_1 : decode cX2_measure 1 = .ok (.aload_n 1, 1) := dk_43 (dk_at dksX2_measure_0 1 rfl rfl)
theorem dX2_measure_2 : decode cX2_measure 2 = .ok (.invokevirtual 150, 3) := dk_182 0 150 (dk_at dksX2_measure_0 2 rfl rfl)
theorem dX2_measure_5 : decode cX2_measure 5 = .ok (.aload_n 0, 1) := dk_42 (dk_at dksX2_measure_0 5 rfl rfl)
theorem dX2_measure_6 : decode cX2_measure 6 = .ok (.iload_n 2, 1) := dk_28 (dk_at dksX2_measure_0 6 rfl rfl)
theorem dX2_measure_7 : decode cX2_measure 7 = .ok (.iload_n 3, 1) := dk_29 (dk_at dksX2_measure_0 7 rfl rfl)
theorem dX2_measure_8 : decode cX2_measure 8 = .ok (.invokevirtual 154, 3) := dk_182 0 154 (dk_at dksX2_measure_0 8 rfl rfl)
theorem dX2_measure_11 : decode cX2_measure 11 = .ok (.ireturn, 1) := dk_172 (dk_at dksX2_measure_0 11 rfl rfl)
abbrev cX2_isSignHere : ByteArray := prog_22_method_14_code
def yX2_isSignHere : MethodName := ⟨RX2, "isSignHere", "(I)Z"⟩
def dkwX2_isSignHere_1 : List UInt8 := [167, 0, 4, 3, 172]
abbrev dktX2_isSignHere_1 : List UInt8 := dkwX2_isSignHere_1 ++ []
def dkwX2_isSignHere_0 : List UInt8 := [42, 180, 0, 95, 154, 0, 23, 42, 180, 0, 111, 7, 160, 0, 15, 42, 180, 0, 118, 27, 160, 0, 7, 4]
abbrev dktX2_isSignHere_0 : List UInt8 := dkwX2_isSignHere_0 ++ dktX2_isSignHere_1
theorem dksX2_isSignHere_0 : cX2_isSignHere.data.toList.drop 0 = dktX2_isSignHere_0 := by decide +kernel
theorem dksX2_isSignHere_1 : cX2_isSignHere.data.toList.drop 24 = dktX2_isSignHere_1 := dk_seg dksX2_isSignHere_0 24 rfl rfl
theorem dX2_isSignHere_0 : decode cX2_isSignHere 0 = .ok (.aload_n 0, 1) := dk_42 (dk_at dksX2_isSignHere_0 0 rfl rfl)
theorem dX2_isSignHere_1 : decode cX2_isSignHere 1 = .ok (.getfield 95, 3) := dk_180 0 95 (dk_at dksX2_isSignHere_0 1 rfl rfl)
theorem dX2_isSignHere_4 : decode cX2_isSignHere 4 = .ok (.ifCond .ne 23, 3) := dk_154 0 23 (dk_at dksX2_isSignHere_0 4 rfl rfl)
theorem dX2_isSignHere_7 : decode cX2_isSignHere 7 = .ok (.aload_n 0, 1) := dk_42 (dk_at dksX2_isSignHere_0 7 rfl rfl)
theorem dX2_isSignHere_8 : decode cX2_isSignHere 8 = .ok (.getfield 111, 3) := dk_180 0 111 (dk_at dksX2_isSignHere_0 8 rfl rfl)
theorem dX2_isSignHere_11 : decode cX2_isSignHere 11 = .ok (.iconst 4, 1) := dk_7 (dk_at dksX2_isSignHere_0 11 rfl rfl)
theorem dX2_isSignHere_12 : decode cX2_isSignHere 12 = .ok (.if_icmp .ne 15, 3) := dk_160 0 15 (dk_at dksX2_isSignHere_0 12 rfl rfl)
theorem dX2_isSignHere_15 : decode cX2_isSignHere 15 = .ok (.aload_n 0, 1) := dk_42 (dk_at dksX2_isSignHere_0 15 rfl rfl)
theorem dX2_isSignHere_16 : decode cX2_isSignHere 16 = .ok (.getfield 118, 3) := dk_180 0 118 (dk_at dksX2_isSignHere_0 16 rfl rfl)
theorem dX2_isSignHere_19 : decode cX2_isSignHere 19 = .ok (.iload_n 1, 1) := dk_27 (dk_at dksX2_isSignHere_0 19 rfl rfl)
theorem dX2_isSignHere_20 : decode cX2_isSignHere 20 = .ok (.if_icmp .ne 7, 3) := dk_160 0 7 (dk_at dksX2_isSignHere_0 20 rfl rfl)
theorem dX2_isSignHere_23 : decode cX2_isSignHere 23 = .ok (.iconst 1, 1) := dk_4 (dk_at dksX2_isSignHere_0 23 rfl rfl)
theorem dX2_isSignHere_24 : decode cX2_isSignHere 24 = .ok (.goto 4, 3) := dk_167 0 4 (dk_at dksX2_isSignHere_1 0 rfl rfl)
theorem dX2_isSignHere_27 : decode cX2_isSignHere 27 = .ok (.iconst 0, 1) := dk_3 (dk_at dksX2_isSignHere_1 3 rfl rfl)
theorem dX2_isSignHere_28 : decode cX2_isSignHere 28 = .ok (.ireturn, 1) := dk_172 (dk_at dksX2_isSignHere_1 4 rfl rfl)
