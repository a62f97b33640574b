set_option maxRecDepth 100000
abbrev cX2_readLine : ByteArray := prog_22_method_43_code
def yX2_readLine : MethodName := ⟨RX2, "readLine", "()V"⟩
def dkwX2_readLine_3 : List UInt8 := [182, 0, 133, 153, 0, 10, 42, 182, 1, 31, 167, 0, 8, 42, 4, 182, 0, 143, 177]
abbrev dktX2_readLine_3 : List UInt8 := dkwX2_readLine_3 ++ []
def dkwX2_readLine_2 : List UInt8 := [167, 0, 42, 42, 19, 1, 24, 182, 0, 133, 153, 0, 10, 42, 182, 1, 26, 167, 0, 25, 42, 19, 1, 29]
abbrev dktX2_readLine_2 : List UInt8 := dkwX2_readLine_2 ++ dktX2_readLine_3
def dkwX2_readLine_1 : List UInt8 := [153, 0, 10, 42, 182, 1, 18, 167, 0, 58, 42, 18, 191, 182, 0, 133, 153, 0, 10, 42, 182, 1, 21]
abbrev dktX2_readLine_1 : List UInt8 := dkwX2_readLine_1 ++ dktX2_readLine_2
def dkwX2_readLine_0 : List UInt8 := [42, 19, 1, 11, 182, 0, 133, 153, 0, 10, 42, 182, 1, 13, 167, 0, 75, 42, 19, 1, 16, 182, 0, 133]
abbrev dktX2_readLine_0 : List UInt8 := dkwX2_readLine_0 ++ dktX2_readLine_1
theorem dksX2_readLine_0 : cX2_readLine.data.toList.drop 0 = dktX2_readLine_0 := by decide +kernel
theorem dksX2_readLine_1 : cX2_readLine.data.toList.drop 24 = dktX2_readLine_1 := dk_seg dksX2_readLine_0 24 rfl rfl
theorem dksX2_readLine_2 : cX2_readLine.data.toList.drop 47 = dktX2_readLine_2 := dk_seg dksX2_readLine_1 23 rfl rfl
theorem dksX2_readLine_3 : cX2_readLine.data.toList.drop 71 = dktX2_readLine_3 := dk_seg dksX2_readLine_2 24 rfl rfl
theorem dX2_readLine_0 : decode cX2_readLine 0 = .ok (.aload_n 0, 1) := dk_42 (dk_at dksX2_readLine_0 0 rfl rfl)
theorem dX2_readLine_1 : decode cX2_readLine 1 = .ok (.ldc_w 267, 3) := dk_19 1 11 (dk_at dksX2_readLine_0 1 rfl rfl)
theorem dX2_readLine_4 : decode cX2_readLine 4 = .ok (.invokevirtual 133, 3) := dk_182 0 133 (dk_at dksX2_readLine_0 4 rfl rfl)
theorem dX2_readLine_7 : decode cX2_readLine 7 = .ok (.ifCond .eq 10, 3) := dk_153 0 10 (dk_at dksX2_readLine_0 7 rfl rfl)
theorem dX2_readLine_10 : decode cX2_readLine 10 = .ok (.aload_n 0, 1) := dk_42 (dk_at dksX2_readLine_0 10 rfl rfl)
theorem dX2_readLine_11 : decode cX2_readLine 11 = .ok (.invokevirtual 269, 3) := dk_182 1 13 (dk_at dksX2_readLine_0 11 rfl rfl)
theorem dX2_readLine_14 : decode cX2_readLine 14 = .ok (.goto 75, 3) := dk_167 0 75 (dk_at dksX2_readLine_0 14 rfl rfl)
theorem dX2_readLine_17 : decode cX2_readLine 17 = .ok (.aload_n 0, 1) := dk_42 (dk_at dksX2_readLine_0 17 rfl rfl)
theorem dX2_readLine_18 : decode cX2_readLine 18 = .ok (.ldc_w 272, 3) := dk_19 1 16 (dk_at dksX2_readLine_0 18 rfl rfl)
theorem dX2_readLine_21 : decode cX2_readLine 21 = .ok (.invokevirtual 133, 3) := dk_182 0 133 (dk_at dksX2_readLine_0 21 rfl rfl)
theorem dX2_readLine_24 : decode cX2_readLine 24 = .ok (.ifCond .eq 10, 3) := dk_153 0 10 (dk_at dksX2_readLine_1 0 rfl rfl)
theorem dX2_readLine_27 : decode cX2_readLine 27 = .ok (.aload_n 0, 1) := dk_42 (dk_at dksX2_readLine_1 3 rfl rfl)
theorem dX2_readLine_28 : decode cX2_readLine 28 = .ok (.invokevirtual 274, 3) := dk_182 1 18 (dk_at dksX2_readLine_1 4 rfl rfl)
theorem dX2_readLine_31 : decode cX2_readLine 31 = .ok (.goto 58, 3) := dk_167 0 58 (dk_at dksX2_readLine_1 7 rfl rfl)
theorem dX2_readLine_34 : decode cX2_readLine 34 = .ok (.aload_n 0, 1) := dk_42 (dk_at dksX2_readLine_1 10 rfl rfl)
theorem dX2_readLine_35 : decode cX2_readLine 35 = .ok (.ldc 191, 2) := dk_18 191 (dk_at dksX2_readLine_1 11 rfl rfl)
theorem dX2_readLine_37 : decode cX2_readLine 37 = .ok (.invokevirtual 133, 3) := dk_182 0 133 (dk_at dksX2_readLine_1 13 rfl rfl)
theorem dX2_readLine_40 : decode cX2_readLine 40 = .ok (.ifCond .eq 10, 3) := dk_153 0 10 (dk_at dksX2_readLine_1 16 rfl rfl)
theorem dX2_readLine_43 : decode cX2_readLine 43 = .ok (.aload_n 0, 1) := dk_42 (dk_at dksX2_readLine_1 19 rfl rfl)
theorem dX2_readLine_44 : decode cX2_readLine 44 = .ok (.invokevirtual 277, 3) := dk_182 1 21 (dk_at dksX2_readLine_1 20 rfl rfl)
theorem dX2_readLine_47 : decode cX2_readLine 47 = .ok (.goto 42, 3) := dk_167 0 42 (dk_at dksX2_readLine_2 0 rfl rfl)
theorem dX2_readLine_50 : decode cX2_readLine 50 = .ok (.aload_n 0, 1) := dk_42 (dk_at dksX2_readLine_2 3 rfl rfl)
theorem dX2_readLine_51 : decode cX2_readLine 51 = .ok (.ldc_w 280, 3) := dk_19 1 24 (dk_at dksX2_readLine_2 4 rfl rfl)
theorem dX2_readLine_54 : decode cX2_readLine 54 = .ok (.invokevirtual 133, 3) := dk_182 0 133 (dk_at dksX2_readLine_2 7 rfl rfl)
theorem dX2_readLine_57 : decode cX2_readLine 57 = .ok (.ifCond .eq 10, 3) := dk_153 0 10 (dk_at dksX2_readLine_2 10 rfl rfl)
theorem dX2_readLine_60 : decode cX2_readLine 60 = .ok (.aload_n 0, 1) := dk_42 (dk_at dksX2_readLine_2 13 rfl rfl)
theorem dX2_readLine_61 : decode cX2_readLine 61 = .ok (.invokevirtual 282, 3) := dk_182 1 26 (dk_at dksX2_readLine_2 14 rfl rfl)
theorem dX2_readLine_64 : decode cX2_readLine 64 = .ok (.goto 25, 3) := dk_167 0 25 (dk_at dksX2_readLine_2 17 rfl rfl)
theorem dX2_readLine_67 : decode cX2_readLine 67 = .ok (.aload_n 0, 1) := dk_42 (dk_at dksX2_readLine_2 20 rfl rfl)
theorem dX2_readLine_68 : decode cX2_readLine 68 = .ok (.ldc_w 285, 3) := dk_19 1 29 (dk_at dksX2_readLine_2 21 rfl rfl)
theorem dX2_readLine_71 : decode cX2_readLine 71 = .ok (.invokevirtual 133, 3) := dk_182 0 133 (dk_at dksX2_readLine_3 0 rfl rfl)
theorem dX2_readLine_74 : decode cX2_readLine 74 = .ok (.ifCond .eq 10, 3) := dk_153 0 10 (dk_at dksX2_readLine_3 3 rfl rfl)
theorem dX2_readLine_77 : decode cX2_readLine 77 = .ok (.aload_n 0, 1) := dk_42 (dk_at dksX2_readLine_3 6 rfl rfl)
theorem dX2_readLine_78 : decode cX2_readLine 78 = .ok (.invokevirtual 287, 3) := dk_182 1 31 (dk_at dksX2_readLine_3 7 rfl rfl)
theorem dX2_readLine_81 : decode cX2_readLine 81 = .ok (.goto 8, 3) := dk_167 0 8 (dk_at dksX2_readLine_3 10 rfl rfl)
theorem dX2_readLine_84 : decode cX2_readLine 84 = .ok (.aload_n 0, 1) := dk_42 (dk_at dksX2_readLine_3 13 rfl rfl)
theorem dX2_readLine_85 : decode cX2_readLine 85 = .ok (.iconst 1, 1) := dk_4 (dk_at dksX2_readLine_3 14 rfl rfl)
theorem dX2_readLine_86 : decode cX2_readLine 86 = .ok (.invokevirtual 143, 3) := dk_182 0 143 (dk_at dksX2_readLine_3 15 rfl rfl)
theorem dX2_readLine_89 : decode cX2_readLine 89 = .ok (.return_, 1) := dk_177 (dk_at dksX2_readLine_3 18 rfl rfl)
abbrev cX2_readIncumbent : ByteArray := prog_22_method_24_code
def yX2_readIncumbent : MethodName := ⟨RX2, "readIncumbent", "()V"⟩
def dkwX2_readIncumbent_8 : List UInt8 := [4, 167, 0, 4, 3, 79, 42, 180, 0, 26, 7, 92, 46, 4, 96, 79, 177]
abbrev dktX2_readIncumbent_8 : List UInt8 := dkwX2_readIncumbent_8 ++ []
def dkwX2_readIncumbent_7 : List UInt8 := [17, 39, 15, 182, 0, 154, 79, 42, 180, 0, 26, 27, 16, 7, 96, 42, 18, 182, 182, 0, 140, 153, 0, 7]
abbrev dktX2_readIncumbent_7 : List UInt8 := dkwX2_readIncumbent_7 ++ dktX2_readIncumbent_8
def dkwX2_readIncumbent_6 : List UInt8 := [182, 0, 154, 79, 42, 180, 0, 26, 27, 16, 6, 96, 42, 42, 180, 0, 26, 27, 8, 96, 46, 4, 96]
abbrev dktX2_readIncumbent_6 : List UInt8 := dkwX2_readIncumbent_6 ++ dktX2_readIncumbent_7
def dkwX2_readIncumbent_5 : List UInt8 := [7, 96, 42, 3, 18, 169, 182, 0, 154, 79, 42, 180, 0, 26, 27, 8, 96, 42, 3, 17, 3, 231]
abbrev dktX2_readIncumbent_5 : List UInt8 := dkwX2_readIncumbent_5 ++ dktX2_readIncumbent_6
def dkwX2_readIncumbent_4 : List UInt8 := [180, 0, 26, 27, 5, 96, 46, 42, 180, 0, 20, 5, 46, 4, 100, 182, 0, 154, 79, 42, 180, 0, 26, 27]
abbrev dktX2_readIncumbent_4 : List UInt8 := dkwX2_readIncumbent_4 ++ dktX2_readIncumbent_5
def dkwX2_readIncumbent_3 : List UInt8 := [42, 3, 42, 180, 0, 20, 5, 46, 4, 100, 182, 0, 154, 79, 42, 180, 0, 26, 27, 6, 96, 42, 42]
abbrev dktX2_readIncumbent_3 : List UInt8 := dkwX2_readIncumbent_3 ++ dktX2_readIncumbent_4
def dkwX2_readIncumbent_2 : List UInt8 := [42, 182, 0, 176, 79, 42, 180, 0, 26, 27, 4, 96, 42, 182, 0, 179, 79, 42, 180, 0, 26, 27, 5, 96]
abbrev dktX2_readIncumbent_2 : List UInt8 := dkwX2_readIncumbent_2 ++ dktX2_readIncumbent_3
def dkwX2_readIncumbent_1 : List UInt8 := [158, 0, 4, 177, 16, 118, 16, 8, 42, 180, 0, 26, 7, 46, 104, 96, 60, 42, 180, 0, 26, 27, 3, 96]
abbrev dktX2_readIncumbent_1 : List UInt8 := dkwX2_readIncumbent_1 ++ dktX2_readIncumbent_2
def dkwX2_readIncumbent_0 : List UInt8 := [42, 180, 0, 26, 7, 46, 16, 6, 160, 0, 8, 42, 7, 182, 0, 143, 42, 182, 0, 137, 42, 180, 0, 95]
abbrev dktX2_readIncumbent_0 : List UInt8 := dkwX2_readIncumbent_0 ++ dktX2_readIncumbent_1
theorem dksX2_readIncumbent_0 : cX2_readIncumbent.data.toList.drop 0 = dktX2_readIncumbent_0 := by decide +kernel
theorem dksX2_readIncumbent_1 : cX2_readIncumbent.data.toList.drop 24 = dktX2_readIncumbent_1 := dk_seg dksX2_readIncumbent_0 24 rfl rfl
theorem dksX2_readIncumbent_2 : cX2_readIncumbent.data.toList.drop 48 = dktX2_readIncumbent_2 := dk_seg dksX2_readIncumbent_1 24 rfl rfl
theorem dksX2_readIncumbent_3 : cX2_readIncumbent.data.toList.drop 72 = dktX2_readIncumbent_3 := dk_seg dksX2_readIncumbent_2 24 rfl rfl
theorem dksX2_readIncumbent_4 : cX2_readIncumbent.data.toList.drop 95 = dktX2_readIncumbent_4 := dk_seg dksX2_readIncumbent_3 23 rfl rfl
theorem dksX2_readIncumbent_5 : cX2_readIncumbent.data.toList.drop 119 = dktX2_readIncumbent_5 := dk_seg dksX2_readIncumbent_4 24 rfl rfl
theorem dksX2_readIncumbent_6 : cX2_readIncumbent.data.toList.drop 141 = dktX2_readIncumbent_6 := dk_seg dksX2_readIncumbent_5 22 rfl rfl
theorem dksX2_readIncumbent_7 : cX2_readIncumbent.data.toList.drop 164 = dktX2_readIncumbent_7 := dk_seg dksX2_readIncumbent_6 23 rfl rfl
theorem dksX2_readIncumbent_8 : cX2_readIncumbent.data.toList.drop 188 = dktX2_readIncumbent_8 := dk_seg dksX2_readIncumbent_7 24 rfl rfl
theorem dX2_readIncumbent_0 : decode cX2_readIncumbent 0 = .ok (.aload_n 0, 1) := dk_42 (dk_at dksX2_readIncumbent_0 0 rfl rfl)
theorem dX2_readIncumbent_1 : decode cX2_readIncumbent 1 = .ok (.getfield 26, 3) := dk_180 0 26 (dk_at dksX2_readIncumbent_0 1 rfl rfl)
theorem dX2_readIncumbent_4 : decode cX2_readIncumbent 4 = .ok (.iconst 4, 1) := dk_7 (dk_at dksX2_readIncumbent_0 4 rfl rfl)
theorem dX2_readIncumbent_5 : decode cX2_readIncumbent 5 = .ok (.iaload, 1) := dk_46 (dk_at dksX2_readIncumbent_0 5 rfl rfl)
theorem dX2_readIncumbent_6 : decode cX2_readIncumbent 6 = .ok (.bipush 6, 2) := dk_16 6 (dk_at dksX2_readIncumbent_0 6 rfl rfl)
theorem dX2_readIncumbent_8 : decode cX2_readIncumbent 8 = .ok (.if_icmp .ne 8, 3) := dk_160 0 8 (dk_at dksX2_readIncumbent_0 8 rfl rfl)
theorem dX2_readIncumbent_11 : decode cX2_readIncumbent 11 = .ok (.aload_n 0, 1) := dk_42 (dk_at dksX2_readIncumbent_0 11 rfl rfl)
theorem dX2_readIncumbent_12 : decode cX2_readIncumbent 12 = .ok (.iconst 4, 1) := dk_7 (dk_at dksX2_readIncumbent_0 12 rfl rfl)
theorem dX2_readIncumbent_13 : decode cX2_readIncumbent 13 = .ok (.invokevirtual 143, 3) := dk_182 0 143 (dk_at dksX2_readIncumbent_0 13 rfl rfl)
theorem dX2_readIncumbent_16 : decode cX2_readIncumbent 16 = .ok (.aload_n 0, 1) := dk_42 (dk_at dksX2_readIncumbent_0 16 rfl rfl)
theorem dX2_readIncumbent_17 : decode cX2_readIncumbent 17 = .ok (.invokevirtual 137, 3) := dk_182 0 137 (dk_at dksX2_readIncumbent_0 17 rfl rfl)
theorem dX2_readIncumbent_20 : decode cX2_readIncumbent 20 = .ok (.aload_n 0, 1) := dk_42 (dk_at dksX2_readIncumbent_0 20 rfl rfl)
theorem dX2_readIncumbent_21 : decode cX2_readIncumbent 21 = .ok (.getfield 95, 3) := dk_180 0 95 (dk_at dksX2_readIncumbent_0 21 rfl rfl)
theorem dX2_readIncumbent_24 : decode cX2_readIncumbent 24 = .ok (.ifCond .le 4, 3) := dk_158 0 4 (dk_at dksX2_readIncumbent_1 0 rfl rfl)
theorem dX2_readIncumbent_27 : decode cX2_readIncumbent 27 = .ok (.return_, 1) := dk_177 (dk_at dksX2_readIncumbent_1 3 rfl rfl)
theorem dX2_readIncumbent_28 : decode cX2_readIncumbent 28 = .ok (.bipush 118, 2) := dk_16 118 (dk_at dksX2_readIncumbent_1 4 rfl rfl)
theorem dX2_readIncumbent_30 : decode cX2_readIncumbent 30 = .ok (.bipush 8, 2) := dk_16 8 (dk_at dksX2_readIncumbent_1 6 rfl rfl)
theorem dX2_readIncumbent_32 : decode cX2_readIncumbent 32 = .ok (.aload_n 0, 1) := dk_42 (dk_at dksX2_readIncumbent_1 8 rfl rfl)
theorem dX2_readIncumbent_33 : decode cX2_readIncumbent 33 = .ok (.getfield 26, 3) := dk_180 0 26 (dk_at dksX2_readIncumbent_1 9 rfl rfl)
theorem dX2_readIncumbent_36 : decode cX2_readIncumbent 36 = .ok (.iconst 4, 1) := dk_7 (dk_at dksX2_readIncumbent_1 12 rfl rfl)
theorem dX2_readIncumbent_37 : decode cX2_readIncumbent 37 = .ok (.iaload, 1) := dk_46 (dk_at dksX2_readIncumbent_1 13 rfl rfl)
theorem dX2_readIncumbent_38 : decode cX2_readIncumbent 38 = .ok (.imul, 1) := dk_104 (dk_at dksX2_readIncumbent_1 14 rfl rfl)
theorem dX2_readIncumbent_39 : decode cX2_readIncumbent 39 = .ok (.iadd, 1) := dk_96 (dk_at dksX2_readIncumbent_1 15 rfl rfl)
theorem dX2_readIncumbent_40 : decode cX2_readIncumbent 40 = .ok (.istore_n 1, 1) := dk_60 (dk_at dksX2_readIncumbent_1 16 rfl rfl)
theorem dX2_readIncumbent_41 : decode cX2_readIncumbent 41 = .ok (.aload_n 0, 1) := dk_42 (dk_at dksX2_readIncumbent_1 17 rfl rfl)
theorem dX2_readIncumbent_42 : decode cX2_readIncumbent 42 = .ok (.getfield 26, 3) := dk_180 0 26 (dk_at dksX2_readIncumbent_1 18 rfl rfl)
theorem dX2_readIncumbent_45 : decode cX2_readIncumbent 45 = .ok (.iload_n 1, 1) := dk_27 (dk_at dksX2_readIncumbent_1 21 rfl rfl)
theorem dX2_readIncumbent_46 : decode cX2_readIncumbent 46 = .ok (.iconst 0, 1) := dk_3 (dk_at dksX2_readIncumbent_1 22 rfl rfl)
theorem dX2_readIncumbent_47 : decode cX2_readIncumbent 47 = .ok (.iadd, 1) := dk_96 (dk_at dksX2_readIncumbent_1 23 rfl rfl)
theorem dX2_readIncumbent_48 : decode cX2_readIncumbent 48 = .ok (.aload_n 0, 1) := dk_42 (dk_at dksX2_readIncumbent_2 0 rfl rfl)
theorem dX2_readIncumbent_49 : decode cX2_readIncumbent 49 = .ok (.invokevirtual 176, 3) := dk_182 0 176 (dk_at dksX2_readIncumbent_2 1 rfl rfl)
theorem dX2_readIncumbent_52 : decode cX2_readIncumbent 52 = .ok (.iastore, 1) := dk_79 (dk_at dksX2_readIncumbent_2 4 rfl rfl)
theorem dX2_readIncumbent_53 : decode cX2_readIncumbent 53 = .ok (.aload_n 0, 1) := dk_42 (dk_at dksX2_readIncumbent_2 5 rfl rfl)
theorem dX2_readIncumbent_54 : decode cX2_readIncumbent 54 = .ok (.getfield 26, 3) := dk_180 0 26 (dk_at dksX2_readIncumbent_2 6 rfl rfl)
theorem dX2_readIncumbent_57 : decode cX2_readIncumbent 57 = .ok (.iload_n 1, 1) := dk_27 (dk_at dksX2_readIncumbent_2 9 rfl rfl)
theorem dX2_readIncumbent_58 : decode cX2_readIncumbent 58 = .ok (.iconst 1, 1) := dk_4 (dk_at dksX2_readIncumbent_2 10 rfl rfl)
theorem dX2_readIncumbent_59 : decode cX2_readIncumbent 59 = .ok (.iadd, 1) := dk_96 (dk_at dksX2_readIncumbent_2 11 rfl rfl)
theorem dX2_readIncumbent_60 : decode cX2_readIncumbent 60 = .ok (.aload_n 0, 1) := dk_42 (dk_at dksX2_readIncumbent_2 12 rfl rfl)
theorem dX2_readIncumbent_61 : decode cX2_readIncumbent 61 = .ok (.invokevirtual 179, 3) := dk_182 0 179 (dk_at dksX2_readIncumbent_2 13 rfl rfl)
theorem dX2_readIncumbent_64 : decode cX2_readIncumbent 64 = .ok (.iastore, 1) := dk_79 (dk_at dksX2_readIncumbent_2 16 rfl rfl)
theorem dX2_readIncumbent_65 : decode cX2_readIncumbent 65 = .ok (.aload_n 0, 1) := dk_42 (dk_at dksX2_readIncumbent_2 17 rfl rfl)
theorem dX2_readIncumbent_66 : decode cX2_readIncumbent 66 = .ok (.getfield 26, 3) := dk_180 0 26 (dk_at dksX2_readIncumbent_2 18 rfl rfl)
theorem dX2_readIncumbent_69 : decode cX2_readIncumbent 69 = .ok (.iload_n 1, 1) := dk_27 (dk_at dksX2_readIncumbent_2 21 rfl rfl)
theorem dX2_readIncumbent_70 : decode cX2_readIncumbent 70 = .ok (.iconst 2, 1) := dk_5 (dk_at dksX2_readIncumbent_2 22 rfl rfl)
theorem dX2_readIncumbent_71 : decode cX2_readIncumbent 71 = .ok (.iadd, 1) := dk_96 (dk_at dksX2_readIncumbent_2 23 rfl rfl)
theorem dX2_readIncumbent_72 : decode cX2_readIncumbent 72 = .ok (.aload_n 0, 1) := dk_42 (dk_at dksX2_readIncumbent_3 0 rfl rfl)
theorem dX2_readIncumbent_73 : decode cX2_readIncumbent 73 = .ok (.iconst 0, 1) := dk_3 (dk_at dksX2_readIncumbent_3 1 rfl rfl)
theorem dX2_readIncumbent_74 : decode cX2_readIncumbent 74 = .ok (.aload_n 0, 1) := dk_42 (dk_at dksX2_readIncumbent_3 2 rfl rfl)
theorem dX2_readIncumbent_75 : decode cX2_readIncumbent 75 = .ok (.getfield 20, 3) := dk_180 0 20 (dk_at dksX2_readIncumbent_3 3 rfl rfl)
theorem dX2_readIncumbent_78 : decode cX2_readIncumbent 78 = .ok (.iconst 2, 1) := dk_5 (dk_at dksX2_readIncumbent_3 6 rfl rfl)
theorem dX2_readIncumbent_79 : decode cX2_readIncumbent 79 = .ok (.iaload, 1) := dk_46 (dk_at dksX2_readIncumbent_3 7 rfl rfl)
theorem dX2_readIncumbent_80 : decode cX2_readIncumbent 80 = .ok (.iconst 1, 1) := dk_4 (dk_at dksX2_readIncumbent_3 8 rfl rfl)
theorem dX2_readIncumbent_81 : decode cX2_readIncumbent 81 = .ok (.isub, 1) := dk_100 (dk_at dksX2_readIncumbent_3 9 rfl rfl)
theorem dX2_readIncumbent_82 : decode cX2_readIncumbent 82 = .ok (.invokevirtual 154, 3) := dk_182 0 154 (dk_at dksX2_readIncumbent_3 10 rfl rfl)
theorem dX2_readIncumbent_85 : decode cX2_readIncumbent 85 = .ok (.iastore, 1) := dk_79 (dk_at dksX2_readIncumbent_3 13 rfl rfl)
theorem dX2_readIncumbent_86 : decode cX2_readIncumbent 86 = .ok (.aload_n 0, 1) := dk_42 (dk_at dksX2_readIncumbent_3 14 rfl rfl)
theorem dX2_readIncumbent_87 : decode cX2_readIncumbent 87 = .ok (.getfield 26, 3) := dk_180 0 26 (dk_at dksX2_readIncumbent_3 15 rfl rfl)
theorem dX2_readIncumbent_90 : decode cX2_readIncumbent 90 = .ok (.iload_n 1, 1) := dk_27 (dk_at dksX2_readIncumbent_3 18 rfl rfl)
theorem dX2_readIncumbent_91 : decode cX2_readIncumbent 91 = .ok (.iconst 3, 1) := dk_6 (dk_at dksX2_readIncumbent_3 19 rfl rfl)
theorem dX2_readIncumbent_92 : decode cX2_readIncumbent 92 = .ok (.iadd, 1) := dk_96 (dk_at dksX2_readIncumbent_3 20 rfl rfl)
theorem dX2_readIncumbent_93 : decode cX2_readIncumbent 93 = .ok (.aload_n 0, 1) := dk_42 (dk_at dksX2_readIncumbent_3 21 rfl rfl)
theorem dX2_readIncumbent_94 : decode cX2_readIncumbent 94 = .ok (.aload_n 0, 1) := dk_42 (dk_at dksX2_readIncumbent_3 22 rfl rfl)
theorem dX2_readIncumbent_95 : decode cX2_readIncumbent 95 = .ok (.getfield 26, 3) := dk_180 0 26 (dk_at dksX2_readIncumbent_4 0 rfl rfl)
theorem dX2_readIncumbent_98 : decode cX2_readIncumbent 98 = .ok (.iload_n 1, 1) := dk_27 (dk_at dksX2_readIncumbent_4 3 rfl rfl)
theorem dX2_readIncumbent_99 : decode cX2_readIncumbent 99 = .ok (.iconst 2, 1) := dk_5 (dk_at dksX2_readIncumbent_4 4 rfl rfl)
theorem dX2_readIncumbent_100 : decode cX2_readIncumbent 100 = .ok (.iadd, 1) := dk_96 (dk_at dksX2_readIncumbent_4 5 rfl rfl)
theorem dX2_readIncumbent_101 : decode cX2_readIncumbent 101 = .ok (.iaload, 1) := dk_46 (dk_at dksX2_readIncumbent_4 6 rfl rfl)
theorem dX2_readIncumbent_102 : decode cX2_readIncumbent 102 = .ok (.aload_n 0, 1) := dk_42 (dk_at dksX2_readIncumbent_4 7 rfl rfl)
theorem dX2_readIncumbent_103 : decode cX2_readIncumbent 103 = .ok (.getfield 20, 3) := dk_180 0 20 (dk_at dksX2_readIncumbent_4 8 rfl rfl)
theorem dX2_readIncumbent_106 : decode cX2_readIncumbent 106 = .ok (.iconst 2, 1) := dk_5 (dk_at dksX2_readIncumbent_4 11 rfl rfl)
theorem dX2_readIncumbent_107 : decode cX2_readIncumbent 107 = .ok (.iaload, 1) := dk_46 (dk_at dksX2_readIncumbent_4 12 rfl rfl)
theorem dX2_readIncumbent_108 : decode cX2_readIncumbent 108 = .ok (.iconst 1, 1) := dk_4 (dk_at dksX2_readIncumbent_4 13 rfl rfl)
theorem dX2_readIncumbent_109 : decode cX2_readIncumbent 109 = .ok (.isub, 1) := dk_100 (dk_at dksX2_readIncumbent_4 14 rfl rfl)
theorem dX2_readIncumbent_110 : decode cX2_readIncumbent 110 = .ok (.invokevirtual 154, 3) := dk_182 0 154 (dk_at dksX2_readIncumbent_4 15 rfl rfl)
theorem dX2_readIncumbent_113 : decode cX2_readIncumbent 113 = .ok (.iastore, 1) := dk_79 (dk_at dksX2_readIncumbent_4 18 rfl rfl)
theorem dX2_readIncumbent_114 : decode cX2_readIncumbent 114 = .ok (.aload_n 0, 1) := dk_42 (dk_at dksX2_readIncumbent_4 19 rfl rfl)
theorem dX2_readIncumbent_115 : decode cX2_readIncumbent 115 = .ok (.getfield 26, 3) := dk_180 0 26 (dk_at dksX2_readIncumbent_4 20 rfl rfl)
theorem dX2_readIncumbent_118 : decode cX2_readIncumbent 118 = .ok (.iload_n 1, 1) := dk_27 (dk_at dksX2_readIncumbent_4 23 rfl rfl)
theorem dX2_readIncumbent_119 : decode cX2_readIncumbent 119 = .ok (.iconst 4, 1) := dk_7 (dk_at dksX2_readIncumbent_5 0 rfl rfl)
theorem dX2_readIncumbent_120 : decode cX2_readIncumbent 120 = .ok (.iadd, 1) := dk_96 (dk_at dksX2_readIncumbent_5 1 rfl rfl)
theorem dX2_readIncumbent_121 : decode cX2_readIncumbent 121 = .ok (.aload_n 0, 1) := dk_42 (dk_at dksX2_readIncumbent_5 2 rfl rfl)
theorem dX2_readIncumbent_122 : decode cX2_readIncumbent 122 = .ok (.iconst 0, 1) := dk_3 (dk_at dksX2_readIncumbent_5 3 rfl rfl)
theorem dX2_readIncumbent_123 : decode cX2_readIncumbent 123 = .ok (.ldc 169, 2) := dk_18 169 (dk_at dksX2_readIncumbent_5 4 rfl rfl)
theorem dX2_readIncumbent_125 : decode cX2_readIncumbent 125 = .ok (.invokevirtual 154, 3) := dk_182 0 154 (dk_at dksX2_readIncumbent_5 6 rfl rfl)
theorem dX2_readIncumbent_128 : decode cX2_readIncumbent 128 = .ok (.iastore, 1) := dk_79 (dk_at dksX2_readIncumbent_5 9 rfl rfl)
theorem dX2_readIncumbent_129 : decode cX2_readIncumbent 129 = .ok (.aload_n 0, 1) := dk_42 (dk_at dksX2_readIncumbent_5 10 rfl rfl)
theorem dX2_readIncumbent_130 : decode cX2_readIncumbent 130 = .ok (.getfield 26, 3) := dk_180 0 26 (dk_at dksX2_readIncumbent_5 11 rfl rfl)
theorem dX2_readIncumbent_133 : decode cX2_readIncumbent 133 = .ok (.iload_n 1, 1) := dk_27 (dk_at dksX2_readIncumbent_5 14 rfl rfl)
theorem dX2_readIncumbent_134 : decode cX2_readIncumbent 134 = .ok (.iconst 5, 1) := dk_8 (dk_at dksX2_readIncumbent_5 15 rfl rfl)
theorem dX2_readIncumbent_135 : decode cX2_readIncumbent 135 = .ok (.iadd, 1) := dk_96 (dk_at dksX2_readIncumbent_5 16 rfl rfl)
theorem dX2_readIncumbent_136 : decode cX2_readIncumbent 136 = .ok (.aload_n 0, 1) := dk_42 (dk_at dksX2_readIncumbent_5 17 rfl rfl)
theorem dX2_readIncumbent_137 : decode cX2_readIncumbent 137 = .ok (.iconst 0, 1) := dk_3 (dk_at dksX2_readIncumbent_5 18 rfl rfl)
theorem dX2_readIncumbent_138 : decode cX2_readIncumbent 138 = .ok (.sipush 999, 3) := dk_17 3 231 (dk_at dksX2_readIncumbent_5 19 rfl rfl)
theorem dX2_readIncumbent_141 : decode cX2_readIncumbent 141 = .ok (.invokevirtual 154, 3) := dk_182 0 154 (dk_at dksX2_readIncumbent_6 0 rfl rfl)
theorem dX2_readIncumbent_144 : decode cX2_readIncumbent 144 = .ok (.iastore, 1) := dk_79 (dk_at dksX2_readIncumbent_6 3 rfl rfl)
theorem dX2_readIncumbent_145 : decode cX2_readIncumbent 145 = .ok (.aload_n 0, 1) := dk_42 (dk_at dksX2_readIncumbent_6 4 rfl rfl)
theorem dX2_readIncumbent_146 : decode cX2_readIncumbent 146 = .ok (.getfield 26, 3) := dk_180 0 26 (dk_at dksX2_readIncumbent_6 5 rfl rfl)
theorem dX2_readIncumbent_149 : decode cX2_readIncumbent 149 = .ok (.iload_n 1, 1) := dk_27 (dk_at dksX2_readIncumbent_6 8 rfl rfl)
theorem dX2_readIncumbent_150 : decode cX2_readIncumbent 150 = .ok (.bipush 6, 2) := dk_16 6 (dk_at dksX2_readIncumbent_6 9 rfl rfl)
theorem dX2_readIncumbent_152 : decode cX2_readIncumbent 152 = .ok (.iadd, 1) := dk_96 (dk_at dksX2_readIncumbent_6 11 rfl rfl)
theorem dX2_readIncumbent_153 : decode cX2_readIncumbent 153 = .ok (.aload_n 0, 1) := dk_42 (dk_at dksX2_readIncumbent_6 12 rfl rfl)
theorem dX2_readIncumbent_154 : decode cX2_readIncumbent 154 = .ok (.aload_n 0, 1) := dk_42 (dk_at dksX2_readIncumbent_6 13 rfl rfl)
theorem dX2_readIncumbent_155 : decode cX2_readIncumbent 155 = .ok (.getfield 26, 3) := dk_180 0 26 (dk_at dksX2_readIncumbent_6 14 rfl rfl)
theorem dX2_readIncumbent_158 : decode cX2_readIncumbent 158 = .ok (.iload_n 1, 1) := dk_27 (dk_at dksX2_readIncumbent_6 17 rfl rfl)
theorem dX2_readIncumbent_159 : decode cX2_readIncumbent 159 = .ok (.iconst 5, 1) := dk_8 (dk_at dksX2_readIncumbent_6 18 rfl rfl)
theorem dX2_readIncumbent_160 : decode cX2_readIncumbent 160 = .ok (.iadd, 1) := dk_96 (dk_at dksX2_readIncumbent_6 19 rfl rfl)
theorem dX2_readIncumbent_161 : decode cX2_readIncumbent 161 = .ok (.iaload, 1) := dk_46 (dk_at dksX2_readIncumbent_6 20 rfl rfl)
theorem dX2_readIncumbent_162 : decode cX2_readIncumbent 162 = .ok (.iconst 1, 1) := dk_4 (dk_at dksX2_readIncumbent_6 21 rfl rfl)
theorem dX2_readIncumbent_163 : decode cX2_readIncumbent 163 = .ok (.iadd, 1) := dk_96 (dk_at dksX2_readIncumbent_6 22 rfl rfl)
theorem dX2_readIncumbent_164 : decode cX2_readIncumbent 164 = .ok (.sipush 9999, 3) := dk_17 39 15 (dk_at dksX2_readIncumbent_7 0 rfl rfl)
theorem dX2_readIncumbent_167 : decode cX2_readIncumbent 167 = .ok (.invokevirtual 154, 3) := dk_182 0 154 (dk_at dksX2_readIncumbent_7 3 rfl rfl)
theorem dX2_readIncumbent_170 : decode cX2_readIncumbent 170 = .ok (.iastore, 1) := dk_79 (dk_at dksX2_readIncumbent_7 6 rfl rfl)
theorem dX2_readIncumbent_171 : decode cX2_readIncumbent 171 = .ok (.aload_n 0, 1) := dk_42 (dk_at dksX2_readIncumbent_7 7 rfl rfl)
theorem dX2_readIncumbent_172 : decode cX2_readIncumbent 172 = .ok (.getfield 26, 3) := dk_180 0 26 (dk_at dksX2_readIncumbent_7 8 rfl rfl)
theorem dX2_readIncumbent_175 : decode cX2_readIncumbent 175 = .ok (.iload_n 1, 1) := dk_27 (dk_at dksX2_readIncumbent_7 11 rfl rfl)
theorem dX2_readIncumbent_176 : decode cX2_readIncumbent 176 = .ok (.bipush 7, 2) := dk_16 7 (dk_at dksX2_readIncumbent_7 12 rfl rfl)
theorem dX2_readIncumbent_178 : decode cX2_readIncumbent 178 = .ok (.iadd, 1) := dk_96 (dk_at dksX2_readIncumbent_7 14 rfl rfl)
theorem dX2_readIncumbent_179 : decode cX2_readIncumbent 179 = .ok (.aload_n 0, 1) := dk_42 (dk_at dksX2_readIncumbent_7 15 rfl rfl)
theorem dX2_readIncumbent_180 : decode cX2_readIncumbent 180 = .ok (.ldc 182, 2) := dk_18 182 (dk_at dksX2_readIncumbent_7 16 rfl rfl)
theorem dX2_readIncumbent_182 : decode cX2_readIncumbent 182 = .ok (.invokevirtual 140, 3) := dk_182 0 140 (dk_at dksX2_readIncumbent_7 18 rfl rfl)
theorem dX2_readIncumbent_185 : decode cX2_readIncumbent 185 = .ok (.ifCond .eq 7, 3) := dk_153 0 7 (dk_at dksX2_readIncumbent_7 21 rfl rfl)
theorem dX2_readIncumbent_188 : decode cX2_readIncumbent 188 = .ok (.iconst 1, 1) := dk_4 (dk_at dksX2_readIncumbent_8 0 rfl rfl)
theorem dX2_readIncumbent_189 : decode cX2_readIncumbent 189 = .ok (.goto 4, 3) := dk_167 0 4 (dk_at dksX2_readIncumbent_8 1 rfl rfl)
theorem dX2_readIncumbent_192 : decode cX2_readIncumbent 192 = .ok (.iconst 0, 1) := dk_3 (dk_at dksX2_readIncumbent_8 4 rfl rfl)
theorem dX2_readIncumbent_193 : decode cX2_readIncumbent 193 = .ok (.iastore, 1) := dk_79 (dk_at dksX2_readIncumbent_8 5 rfl rfl)
theorem dX2_readIncumbent_194 : decode cX2_readIncumbent 194 = .ok (.aload_n 0, 1) := dk_42 (dk_at dksX2_readIncumbent_8 6 rfl rfl)
theorem dX2_readIncumbent_195 : decode cX2_readIncumbent 195 = .ok (.getfield 26, 3) := dk_180 0 26 (dk_at dksX2_readIncumbent_8 7 rfl rfl)
theorem dX2_readIncumbent_198 : decode cX2_readIncumbent 198 = .ok (.iconst 4, 1) := dk_7 (dk_at dksX2_readIncumbent_8 10 rfl rfl)
theorem dX2_readIncumbent_199 : decode cX2_readIncumbent 199 = .ok (.dup2, 1) := dk_92 (dk_at dksX2_readIncumbent_8 11 rfl rfl)
theorem dX2_readIncumbent_200 : decode cX2_readIncumbent 200 = .ok (.iaload, 1) := dk_46 (dk_at dksX2_readIncumbent_8 12 rfl rfl)
theorem dX2_readIncumbent_201 : decode cX2_readIncumbent 201 = .ok (.iconst 1, 1) := dk_4 (dk_at dksX2_readIncumbent_8 13 rfl rfl)
theorem dX2_readIncumbent_202 : decode cX2_readIncumbent 202 = .ok (.iadd, 1) := dk_96 (dk_at dksX2_readIncumbent_8 14 rfl rfl)
theorem dX2_readIncumbent_203 : decode cX2_readIncumbent 203 = .ok (.iastore, 1) := dk_79 (dk_at dksX2_readIncumbent_8 15 rfl rfl)
theorem dX2_readIncumbent_204 : decode cX2_readIncumbent 204 = .ok (.return_, 1) := dk_177 (dk_at dksX2_readIncumbent_8 16 rfl rfl)
abbrev cX2_readX : ByteArray := prog_22_method_22_code
def yX2_readX : MethodName := ⟨RX2, "readX", "()I"⟩
def dkwX2_readX_0 : List UInt8 := [42, 3, 42, 180, 0, 20, 3, 46, 4, 100, 182, 0, 154, 172]
abbrev dktX2_readX_0 : List UInt8 := dkwX2_readX_0 ++ []
theorem dksX2_readX_0 : cX2_readX.data.toList.drop 0 = dktX2_readX_0 := by decide +kernel
theorem dX2_readX_0 : decode cX2_readX 0 = .ok (.aload_n 0, 1) := dk_42 (dk_at dksX2_readX_0 0 rfl rfl)
theorem dX2_readX_1 : decode cX2_readX 1 = .ok (.iconst 0, 1) := dk_3 (dk_at dksX2_readX_0 1 rfl rfl)
theorem dX2_readX_2 : decode cX2_readX 2 = .ok (.aload_n 0, 1) := dk_42 (dk_at dksX2_readX_0 2 rfl rfl)
theorem dX2_readX_3 : decode cX2_readX 3 = .ok (.getfield 20, 3) := dk_180 0 20 (dk_at dksX2_readX_0 3 rfl rfl)
theorem dX2_readX_6 : decode cX2_readX 6 = .ok (.iconst 0, 1) := dk_3 (dk_at dksX2_readX_0 6 rfl rfl)
theorem dX2_readX_7 : decode cX2_readX 7 = .ok (.iaload, 1) := dk_46 (dk_at dksX2_readX_0 7 rfl rfl)
theorem dX2_readX_8 : decode cX2_readX 8 = .ok (.iconst 1, 1) := dk_4 (dk_at dksX2_readX_0 8 rfl rfl)
theorem dX2_readX_9 : decode cX2_readX 9 = .ok (.isub, 1) := dk_100 (dk_at dksX2_readX_0 9 rfl rfl)
theorem dX2_readX_10 : decode cX2_readX 10 = .ok (.invokevirtual 154, 3) := dk_182 0 154 (dk_at dksX2_readX_0 10 rfl rfl)
theorem dX2_readX_13 : decode cX2_readX 13 = .ok (.ireturn, 1) := dk_172 (dk_at dksX2_readX_0 13 rfl rfl)
abbrev cX2_readY : ByteArray := prog_22_method_23_code
def yX2_readY : MethodName := ⟨RX2, "readY", "()I"⟩
def dkwX2_readY_0 : List UInt8 := [42, 3, 42, 180, 0, 20, 4, 46, 4, 100, 182, 0, 154, 172]
abbrev dktX2_readY_0 : List UInt8 := dkwX2_readY_0 ++ []
theorem dksX2_readY_0 : cX2_readY.data.toList.drop 0 = dktX2_readY_0 := by decide +kernel
theorem dX2_readY_0 : decode cX2_readY 0 = .ok (.aload_n 0, 1) := dk_42 (dk_at dksX2_readY_0 0 rfl rfl)
theorem dX2_readY_1 : decode cX2_readY 1 = .ok (.iconst 0, 1) := dk_3 (dk_at dksX2_readY_0 1 rfl rfl)
theorem dX2_readY_2 : decode cX2_readY 2 = .ok (.aload_n 0, 1) := dk_42 (dk_at dksX2_readY_0 2 rfl rfl)
theorem dX2_readY_3 : decode cX2_readY 3 = .ok (.getfield 20, 3) := dk_180 0 20 (dk_at dksX2_readY_0 3 rfl rfl)
theorem dX2_readY_6 : decode cX2_readY 6 = .ok (.iconst 1, 1) := dk_4 (dk_at dksX2_readY_0 6 rfl rfl)
theorem dX2_readY_7 : decode cX2_readY 7 = .ok (.iaload, 1) := dk_46 (dk_at dksX2_readY_0 7 rfl rfl)
theorem dX2_readY_8 : decode cX2_readY 8 = .ok (.iconst 1, 1) := dk_4 (dk_at dksX2_readY_0 8 rfl rfl)
theorem dX2_readY_9 : decode cX2_readY 9 = .ok (.isub, 1) := dk_100 (dk_at dksX2_readY_0 9 rfl rfl)
theorem dX2_readY_10 : decode cX2_readY 10 = .ok (.invokevirtual 154, 3) := dk_182 0 154 (dk_at dksX2_readY_0 10 rfl rfl)
theorem dX2_readY_13 : decode cX2_readY 13 = .ok (.ireturn, 1) := dk_172 (dk_at dksX2_readY_0 13 rfl rfl)
abbrev cX2_readSensor : ByteArray := prog_22_method_25_code
def yX2_readSensor : MethodName := ⟨RX2, "readSensor", "()V"⟩
def dkwX2_readSensor_3 : List UInt8 := [96, 42, 3, 16, 99, 182, 0, 154, 79, 42, 180, 0, 20, 16, 8, 92, 46, 4, 96, 79, 177]
abbrev dktX2_readSensor_3 : List UInt8 := dkwX2_readSensor_3 ++ []
def dkwX2_readSensor_2 : List UInt8 := [27, 42, 182, 0, 176, 79, 42, 180, 0, 20, 27, 4, 96, 42, 182, 0, 179, 79, 42, 180, 0, 20, 27, 5]
abbrev dktX2_readSensor_2 : List UInt8 := dkwX2_readSensor_2 ++ dktX2_readSensor_3
def dkwX2_readSensor_1 : List UInt8 := [180, 0, 95, 158, 0, 4, 177, 16, 11, 6, 42, 180, 0, 20, 16, 8, 46, 104, 96, 60, 42, 180, 0, 20]
abbrev dktX2_readSensor_1 : List UInt8 := dkwX2_readSensor_1 ++ dktX2_readSensor_2
def dkwX2_readSensor_0 : List UInt8 := [42, 180, 0, 20, 16, 8, 46, 16, 6, 160, 0, 8, 42, 7, 182, 0, 143, 42, 182, 0, 137, 42]
abbrev dktX2_readSensor_0 : List UInt8 := dkwX2_readSensor_0 ++ dktX2_readSensor_1
theorem dksX2_readSensor_0 : cX2_readSensor.data.toList.drop 0 = dktX2_readSensor_0 := by decide +kernel
theorem dksX2_readSensor_1 : cX2_readSensor.data.toList.drop 22 = dktX2_readSensor_1 := dk_seg dksX2_readSensor_0 22 rfl rfl
theorem dksX2_readSensor_2 : cX2_readSensor.data.toList.drop 46 = dktX2_readSensor_2 := dk_seg dksX2_readSensor_1 24 rfl rfl
theorem dksX2_readSensor_3 : cX2_readSensor.data.toList.drop 70 = dktX2_readSensor_3 := dk_seg dksX2_readSensor_2 24 rfl rfl
theorem dX2_readSensor_0 : decode cX2_readSensor 0 = .ok (.aload_n 0, 1) := dk_42 (dk_at dksX2_readSensor_0 0 rfl rfl)
theorem dX2_readSensor_1 : decode cX2_readSensor 1 = .ok (.getfield 20, 3) := dk_180 0 20 (dk_at dksX2_readSensor_0 1 rfl rfl)
theorem dX2_readSensor_4 : decode cX2_readSensor 4 = .ok (.bipush 8, 2) := dk_16 8 (dk_at dksX2_readSensor_0 4 rfl rfl)
theorem dX2_readSensor_6 : decode cX2_readSensor 6 = .ok (.iaload, 1) := dk_46 (dk_at dksX2_readSensor_0 6 rfl rfl)
theorem dX2_readSensor_7 : decode cX2_readSensor 7 = .ok (.bipush 6, 2) := dk_16 6 (dk_at dksX2_readSensor_0 7 rfl rfl)
theorem dX2_readSensor_9 : decode cX2_readSensor 9 = .ok (.if_icmp .ne 8, 3) := dk_160 0 8 (dk_at dksX2_readSensor_0 9 rfl rfl)
theorem dX2_readSensor_12 : decode cX2_readSensor 12 = .ok (.aload_n 0, 1) := dk_42 (dk_at dksX2_readSensor_0 12 rfl rfl)
theorem dX2_readSensor_13 : decode cX2_readSensor 13 = .ok (.iconst 4, 1) := dk_7 (dk_at dksX2_readSensor_0 13 rfl rfl)
theorem dX2_readSensor_14 : decode cX2_readSensor 14 = .ok (.invokevirtual 143, 3) := dk_182 0 143 (dk_at dksX2_readSensor_0 14 rfl rfl)
theorem dX2_readSensor_17 : decode cX2_readSensor 17 = .ok (.aload_n 0, 1) := dk_42 (dk_at dksX2_readSensor_0 17 rfl rfl)
theorem dX2_readSensor_18 : decode cX2_readSensor 18 = .ok (.invokevirtual 137, 3) := dk_182 0 137 (dk_at dksX2_readSensor_0 18 rfl rfl)
theorem dX2_readSensor_21 : decode cX2_readSensor 21 = .ok (.aload_n 0, 1) := dk_42 (dk_at dksX2_readSensor_0 21 rfl rfl)
theorem dX2_readSensor_22 : decode cX2_readSensor 22 = .ok (.getfield 95, 3) := dk_180 0 95 (dk_at dksX2_readSensor_1 0 rfl rfl)
theorem dX2_readSensor_25 : decode cX2_readSensor 25 = .ok (.ifCond .le 4, 3) := dk_158 0 4 (dk_at dksX2_readSensor_1 3 rfl rfl)
theorem dX2_readSensor_28 : decode cX2_readSensor 28 = .ok (.return_, 1) := dk_177 (dk_at dksX2_readSensor_1 6 rfl rfl)
theorem dX2_readSensor_29 : decode cX2_readSensor 29 = .ok (.bipush 11, 2) := dk_16 11 (dk_at dksX2_readSensor_1 7 rfl rfl)
theorem dX2_readSensor_31 : decode cX2_readSensor 31 = .ok (.iconst 3, 1) := dk_6 (dk_at dksX2_readSensor_1 9 rfl rfl)
theorem dX2_readSensor_32 : decode cX2_readSensor 32 = .ok (.aload_n 0, 1) := dk_42 (dk_at dksX2_readSensor_1 10 rfl rfl)
theorem dX2_readSensor_33 : decode cX2_readSensor 33 = .ok (.getfield 20, 3) := dk_180 0 20 (dk_at dksX2_readSensor_1 11 rfl rfl)
theorem dX2_readSensor_36 : decode cX2_readSensor 36 = .ok (.bipush 8, 2) := dk_16 8 (dk_at dksX2_readSensor_1 14 rfl rfl)
theorem dX2_readSensor_38 : decode cX2_readSensor 38 = .ok (.iaload, 1) := dk_46 (dk_at dksX2_readSensor_1 16 rfl rfl)
theorem dX2_readSensor_39 : decode cX2_readSensor 39 = .ok (.imul, 1) := dk_104 (dk_at dksX2_readSensor_1 17 rfl rfl)
theorem dX2_readSensor_40 : decode cX2_readSensor 40 = .ok (.iadd, 1) := dk_96 (dk_at dksX2_readSensor_1 18 rfl rfl)
theorem dX2_readSensor_41 : decode cX2_readSensor 41 = .ok (.istore_n 1, 1) := dk_60 (dk_at dksX2_readSensor_1 19 rfl rfl)
theorem dX2_readSensor_42 : decode cX2_readSensor 42 = .ok (.aload_n 0, 1) := dk_42 (dk_at dksX2_readSensor_1 20 rfl rfl)
theorem dX2_readSensor_43 : decode cX2_readSensor 43 = .ok (.getfield 20, 3) := dk_180 0 20 (dk_at dksX2_readSensor_1 21 rfl rfl)
theorem dX2_readSensor_46 : decode cX2_readSensor 46 = .ok (.iload_n 1, 1) := dk_27 (dk_at dksX2_readSensor_2 0 rfl rfl)
theorem dX2_readSensor_47 : decode cX2_readSensor 47 = .ok (.aload_n 0, 1) := dk_42 (dk_at dksX2_readSensor_2 1 rfl rfl)
theorem dX2_readSensor_48 : decode cX2_readSensor 48 = .ok (.invokevirtual 176, 3) := dk_182 0 176 (dk_at dksX2_readSensor_2 2 rfl rfl)
theorem dX2_readSensor_51 : decode cX2_readSensor 51 = .ok (.iastore, 1) := dk_79 (dk_at dksX2_readSensor_2 5 rfl rfl)
theorem dX2_readSensor_52 : decode cX2_readSensor 52 = .ok (.aload_n 0, 1) := dk_42 (dk_at dksX2_readSensor_2 6 rfl rfl)
theorem dX2_readSensor_53 : decode cX2_readSensor 53 = .ok (.getfield 20, 3) := dk_180 0 20 (dk_at dksX2_readSensor_2 7 rfl rfl)
theorem dX2_readSensor_56 : decode cX2_readSensor 56 = .ok (.iload_n 1, 1) := dk_27 (dk_at dksX2_readSensor_2 10 rfl rfl)
theorem dX2_readSensor_57 : decode cX2_readSensor 57 = .ok (.iconst 1, 1) := dk_4 (dk_at dksX2_readSensor_2 11 rfl rfl)
theorem dX2_readSensor_58 : decode cX2_readSensor 58 = .ok (.iadd, 1) := dk_96 (dk_at dksX2_readSensor_2 12 rfl rfl)
theorem dX2_readSensor_59 : decode cX2_readSensor 59 = .ok (.aload_n 0, 1) := dk_42 (dk_at dksX2_readSensor_2 13 rfl rfl)
theorem dX2_readSensor_60 : decode cX2_readSensor 60 = .ok (.invokevirtual 179, 3) := dk_182 0 179 (dk_at dksX2_readSensor_2 14 rfl rfl)
theorem dX2_readSensor_63 : decode cX2_readSensor 63 = .ok (.iastore, 1) := dk_79 (dk_at dksX2_readSensor_2 17 rfl rfl)
theorem dX2_readSensor_64 : decode cX2_readSensor 64 = .ok (.aload_n 0, 1) := dk_42 (dk_at dksX2_readSensor_2 18 rfl rfl)
theorem dX2_readSensor_65 : decode cX2_readSensor 65 = .ok (.getfield 20, 3) := dk_180 0 20 (dk_at dksX2_readSensor_2 19 rfl rfl)
theorem dX2_readSensor_68 : decode cX2_readSensor 68 = .ok (.iload_n 1, 1) := dk_27 (dk_at dksX2_readSensor_2 22 rfl rfl)
theorem dX2_readSensor_69 : decode cX2_readSensor 69 = .ok (.iconst 2, 1) := dk_5 (dk_at dksX2_readSensor_2 23 rfl rfl)
theorem dX2_readSensor_70 : decode cX2_readSensor 70 = .ok (.iadd, 1) := dk_96 (dk_at dksX2_readSensor_3 0 rfl rfl)
theorem dX2_readSensor_71 : decode cX2_readSensor 71 = .ok (.aload_n 0, 1) := dk_42 (dk_at dksX2_readSensor_3 1 rfl rfl)
theorem dX2_readSensor_72 : decode cX2_readSensor 72 = .ok (.iconst 0, 1) := dk_3 (dk_at dksX2_readSensor_3 2 rfl rfl)
theorem dX2_readSensor_73 : decode cX2_readSensor 73 = .ok (.bipush 99, 2) := dk_16 99 (dk_at dksX2_readSensor_3 3 rfl rfl)
theorem dX2_readSensor_75 : decode cX2_readSensor 75 = .ok (.invokevirtual 154, 3) := dk_182 0 154 (dk_at dksX2_readSensor_3 5 rfl rfl)
theorem dX2_readSensor_78 : decode cX2_readSensor 78 = .ok (.iastore, 1) := dk_79 (dk_at dksX2_readSensor_3 8 rfl rfl)
theorem dX2_readSensor_79 : decode cX2_readSensor 79 = .ok (.aload_n 0, 1) := dk_42 (dk_at dksX2_readSensor_3 9 rfl rfl)
theorem dX2_readSensor_80 : decode cX2_readSensor 80 = .ok (.getfield 20, 3) := dk_180 0 20 (dk_at dksX2_readSensor_3 10 rfl rfl)
theorem dX2_readSensor_83 : decode cX2_readSensor 83 = .ok (.bipush 8, 2) := dk_16 8 (dk_at dksX2_readSensor_3 13 rfl rfl)
theorem dX2_readSensor_85 : decode cX2_readSensor 85 = .ok (.dup2, 1) := dk_92 (dk_at dksX2_readSensor_3 15 rfl rfl)
theorem dX2_readSensor_86 : decode cX2_readSensor 86 = .ok (.iaload, 1) := dk_46 (dk_at dksX2_readSensor_3 16 rfl rfl)
theorem dX2_readSensor_87 : decode cX2_readSensor 87 = .ok (.iconst 1, 1) := dk_4 (dk_at dksX2_readSensor_3 17 rfl rfl)
theorem dX2_readSensor_88 : decode cX2_readSensor 88 = .ok (.iadd, 1) := dk_96 (dk_at dksX2_readSensor_3 18 rfl rfl)
theorem dX2_readSensor_89 : decode cX2_readSensor 89 = .ok (.iastore, 1) := dk_79 (dk_at dksX2_readSensor_3 19 rfl rfl)
theorem dX2_readSensor_90 : decode cX2_readSensor 90 = .ok (.return_, 1) := dk_177 (dk_at dksX2_readSensor_3 20 rfl rfl)
abbrev cX2_readLicence : ByteArray := prog_22_method_26_code
def yX2_readLicence : MethodName := ⟨RX2, "readLicence", "()V"⟩
def dkwX2_readLicence_6 : List UInt8 := [16, 9, 92, 46, 4, 96, 79, 177]
abbrev dktX2_readLicence_6 : List UInt8 := dkwX2_readLicence_6 ++ []
def dkwX2_readLicence_5 : List UInt8 := [180, 0, 20, 16, 49, 27, 96, 42, 27, 42, 4, 16, 8, 182, 0, 154, 182, 0, 184, 79, 42, 180, 0, 20]
abbrev dktX2_readLicence_5 : List UInt8 := dkwX2_readLicence_5 ++ dktX2_readLicence_6
def dkwX2_readLicence_4 : List UInt8 := [6, 96, 42, 42, 180, 0, 20, 28, 4, 96, 46, 42, 180, 0, 20, 4, 46, 4, 100, 182, 0, 154, 79, 42]
abbrev dktX2_readLicence_4 : List UInt8 := dkwX2_readLicence_4 ++ dktX2_readLicence_5
def dkwX2_readLicence_3 : List UInt8 := [42, 42, 180, 0, 20, 28, 46, 42, 180, 0, 20, 3, 46, 4, 100, 182, 0, 154, 79, 42, 180, 0, 20, 28]
abbrev dktX2_readLicence_3 : List UInt8 := dkwX2_readLicence_3 ++ dktX2_readLicence_4
def dkwX2_readLicence_2 : List UInt8 := [42, 182, 0, 176, 79, 42, 180, 0, 20, 28, 4, 96, 42, 182, 0, 179, 79, 42, 180, 0, 20, 28, 5, 96]
abbrev dktX2_readLicence_2 : List UInt8 := dkwX2_readLicence_2 ++ dktX2_readLicence_3
def dkwX2_readLicence_1 : List UInt8 := [158, 0, 4, 177, 42, 180, 0, 20, 16, 9, 46, 60, 16, 29, 7, 27, 104, 96, 61, 42, 180, 0, 20, 28]
abbrev dktX2_readLicence_1 : List UInt8 := dkwX2_readLicence_1 ++ dktX2_readLicence_2
def dkwX2_readLicence_0 : List UInt8 := [42, 180, 0, 20, 16, 9, 46, 8, 160, 0, 8, 42, 7, 182, 0, 143, 42, 182, 0, 137, 42, 180, 0, 95]
abbrev dktX2_readLicence_0 : List UInt8 := dkwX2_readLicence_0 ++ dktX2_readLicence_1
theorem dksX2_readLicence_0 : cX2_readLicence.data.toList.drop 0 = dktX2_readLicence_0 := by decide +kernel
theorem dksX2_readLicence_1 : cX2_readLicence.data.toList.drop 24 = dktX2_readLicence_1 := dk_seg dksX2_readLicence_0 24 rfl rfl
theorem dksX2_readLicence_2 : cX2_readLicence.data.toList.drop 48 = dktX2_readLicence_2 := dk_seg dksX2_readLicence_1 24 rfl rfl
theorem dksX2_readLicence_3 : cX2_readLicence.data.toList.drop 72 = dktX2_readLicence_3 := dk_seg dksX2_readLicence_2 24 rfl rfl
theorem dksX2_readLicence_4 : cX2_readLicence.data.toList.drop 96 = dktX2_readLicence_4 := dk_seg dksX2_readLicence_3 24 rfl rfl
theorem dksX2_readLicence_5 : cX2_readLicence.data.toList.drop 120 = dktX2_readLicence_5 := dk_seg dksX2_readLicence_4 24 rfl rfl
theorem dksX2_readLicence_6 : cX2_readLicence.data.toList.drop 144 = dktX2_readLicence_6 := dk_seg dksX2_readLicence_5 24 rfl rfl
theorem dX2_readLicence_0 : decode cX2_readLicence 0 = .ok (.aload_n 0, 1) := dk_42 (dk_at dksX2_readLicence_0 0 rfl rfl)
theorem dX2_readLicence_1 : decode cX2_readLicence 1 = .ok (.getfield 20, 3) := dk_180 0 20 (dk_at dksX2_readLicence_0 1 rfl rfl)
theorem dX2_readLicence_4 : decode cX2_readLicence 4 = .ok (.bipush 9, 2) := dk_16 9 (dk_at dksX2_readLicence_0 4 rfl rfl)
theorem dX2_readLicence_6 : decode cX2_readLicence 6 = .ok (.iaload, 1) := dk_46 (dk_at dksX2_readLicence_0 6 rfl rfl)
theorem dX2_readLicence_7 : decode cX2_readLicence 7 = .ok (.iconst 5, 1) := dk_8 (dk_at dksX2_readLicence_0 7 rfl rfl)
theorem dX2_readLicence_8 : decode cX2_readLicence 8 = .ok (.if_icmp .ne 8, 3) := dk_160 0 8 (dk_at dksX2_readLicence_0 8 rfl rfl)
theorem dX2_readLicence_11 : decode cX2_readLicence 11 = .ok (.aload_n 0, 1) := dk_42 (dk_at dksX2_readLicence_0 11 rfl rfl)
theorem dX2_readLicence_12 : decode cX2_readLicence 12 = .ok (.iconst 4, 1) := dk_7 (dk_at dksX2_readLicence_0 12 rfl rfl)
theorem dX2_readLicence_13 : decode cX2_readLicence 13 = .ok (.invokevirtual 143, 3) := dk_182 0 143 (dk_at dksX2_readLicence_0 13 rfl rfl)
theorem dX2_readLicence_16 : decode cX2_readLicence 16 = .ok (.aload_n 0, 1) := dk_42 (dk_at dksX2_readLicence_0 16 rfl rfl)
theorem dX2_readLicence_17 : decode cX2_readLicence 17 = .ok (.invokevirtual 137, 3) := dk_182 0 137 (dk_at dksX2_readLicence_0 17 rfl rfl)
theorem dX2_readLicence_20 : decode cX2_readLicence 20 = .ok (.aload_n 0, 1) := dk_42 (dk_at dksX2_readLicence_0 20 rfl rfl)
theorem dX2_readLicence_21 : decode cX2_readLicence 21 = .ok (.getfield 95, 3) := dk_180 0 95 (dk_at dksX2_readLicence_0 21 rfl rfl)
theorem dX2_readLicence_24 : decode cX2_readLicence 24 = .ok (.ifCond .le 4, 3) := dk_158 0 4 (dk_at dksX2_readLicence_1 0 rfl rfl)
theorem dX2_readLicence_27 : decode cX2_readLicence 27 = .ok (.return_, 1) := dk_177 (dk_at dksX2_readLicence_1 3 rfl rfl)
theorem dX2_readLicence_28 : decode cX2_readLicence 28 = .ok (.aload_n 0, 1) := dk_42 (dk_at dksX2_readLicence_1 4 rfl rfl)
theorem dX2_readLicence_29 : decode cX2_readLicence 29 = .ok (.getfield 20, 3) := dk_180 0 20 (dk_at dksX2_readLicence_1 5 rfl rfl)
theorem dX2_readLicence_32 : decode cX2_readLicence 32 = .ok (.bipush 9, 2) := dk_16 9 (dk_at dksX2_readLicence_1 8 rfl rfl)
theorem dX2_readLicence_34 : decode cX2_readLicence 34 = .ok (.iaload, 1) := dk_46 (dk_at dksX2_readLicence_1 10 rfl rfl)
theorem dX2_readLicence_35 : decode cX2_readLicence 35 = .ok (.istore_n 1, 1) := dk_60 (dk_at dksX2_readLicence_1 11 rfl rfl)
theorem dX2_readLicence_36 : decode cX2_readLicence 36 = .ok (.bipush 29, 2) := dk_16 29 (dk_at dksX2_readLicence_1 12 rfl rfl)
theorem dX2_readLicence_38 : decode cX2_readLicence 38 = .ok (.iconst 4, 1) := dk_7 (dk_at dksX2_readLicence_1 14 rfl rfl)
theorem dX2_readLicence_39 : decode cX2_readLicence 39 = .ok (.iload_n 1, 1) := dk_27 (dk_at dksX2_readLicence_1 15 rfl rfl)
theorem dX2_readLicence_40 : decode cX2_readLicence 40 = .ok (.imul, 1) := dk_104 (dk_at dksX2_readLicence_1 16 rfl rfl)
theorem dX2_readLicence_41 : decode cX2_readLicence 41 = .ok (.iadd, 1) := dk_96 (dk_at dksX2_readLicence_1 17 rfl rfl)
theorem dX2_readLicence_42 : decode cX2_readLicence 42 = .ok (.istore_n 2, 1) := dk_61 (dk_at dksX2_readLicence_1 18 rfl rfl)
theorem dX2_readLicence_43 : decode cX2_readLicence 43 = .ok (.aload_n 0, 1) := dk_42 (dk_at dksX2_readLicence_1 19 rfl rfl)
theorem dX2_readLicence_44 : decode cX2_readLicence 44 = .ok (.getfield 20, 3) := dk_180 0 20 (dk_at dksX2_readLicence_1 20 rfl rfl)
theorem dX2_readLicence_47 : decode cX2_readLicence 47 = .ok (.iload_n 2, 1) := dk_28 (dk_at dksX2_readLicence_1 23 rfl rfl)
theorem dX2_readLicence_48 : decode cX2_readLicence 48 = .ok (.aload_n 0, 1) := dk_42 (dk_at dksX2_readLicence_2 0 rfl rfl)
theorem dX2_readLicence_49 : decode cX2_readLicence 49 = .ok (.invokevirtual 176, 3) := dk_182 0 176 (dk_at dksX2_readLicence_2 1 rfl rfl)
theorem dX2_readLicence_52 : decode cX2_readLicence 52 = .ok (.iastore, 1) := dk_79 (dk_at dksX2_readLicence_2 4 rfl rfl)
theorem dX2_readLicence_53 : decode cX2_readLicence 53 = .ok (.aload_n 0, 1) := dk_42 (dk_at dksX2_readLicence_2 5 rfl rfl)
theorem dX2_readLicence_54 : decode cX2_readLicence 54 = .ok (.getfield 20, 3) := dk_180 0 20 (dk_at dksX2_readLicence_2 6 rfl rfl)
theorem dX2_readLicence_57 : decode cX2_readLicence 57 = .ok (.iload_n 2, 1) := dk_28 (dk_at dksX2_readLicence_2 9 rfl rfl)
theorem dX2_readLicence_58 : decode cX2_readLicence 58 = .ok (.iconst 1, 1) := dk_4 (dk_at dksX2_readLicence_2 10 rfl rfl)
theorem dX2_readLicence_59 : decode cX2_readLicence 59 = .ok (.iadd, 1) := dk_96 (dk_at dksX2_readLicence_2 11 rfl rfl)
theorem dX2_readLicence_60 : decode cX2_readLicence 60 = .ok (.aload_n 0, 1) := dk_42 (dk_at dksX2_readLicence_2 12 rfl rfl)
theorem dX2_readLicence_61 : decode cX2_readLicence 61 = .ok (.invokevirtual 179, 3) := dk_182 0 179 (dk_at dksX2_readLicence_2 13 rfl rfl)
theorem dX2_readLicence_64 : decode cX2_readLicence 64 = .ok (.iastore, 1) := dk_79 (dk_at dksX2_readLicence_2 16 rfl rfl)
theorem dX2_readLicence_65 : decode cX2_readLicence 65 = .ok (.aload_n 0, 1) := dk_42 (dk_at dksX2_readLicence_2 17 rfl rfl)
theorem dX2_readLicence_66 : decode cX2_readLicence 66 = .ok (.getfield 20, 3) := dk_180 0 20 (dk_at dksX2_readLicence_2 18 rfl rfl)
theorem dX2_readLicence_69 : decode cX2_readLicence 69 = .ok (.iload_n 2, 1) := dk_28 (dk_at dksX2_readLicence_2 21 rfl rfl)
theorem dX2_readLicence_70 : decode cX2_readLicence 70 = .ok (.iconst 2, 1) := dk_5 (dk_at dksX2_readLicence_2 22 rfl rfl)
theorem dX2_readLicence_71 : decode cX2_readLicence 71 = .ok (.iadd, 1) := dk_96 (dk_at dksX2_readLicence_2 23 rfl rfl)
theorem dX2_readLicence_72 : decode cX2_readLicence 72 = .ok (.aload_n 0, 1) := dk_42 (dk_at dksX2_readLicence_3 0 rfl rfl)
theorem dX2_readLicence_73 : decode cX2_readLicence 73 = .ok (.aload_n 0, 1) := dk_42 (dk_at dksX2_readLicence_3 1 rfl rfl)
theorem dX2_readLicence_74 : decode cX2_readLicence 74 = .ok (.getfield 20, 3) := dk_180 0 20 (dk_at dksX2_readLicence_3 2 rfl rfl)
theorem dX2_readLicence_77 : decode cX2_readLicence 77 = .ok (.iload_n 2, 1) := dk_28 (dk_at dksX2_readLicence_3 5 rfl rfl)
theorem dX2_readLicence_78 : decode cX2_readLicence 78 = .ok (.iaload, 1) := dk_46 (dk_at dksX2_readLicence_3 6 rfl rfl)
theorem dX2_readLicence_79 : decode cX2_readLicence 79 = .ok (.aload_n 0, 1) := dk_42 (dk_at dksX2_readLicence_3 7 rfl rfl)
theorem dX2_readLicence_80 : decode cX2_readLicence 80 = .ok (.getfield 20, 3) := dk_180 0 20 (dk_at dksX2_readLicence_3 8 rfl rfl)
theorem dX2_readLicence_83 : decode cX2_readLicence 83 = .ok (.iconst 0, 1) := dk_3 (dk_at dksX2_readLicence_3 11 rfl rfl)
theorem dX2_readLicence_84 : decode cX2_readLicence 84 = .ok (.iaload, 1) := dk_46 (dk_at dksX2_readLicence_3 12 rfl rfl)
theorem dX2_readLicence_85 : decode cX2_readLicence 85 = .ok (.iconst 1, 1) := dk_4 (dk_at dksX2_readLicence_3 13 rfl rfl)
theorem dX2_readLicence_86 : decode cX2_readLicence 86 = .ok (.isub, 1) := dk_100 (dk_at dksX2_readLicence_3 14 rfl rfl)
theorem dX2_readLicence_87 : decode cX2_readLicence 87 = .ok (.invokevirtual 154, 3) := dk_182 0 154 (dk_at dksX2_readLicence_3 15 rfl rfl)
theorem dX2_readLicence_90 : decode cX2_readLicence 90 = .ok (.iastore, 1) := dk_79 (dk_at dksX2_readLicence_3 18 rfl rfl)
theorem dX2_readLicence_91 : decode cX2_readLicence 91 = .ok (.aload_n 0, 1) := dk_42 (dk_at dksX2_readLicence_3 19 rfl rfl)
theorem dX2_readLicence_92 : decode cX2_readLicence 92 = .ok (.getfield 20, 3) := dk_180 0 20 (dk_at dksX2_readLicence_3 20 rfl rfl)
theorem dX2_readLicence_95 : decode cX2_readLicence 95 = .ok (.iload_n 2, 1) := dk_28 (dk_at dksX2_readLicence_3 23 rfl rfl)
theorem dX2_readLicence_96 : decode cX2_readLicence 96 = .ok (.iconst 3, 1) := dk_6 (dk_at dksX2_readLicence_4 0 rfl rfl)
theorem dX2_readLicence_97 : decode cX2_readLicence 97 = .ok (.iadd, 1) := dk_96 (dk_at dksX2_readLicence_4 1 rfl rfl)
theorem dX2_readLicence_98 : decode cX2_readLicence 98 = .ok (.aload_n 0, 1) := dk_42 (dk_at dksX2_readLicence_4 2 rfl rfl)
theorem dX2_readLicence_99 : decode cX2_readLicence 99 = .ok (.aload_n 0, 1) := dk_42 (dk_at dksX2_readLicence_4 3 rfl rfl)
theorem dX2_readLicence_100 : decode cX2_readLicence 100 = .ok (.getfield 20, 3) := dk_180 0 20 (dk_at dksX2_readLicence_4 4 rfl rfl)
theorem dX2_readLicence_103 : decode cX2_readLicence 103 = .ok (.iload_n 2, 1) := dk_28 (dk_at dksX2_readLicence_4 7 rfl rfl)
theorem dX2_readLicence_104 : decode cX2_readLicence 104 = .ok (.iconst 1, 1) := dk_4 (dk_at dksX2_readLicence_4 8 rfl rfl)
theorem dX2_readLicence_105 : decode cX2_readLicence 105 = .ok (.iadd, 1) := dk_96 (dk_at dksX2_readLicence_4 9 rfl rfl)
theorem dX2_readLicence_106 : decode cX2_readLicence 106 = .ok (.iaload, 1) := dk_46 (dk_at dksX2_readLicence_4 10 rfl rfl)
theorem dX2_readLicence_107 : decode cX2_readLicence 107 = .ok (.aload_n 0, 1) := dk_42 (dk_at dksX2_readLicence_4 11 rfl rfl)
theorem dX2_readLicence_108 : decode cX2_readLicence 108 = .ok (.getfield 20, 3) := dk_180 0 20 (dk_at dksX2_readLicence_4 12 rfl rfl)
theorem dX2_readLicence_111 : decode cX2_readLicence 111 = .ok (.iconst 1, 1) := dk_4 (dk_at dksX2_readLicence_4 15 rfl rfl)
theorem dX2_readLicence_112 : decode cX2_readLicence 112 = .ok (.iaload, 1) := dk_46 (dk_at dksX2_readLicence_4 16 rfl rfl)
theorem dX2_readLicence_113 : decode cX2_readLicence 113 = .ok (.iconst 1, 1) := dk_4 (dk_at dksX2_readLicence_4 17 rfl rfl)
theorem dX2_readLicence_114 : decode cX2_readLicence 114 = .ok (.isub, 1) := dk_100 (dk_at dksX2_readLicence_4 18 rfl rfl)
theorem dX2_readLicence_115 : decode cX2_readLicence 115 = .ok (.invokevirtual 154, 3) := dk_182 0 154 (dk_at dksX2_readLicence_4 19 rfl rfl)
theorem dX2_readLicence_118 : decode cX2_readLicence 118 = .ok (.iastore, 1) := dk_79 (dk_at dksX2_readLicence_4 22 rfl rfl)
theorem dX2_readLicence_119 : decode cX2_readLicence 119 = .ok (.aload_n 0, 1) := dk_42 (dk_at dksX2_readLicence_4 23 rfl rfl)
theorem dX2_readLicence_120 : decode cX2_readLicence 120 = .ok (.getfield 20, 3) := dk_180 0 20 (dk_at dksX2_readLicence_5 0 rfl rfl)
theorem dX2_readLicence_123 : decode cX2_readLicence 123 = .ok (.bipush 49, 2) := dk_16 49 (dk_at dksX2_readLicence_5 3 rfl rfl)
theorem dX2_readLicence_125 : decode cX2_readLicence 125 = .ok (.iload_n 1, 1) := dk_27 (dk_at dksX2_readLicence_5 5 rfl rfl)
theorem dX2_readLicence_126 : decode cX2_readLicence 126 = .ok (.iadd, 1) := dk_96 (dk_at dksX2_readLicence_5 6 rfl rfl)
theorem dX2_readLicence_127 : decode cX2_readLicence 127 = .ok (.aload_n 0, 1) := dk_42 (dk_at dksX2_readLicence_5 7 rfl rfl)
theorem dX2_readLicence_128 : decode cX2_readLicence 128 = .ok (.iload_n 1, 1) := dk_27 (dk_at dksX2_readLicence_5 8 rfl rfl)
theorem dX2_readLicence_129 : decode cX2_readLicence 129 = .ok (.aload_n 0, 1) := dk_42 (dk_at dksX2_readLicence_5 9 rfl rfl)
theorem dX2_readLicence_130 : decode cX2_readLicence 130 = .ok (.iconst 1, 1) := dk_4 (dk_at dksX2_readLicence_5 10 rfl rfl)
theorem dX2_readLicence_131 : decode cX2_readLicence 131 = .ok (.bipush 8, 2) := dk_16 8 (dk_at dksX2_readLicence_5 11 rfl rfl)
theorem dX2_readLicence_133 : decode cX2_readLicence 133 = .ok (.invokevirtual 154, 3) := dk_182 0 154 (dk_at dksX2_readLicence_5 13 rfl rfl)
theorem dX2_readLicence_136 : decode cX2_readLicence 136 = .ok (.invokevirtual 184, 3) := dk_182 0 184 (dk_at dksX2_readLicence_5 16 rfl rfl)
theorem dX2_readLicence_139 : decode cX2_readLicence 139 = .ok (.iastore, 1) := dk_79 (dk_at dksX2_readLicence_5 19 rfl rfl)
theorem dX2_readLicence_140 : decode cX2_readLicence 140 = .ok (.aload_n 0, 1) := dk_42 (dk_at dksX2_readLicence_5 20 rfl rfl)
theorem dX2_readLicence_141 : decode cX2_readLicence 141 = .ok (.getfield 20, 3) := dk_180 0 20 (dk_at dksX2_readLicence_5 21 rfl rfl)
theorem dX2_readLicence_144 : decode cX2_readLicence 144 = .ok (.bipush 9, 2) := dk_16 9 (dk_at dksX2_readLicence_6 0 rfl rfl)
theorem dX2_readLicence_146 : decode cX2_readLicence 146 = .ok (.dup2, 1) := dk_92 (dk_at dksX2_readLicence_6 2 rfl rfl)
theorem dX2_readLicence_147 : decode cX2_readLicence 147 = .ok (.iaload, 1) := dk_46 (dk_at dksX2_readLicence_6 3 rfl rfl)
theorem dX2_readLicence_148 : decode cX2_readLicence 148 = .ok (.iconst 1, 1) := dk_4 (dk_at dksX2_readLicence_6 4 rfl rfl)
theorem dX2_readLicence_149 : decode cX2_readLicence 149 = .ok (.iadd, 1) := dk_96 (dk_at dksX2_readLicence_6 5 rfl rfl)
theorem dX2_readLicence_150 : decode cX2_readLicence 150 = .ok (.iastore, 1) := dk_79 (dk_at dksX2_readLicence_6 6 rfl rfl)
theorem dX2_readLicence_151 : decode cX2_readLicence 151 = .ok (.return_, 1) := dk_177 (dk_at dksX2_readLicence_6 7 rfl rfl)
abbrev cX2_channelsFor : ByteArray := prog_22_method_28_code
def yX2_channelsFor : MethodName := ⟨RX2, "channelsFor", "(II)I"⟩
def dkwX2_channelsFor_6 : List UInt8 := [21, 7, 120, 128, 54, 5, 132, 6, 255, 132, 7, 1, 167, 255, 213, 21, 5, 172]
abbrev dktX2_channelsFor_6 : List UInt8 := dkwX2_channelsFor_6 ++ []
def dkwX2_channelsFor_5 : List UInt8 := [162, 0, 38, 21, 6, 158, 0, 33, 29, 21, 7, 122, 4, 126, 154, 0, 6, 167, 0, 15, 21, 5, 4]
abbrev dktX2_channelsFor_5 : List UInt8 := dkwX2_channelsFor_5 ++ dktX2_channelsFor_6
def dkwX2_channelsFor_4 : List UInt8 := [132, 5, 1, 167, 255, 219, 3, 54, 5, 28, 54, 6, 3, 54, 7, 21, 7, 42, 180, 0, 20, 5, 46]
abbrev dktX2_channelsFor_4 : List UInt8 := dkwX2_channelsFor_4 ++ dktX2_channelsFor_5
def dkwX2_channelsFor_3 : List UInt8 := [163, 0, 30, 29, 21, 4, 21, 5, 120, 126, 21, 4, 21, 5, 120, 160, 0, 9, 21, 4, 21, 5, 120, 172]
abbrev dktX2_channelsFor_3 : List UInt8 := dkwX2_channelsFor_3 ++ dktX2_channelsFor_4
def dkwX2_channelsFor_2 : List UInt8 := [167, 255, 222, 4, 28, 120, 4, 100, 54, 4, 3, 54, 5, 21, 5, 28, 96, 42, 180, 0, 20, 5, 46]
abbrev dktX2_channelsFor_2 : List UInt8 := dkwX2_channelsFor_2 ++ dktX2_channelsFor_3
def dkwX2_channelsFor_1 : List UInt8 := [182, 0, 187, 153, 0, 18, 29, 42, 180, 0, 20, 16, 49, 21, 4, 96, 46, 2, 130, 126, 62, 132, 4, 1]
abbrev dktX2_channelsFor_1 : List UInt8 := dkwX2_channelsFor_1 ++ dktX2_channelsFor_2
def dkwX2_channelsFor_0 : List UInt8 := [4, 42, 180, 0, 20, 5, 46, 120, 4, 100, 62, 3, 54, 4, 21, 4, 27, 162, 0, 34, 42, 27, 21, 4]
abbrev dktX2_channelsFor_0 : List UInt8 := dkwX2_channelsFor_0 ++ dktX2_channelsFor_1
theorem dksX2_channelsFor_0 : cX2_channelsFor.data.toList.drop 0 = dktX2_channelsFor_0 := by decide +kernel
theorem dksX2_channelsFor_1 : cX2_channelsFor.data.toList.drop 24 = dktX2_channelsFor_1 := dk_seg dksX2_channelsFor_0 24 rfl rfl
theorem dksX2_channelsFor_2 : cX2_channelsFor.data.toList.drop 48 = dktX2_channelsFor_2 := dk_seg dksX2_channelsFor_1 24 rfl rfl
theorem dksX2_channelsFor_3 : cX2_channelsFor.data.toList.drop 71 = dktX2_channelsFor_3 := dk_seg dksX2_channelsFor_2 23 rfl rfl
theorem dksX2_channelsFor_4 : cX2_channelsFor.data.toList.drop 95 = dktX2_channelsFor_4 := dk_seg dksX2_channelsFor_3 24 rfl rfl
theorem dksX2_channelsFor_5 : cX2_channelsFor.data.toList.drop 118 = dktX2_channelsFor_5 := dk_seg dksX2_channelsFor_4 23 rfl rfl
theorem dksX2_channelsFor_6 : cX2_channelsFor.data.toList.drop 141 = dktX2_channelsFor_6 := dk_seg dksX2_channelsFor_5 23 rfl rfl
theorem dX2_channelsFor_0 : decode cX2_channelsFor 0 = .ok (.iconst 1, 1) := dk_4 (dk_at dksX2_channelsFor_0 0 rfl rfl)
theorem dX2_channelsFor_1 : decode cX2_channelsFor 1 = .ok (.aload_n 0, 1) := dk_42 (dk_at dksX2_channelsFor_0 1 rfl rfl)
theorem dX2_channelsFor_2 : decode cX2_channelsFor 2 = .ok (.getfield 20, 3) := dk_180 0 20 (dk_at dksX2_channelsFor_0 2 rfl rfl)
theorem dX2_channelsFor_5 : decode cX2_channelsFor 5 = .ok (.iconst 2, 1) := dk_5 (dk_at dksX2_channelsFor_0 5 rfl rfl)
theorem dX2_channelsFor_6 : decode cX2_channelsFor 6 = .ok (.iaload, 1) := dk_46 (dk_at dksX2_channelsFor_0 6 rfl rfl)
theorem dX2_channelsFor_7 : decode cX2_channelsFor 7 = .ok (.ishl, 1) := dk_120 (dk_at dksX2_channelsFor_0 7 rfl rfl)
theorem dX2_channelsFor_8 : decode cX2_channelsFor 8 = .ok (.iconst 1, 1) := dk_4 (dk_at dksX2_channelsFor_0 8 rfl rfl)
theorem dX2_channelsFor_9 : decode cX2_channelsFor 9 = .ok (.isub, 1) := dk_100 (dk_at dksX2_channelsFor_0 9 rfl rfl)
theorem dX2_channelsFor_10 : decode cX2_channelsFor 10 = .ok (.istore_n 3, 1) := dk_62 (dk_at dksX2_channelsFor_0 10 rfl rfl)
theorem dX2_channelsFor_11 : decode cX2_channelsFor 11 = .ok (.iconst 0, 1) := dk_3 (dk_at dksX2_channelsFor_0 11 rfl rfl)
theorem dX2_channelsFor_12 : decode cX2_channelsFor 12 = .ok (.istore 4, 2) := dk_54 4 (dk_at dksX2_channelsFor_0 12 rfl rfl)
theorem dX2_channelsFor_14 : decode cX2_channelsFor 14 = .ok (.iload 4, 2) := dk_21 4 (dk_at dksX2_channelsFor_0 14 rfl rfl)
theorem dX2_channelsFor_16 : decode cX2_channelsFor 16 = .ok (.iload_n 1, 1) := dk_27 (dk_at dksX2_channelsFor_0 16 rfl rfl)
theorem dX2_channelsFor_17 : decode cX2_channelsFor 17 = .ok (.if_icmp .ge 34, 3) := dk_162 0 34 (dk_at dksX2_channelsFor_0 17 rfl rfl)
theorem dX2_channelsFor_20 : decode cX2_channelsFor 20 = .ok (.aload_n 0, 1) := dk_42 (dk_at dksX2_channelsFor_0 20 rfl rfl)
theorem dX2_channelsFor_21 : decode cX2_channelsFor 21 = .ok (.iload_n 1, 1) := dk_27 (dk_at dksX2_channelsFor_0 21 rfl rfl)
theorem dX2_channelsFor_22 : decode cX2_channelsFor 22 = .ok (.iload 4, 2) := dk_21 4 (dk_at dksX2_channelsFor_0 22 rfl rfl)
theorem dX2_channelsFor_24 : decode cX2_channelsFor 24 = .ok (.invokevirtual 187, 3) := dk_182 0 187 (dk_at dksX2_channelsFor_1 0 rfl rfl)
theorem dX2_channelsFor_27 : decode cX2_channelsFor 27 = .ok (.ifCond .eq 18, 3) := dk_153 0 18 (dk_at dksX2_channelsFor_1 3 rfl rfl)
theorem dX2_channelsFor_30 : decode cX2_channelsFor 30 = .ok (.iload_n 3, 1) := dk_29 (dk_at dksX2_channelsFor_1 6 rfl rfl)
theorem dX2_channelsFor_31 : decode cX2_channelsFor 31 = .ok (.aload_n 0, 1) := dk_42 (dk_at dksX2_channelsFor_1 7 rfl rfl)
theorem dX2_channelsFor_32 : decode cX2_channelsFor 32 = .ok (.getfield 20, 3) := dk_180 0 20 (dk_at dksX2_channelsFor_1 8 rfl rfl)
theorem dX2_channelsFor_35 : decode cX2_channelsFor 35 = .ok (.bipush 49, 2) := dk_16 49 (dk_at dksX2_channelsFor_1 11 rfl rfl)
theorem dX2_channelsFor_37 : decode cX2_channelsFor 37 = .ok (.iload 4, 2) := dk_21 4 (dk_at dksX2_channelsFor_1 13 rfl rfl)
theorem dX2_channelsFor_39 : decode cX2_channelsFor 39 = .ok (.iadd, 1) := dk_96 (dk_at dksX2_channelsFor_1 15 rfl rfl)
theorem dX2_channelsFor_40 : decode cX2_channelsFor 40 = .ok (.iaload, 1) := dk_46 (dk_at dksX2_channelsFor_1 16 rfl rfl)
theorem dX2_channelsFor_41 : decode cX2_channelsFor 41 = .ok (.iconst (-1), 1) := dk_2 (dk_at dksX2_channelsFor_1 17 rfl rfl)
theorem dX2_channelsFor_42 : decode cX2_channelsFor 42 = .ok (.ixor, 1) := dk_130 (dk_at dksX2_channelsFor_1 18 rfl rfl)
theorem dX2_channelsFor_43 : decode cX2_channelsFor 43 = .ok (.iand, 1) := dk_126 (dk_at dksX2_channelsFor_1 19 rfl rfl)
theorem dX2_channelsFor_44 : decode cX2_channelsFor 44 = .ok (.istore_n 3, 1) := dk_62 (dk_at dksX2_channelsFor_1 20 rfl rfl)
theorem dX2_channelsFor_45 : decode cX2_channelsFor 45 = .ok (.iinc 4 1, 3) := dk_132 4 1 (dk_at dksX2_channelsFor_1 21 rfl rfl)
theorem dX2_channelsFor_48 : decode cX2_channelsFor 48 = .ok (.goto (-34), 3) := dk_167 255 222 (dk_at dksX2_channelsFor_2 0 rfl rfl)
theorem dX2_channelsFor_51 : decode cX2_channelsFor 51 = .ok (.iconst 1, 1) := dk_4 (dk_at dksX2_channelsFor_2 3 rfl rfl)
theorem dX2_channelsFor_52 : decode cX2_channelsFor 52 = .ok (.iload_n 2, 1) := dk_28 (dk_at dksX2_channelsFor_2 4 rfl rfl)
theorem dX2_channelsFor_53 : decode cX2_channelsFor 53 = .ok (.ishl, 1) := dk_120 (dk_at dksX2_channelsFor_2 5 rfl rfl)
theorem dX2_channelsFor_54 : decode cX2_channelsFor 54 = .ok (.iconst 1, 1) := dk_4 (dk_at dksX2_channelsFor_2 6 rfl rfl)
theorem dX2_channelsFor_55 : decode cX2_channelsFor 55 = .ok (.isub, 1) := dk_100 (dk_at dksX2_channelsFor_2 7 rfl rfl)
theorem dX2_channelsFor_56 : decode cX2_channelsFor 56 = .ok (.istore 4, 2) := dk_54 4 (dk_at dksX2_channelsFor_2 8 rfl rfl)
theorem dX2_channelsFor_58 : decode cX2_channelsFor 58 = .ok (.iconst 0, 1) := dk_3 (dk_at dksX2_channelsFor_2 10 rfl rfl)
theorem dX2_channelsFor_59 : decode cX2_channelsFor 59 = .ok (.istore 5, 2) := dk_54 5 (dk_at dksX2_channelsFor_2 11 rfl rfl)
theorem dX2_channelsFor_61 : decode cX2_channelsFor 61 = .ok (.iload 5, 2) := dk_21 5 (dk_at dksX2_channelsFor_2 13 rfl rfl)
theorem dX2_channelsFor_63 : decode cX2_channelsFor 63 = .ok (.iload_n 2, 1) := dk_28 (dk_at dksX2_channelsFor_2 15 rfl rfl)
theorem dX2_channelsFor_64 : decode cX2_channelsFor 64 = .ok (.iadd, 1) := dk_96 (dk_at dksX2_channelsFor_2 16 rfl rfl)
theorem dX2_channelsFor_65 : decode cX2_channelsFor 65 = .ok (.aload_n 0, 1) := dk_42 (dk_at dksX2_channelsFor_2 17 rfl rfl)
theorem dX2_channelsFor_66 : decode cX2_channelsFor 66 = .ok (.getfield 20, 3) := dk_180 0 20 (dk_at dksX2_channelsFor_2 18 rfl rfl)
theorem dX2_channelsFor_69 : decode cX2_channelsFor 69 = .ok (.iconst 2, 1) := dk_5 (dk_at dksX2_channelsFor_2 21 rfl rfl)
theorem dX2_channelsFor_70 : decode cX2_channelsFor 70 = .ok (.iaload, 1) := dk_46 (dk_at dksX2_channelsFor_2 22 rfl rfl)
theorem dX2_channelsFor_71 : decode cX2_channelsFor 71 = .ok (.if_icmp .gt 30, 3) := dk_163 0 30 (dk_at dksX2_channelsFor_3 0 rfl rfl)
theorem dX2_channelsFor_74 : decode cX2_channelsFor 74 = .ok (.iload_n 3, 1) := dk_29 (dk_at dksX2_channelsFor_3 3 rfl rfl)
theorem dX2_channelsFor_75 : decode cX2_channelsFor 75 = .ok (.iload 4, 2) := dk_21 4 (dk_at dksX2_channelsFor_3 4 rfl rfl)
theorem dX2_channelsFor_77 : decode cX2_channelsFor 77 = .ok (.iload 5, 2) := dk_21 5 (dk_at dksX2_channelsFor_3 6 rfl rfl)
theorem dX2_channelsFor_79 : decode cX2_channelsFor 79 = .ok (.ishl, 1) := dk_120 (dk_at dksX2_channelsFor_3 8 rfl rfl)
theorem dX2_channelsFor_80 : decode cX2_channelsFor 80 = .ok (.iand, 1) := dk_126 (dk_at dksX2_channelsFor_3 9 rfl rfl)
theorem dX2_channelsFor_81 : decode cX2_channelsFor 81 = .ok (.iload 4, 2) := dk_21 4 (dk_at dksX2_channelsFor_3 10 rfl rfl)
theorem dX2_channelsFor_83 : decode cX2_channelsFor 83 = .ok (.iload 5, 2) := dk_21 5 (dk_at dksX2_channelsFor_3 12 rfl rfl)
theorem dX2_channelsFor_85 : decode cX2_channelsFor 85 = .ok (.ishl, 1) := dk_120 (dk_at dksX2_channelsFor_3 14 rfl rfl)
theorem dX2_channelsFor_86 : decode cX2_channelsFor 86 = .ok (.if_icmp .ne 9, 3) := dk_160 0 9 (dk_at dksX2_channelsFor_3 15 rfl rfl)
theorem dX2_channelsFor_89 : decode cX2_channelsFor 89 = .ok (.iload 4, 2) := dk_21 4 (dk_at dksX2_channelsFor_3 18 rfl rfl)
theorem dX2_channelsFor_91 : decode cX2_channelsFor 91 = .ok (.iload 5, 2) := dk_21 5 (dk_at dksX2_channelsFor_3 20 rfl rfl)
theorem dX2_channelsFor_93 : decode cX2_channelsFor 93 = .ok (.ishl, 1) := dk_120 (dk_at dksX2_channelsFor_3 22 rfl rfl)
theorem dX2_channelsFor_94 : decode cX2_channelsFor 94 = .ok (.ireturn, 1) := dk_172 (dk_at dksX2_channelsFor_3 23 rfl rfl)
theorem dX2_channelsFor_95 : decode cX2_channelsFor 95 = .ok (.iinc 5 1, 3) := dk_132 5 1 (dk_at dksX2_channelsFor_4 0 rfl rfl)
theorem dX2_channelsFor_98 : decode cX2_channelsFor 98 = .ok (.goto (-37), 3) := dk_167 255 219 (dk_at dksX2_channelsFor_4 3 rfl rfl)
theorem dX2_channelsFor_101 : decode cX2_channelsFor 101 = .ok (.iconst 0, 1) := dk_3 (dk_at dksX2_channelsFor_4 6 rfl rfl)
theorem dX2_channelsFor_102 : decode cX2_channelsFor 102 = .ok (.istore 5, 2) := dk_54 5 (dk_at dksX2_channelsFor_4 7 rfl rfl)
theorem dX2_channelsFor_104 : decode cX2_channelsFor 104 = .ok (.iload_n 2, 1) := dk_28 (dk_at dksX2_channelsFor_4 9 rfl rfl)
theorem dX2_channelsFor_105 : decode cX2_channelsFor 105 = .ok (.istore 6, 2) := dk_54 6 (dk_at dksX2_channelsFor_4 10 rfl rfl)
theorem dX2_channelsFor_107 : decode cX2_channelsFor 107 = .ok (.iconst 0, 1) := dk_3 (dk_at dksX2_channelsFor_4 12 rfl rfl)
theorem dX2_channelsFor_108 : decode cX2_channelsFor 108 = .ok (.istore 7, 2) := dk_54 7 (dk_at dksX2_channelsFor_4 13 rfl rfl)
theorem dX2_channelsFor_110 : decode cX2_channelsFor 110 = .ok (.iload 7, 2) := dk_21 7 (dk_at dksX2_channelsFor_4 15 rfl rfl)
theorem dX2_channelsFor_112 : decode cX2_channelsFor 112 = .ok (.aload_n 0, 1) := dk_42 (dk_at dksX2_channelsFor_4 17 rfl rfl)
theorem dX2_channelsFor_113 : decode cX2_channelsFor 113 = .ok (.getfield 20, 3) := dk_180 0 20 (dk_at dksX2_channelsFor_4 18 rfl rfl)
theorem dX2_channelsFor_116 : decode cX2_channelsFor 116 = .ok (.iconst 2, 1) := dk_5 (dk_at dksX2_channelsFor_4 21 rfl rfl)
theorem dX2_channelsFor_117 : decode cX2_channelsFor 117 = .ok (.iaload, 1) := dk_46 (dk_at dksX2_channelsFor_4 22 rfl rfl)
theorem dX2_channelsFor_118 : decode cX2_channelsFor 118 = .ok (.if_icmp .ge 38, 3) := dk_162 0 38 (dk_at dksX2_channelsFor_5 0 rfl rfl)
theorem dX2_channelsFor_121 : decode cX2_channelsFor 121 = .ok (.iload 6, 2) := dk_21 6 (dk_at dksX2_channelsFor_5 3 rfl rfl)
theorem dX2_channelsFor_123 : decode cX2_channelsFor 123 = .ok (.ifCond .le 33, 3) := dk_158 0 33 (dk_at dksX2_channelsFor_5 5 rfl rfl)
theorem dX2_channelsFor_126 : decode cX2_channelsFor 126 = .ok (.iload_n 3, 1) := dk_29 (dk_at dksX2_channelsFor_5 8 rfl rfl)
theorem dX2_channelsFor_127 : decode cX2_channelsFor 127 = .ok (.iload 7, 2) := dk_21 7 (dk_at dksX2_channelsFor_5 9 rfl rfl)
theorem dX2_channelsFor_129 : decode cX2_channelsFor 129 = .ok (.ishr, 1) := dk_122 (dk_at dksX2_channelsFor_5 11 rfl rfl)
theorem dX2_channelsFor_130 : decode cX2_channelsFor 130 = .ok (.iconst 1, 1) := dk_4 (dk_at dksX2_channelsFor_5 12 rfl rfl)
theorem dX2_channelsFor_131 : decode cX2_channelsFor 131 = .ok (.iand, 1) := dk_126 (dk_at dksX2_channelsFor_5 13 rfl rfl)
theorem dX2_channelsFor_132 : decode cX2_channelsFor 132 = .ok (.ifCond .ne 6, 3) := dk_154 0 6 (dk_at dksX2_channelsFor_5 14 rfl rfl)
theorem dX2_channelsFor_135 : decode cX2_channelsFor 135 = .ok (.goto 15, 3) := dk_167 0 15 (dk_at dksX2_channelsFor_5 17 rfl rfl)
theorem dX2_channelsFor_138 : decode cX2_channelsFor 138 = .ok (.iload 5, 2) := dk_21 5 (dk_at dksX2_channelsFor_5 20 rfl rfl)
theorem dX2_channelsFor_140 : decode cX2_channelsFor 140 = .ok (.iconst 1, 1) := dk_4 (dk_at dksX2_channelsFor_5 22 rfl rfl)
theorem dX2_channelsFor_141 : decode cX2_channelsFor 141 = .ok (.iload 7, 2) := dk_21 7 (dk_at dksX2_channelsFor_6 0 rfl rfl)
theorem dX2_channelsFor_143 : decode cX2_channelsFor 143 = .ok (.ishl, 1) := dk_120 (dk_at dksX2_channelsFor_6 2 rfl rfl)
theorem dX2_channelsFor_144 : decode cX2_channelsFor 144 = .ok (.ior, 1) := dk_128 (dk_at dksX2_channelsFor_6 3 rfl rfl)
theorem dX2_channelsFor_145 : decode cX2_channelsFor 145 = .ok (.istore 5, 2) := dk_54 5 (dk_at dksX2_channelsFor_6 4 rfl rfl)
theorem dX2_channelsFor_147 : decode cX2_channelsFor 147 = .ok (.iinc 6 (-1), 3) := dk_132 6 255 (dk_at dksX2_channelsFor_6 6 rfl rfl)
theorem dX2_channelsFor_150 : decode cX2_channelsFor 150 = .ok (.iinc 7 1, 3) := dk_132 7 1 (dk_at dksX2_channelsFor_6 9 rfl rfl)
theorem dX2_channelsFor_153 : decode cX2_channelsFor 153 = .ok (.goto (-43), 3) := dk_167 255 213 (dk_at dksX2_channelsFor_6 12 rfl rfl)
theorem dX2_channelsFor_156 : decode cX2_channelsFor 156 = .ok (.iload 5, 2) := dk_21 5 (dk_at dksX2_channelsFor_6 15 rfl rfl)
theorem dX2_channelsFor_158 : decode cX2_channelsFor 158 = .ok (.ireturn, 1) := dk_172 (dk_at dksX2_channelsFor_6 17 rfl rfl)
abbrev cX2_overlap : ByteArray := prog_22_method_27_code
def yX2_overlap : MethodName := ⟨RX2, "overlap", "(II)Z"⟩
def dkwX2_overlap_4 : List UInt8 := [167, 0, 4, 3, 172]
abbrev dktX2_overlap_4 : List UInt8 := dkwX2_overlap_4 ++ []
def dkwX2_overlap_3 : List UInt8 := [163, 0, 27, 42, 180, 0, 20, 21, 4, 4, 96, 46, 42, 180, 0, 20, 29, 6, 96, 46, 163, 0, 7, 4]
abbrev dktX2_overlap_3 : List UInt8 := dkwX2_overlap_3 ++ dktX2_overlap_4
def dkwX2_overlap_2 : List UInt8 := [96, 46, 163, 0, 47, 42, 180, 0, 20, 29, 4, 96, 46, 42, 180, 0, 20, 21, 4, 6, 96, 46]
abbrev dktX2_overlap_2 : List UInt8 := dkwX2_overlap_2 ++ dktX2_overlap_3
def dkwX2_overlap_1 : List UInt8 := [180, 0, 20, 21, 4, 5, 96, 46, 163, 0, 65, 42, 180, 0, 20, 21, 4, 46, 42, 180, 0, 20, 29, 5]
abbrev dktX2_overlap_1 : List UInt8 := dkwX2_overlap_1 ++ dktX2_overlap_2
def dkwX2_overlap_0 : List UInt8 := [16, 29, 7, 27, 104, 96, 62, 16, 29, 7, 28, 104, 96, 54, 4, 42, 180, 0, 20, 29, 46, 42]
abbrev dktX2_overlap_0 : List UInt8 := dkwX2_overlap_0 ++ dktX2_overlap_1
theorem dksX2_overlap_0 : cX2_overlap.data.toList.drop 0 = dktX2_overlap_0 := by decide +kernel
theorem dksX2_overlap_1 : cX2_overlap.data.toList.drop 22 = dktX2_overlap_1 := dk_seg dksX2_overlap_0 22 rfl rfl
theorem dksX2_overlap_2 : cX2_overlap.data.toList.drop 46 = dktX2_overlap_2 := dk_seg dksX2_overlap_1 24 rfl rfl
theorem dksX2_overlap_3 : cX2_overlap.data.toList.drop 68 = dktX2_overlap_3 := dk_seg dksX2_overlap_2 22 rfl rfl
theorem dksX2_overlap_4 : cX2_overlap.data.toList.drop 92 = dktX2_overlap_4 := dk_seg dksX2_overlap_3 24 rfl rfl
theorem dX2_overlap_0 : decode cX2_overlap 0 = .ok (.bipush 29, 2) := dk_16 29 (dk_at dksX2_overlap_0 0 rfl rfl)
theorem dX2_overlap_2 : decode cX2_overlap 2 = .ok (.iconst 4, 1) := dk_7 (dk_at dksX2_overlap_0 2 rfl rfl)
theorem dX2_overlap_3 : decode cX2_overlap 3 = .ok (.iload_n 1, 1) := dk_27 (dk_at dksX2_overlap_0 3 rfl rfl)
theorem dX2_overlap_4 : decode cX2_overlap 4 = .ok (.imul, 1) := dk_104 (dk_at dksX2_overlap_0 4 rfl rfl)
theorem dX2_overlap_5 : decode cX2_overlap 5 = .ok (.iadd, 1) := dk_96 (dk_at dksX2_overlap_0 5 rfl rfl)
theorem dX2_overlap_6 : decode cX2_overlap 6 = .ok (.istore_n 3, 1) := dk_62 (dk_at dksX2_overlap_0 6 rfl rfl)
theorem dX2_overlap_7 : decode cX2_overlap 7 = .ok (.bipush 29, 2) := dk_16 29 (dk_at dksX2_overlap_0 7 rfl rfl)
theorem dX2_overlap_9 : decode cX2_overlap 9 = .ok (.iconst 4, 1) := dk_7 (dk_at dksX2_overlap_0 9 rfl rfl)
theorem dX2_overlap_10 : decode cX2_overlap 10 = .ok (.iload_n 2, 1) := dk_28 (dk_at dksX2_overlap_0 10 rfl rfl)
theorem dX2_overlap_11 : decode cX2_overlap 11 = .ok (.imul, 1) := dk_104 (dk_at dksX2_overlap_0 11 rfl rfl)
theorem dX2_overlap_12 : decode cX2_overlap 12 = .ok (.iadd, 1) := dk_96 (dk_at dksX2_overlap_0 12 rfl rfl)
theorem dX2_overlap_13 : decode cX2_overlap 13 = .ok (.istore 4, 2) := dk_54 4 (dk_at dksX2_overlap_0 13 rfl rfl)
theorem dX2_overlap_15 : decode cX2_overlap 15 = .ok (.aload_n 0, 1) := dk_42 (dk_at dksX2_overlap_0 15 rfl rfl)
theorem dX2_overlap_16 : decode cX2_overlap 16 = .ok (.getfield 20, 3) := dk_180 0 20 (dk_at dksX2_overlap_0 16 rfl rfl)
theorem dX2_overlap_19 : decode cX2_overlap 19 = .ok (.iload_n 3, 1) := dk_29 (dk_at dksX2_overlap_0 19 rfl rfl)
theorem dX2_overlap_20 : decode cX2_overlap 20 = .ok (.iaload, 1) := dk_46 (dk_at dksX2_overlap_0 20 rfl rfl)
theorem dX2_overlap_21 : decode cX2_overlap 21 = .ok (.aload_n 0, 1) := dk_42 (dk_at dksX2_overlap_0 21 rfl rfl)
theorem dX2_overlap_22 : decode cX2_overlap 22 = .ok (.getfield 20, 3) := dk_180 0 20 (dk_at dksX2_overlap_1 0 rfl rfl)
theorem dX2_overlap_25 : decode cX2_overlap 25 = .ok (.iload 4, 2) := dk_21 4 (dk_at dksX2_overlap_1 3 rfl rfl)
theorem dX2_overlap_27 : decode cX2_overlap 27 = .ok (.iconst 2, 1) := dk_5 (dk_at dksX2_overlap_1 5 rfl rfl)
theorem dX2_overlap_28 : decode cX2_overlap 28 = .ok (.iadd, 1) := dk_96 (dk_at dksX2_overlap_1 6 rfl rfl)
theorem dX2_overlap_29 : decode cX2_overlap 29 = .ok (.iaload, 1) := dk_46 (dk_at dksX2_overlap_1 7 rfl rfl)
theorem dX2_overlap_30 : decode cX2_overlap 30 = .ok (.if_icmp .gt 65, 3) := dk_163 0 65 (dk_at dksX2_overlap_1 8 rfl rfl)
theorem dX2_overlap_33 : decode cX2_overlap 33 = .ok (.aload_n 0, 1) := dk_42 (dk_at dksX2_overlap_1 11 rfl rfl)
theorem dX2_overlap_34 : decode cX2_overlap 34 = .ok (.getfield 20, 3) := dk_180 0 20 (dk_at dksX2_overlap_1 12 rfl rfl)
theorem dX2_overlap_37 : decode cX2_overlap 37 = .ok (.iload 4, 2) := dk_21 4 (dk_at dksX2_overlap_1 15 rfl rfl)
theorem dX2_overlap_39 : decode cX2_overlap 39 = .ok (.iaload, 1) := dk_46 (dk_at dksX2_overlap_1 17 rfl rfl)
theorem dX2_overlap_40 : decode cX2_overlap 40 = .ok (.aload_n 0, 1) := dk_42 (dk_at dksX2_overlap_1 18 rfl rfl)
theorem dX2_overlap_41 : decode cX2_overlap 41 = .ok (.getfield 20, 3) := dk_180 0 20 (dk_at dksX2_overlap_1 19 rfl rfl)
theorem dX2_overlap_44 : decode cX2_overlap 44 = .ok (.iload_n 3, 1) := dk_29 (dk_at dksX2_overlap_1 22 rfl rfl)
theorem dX2_overlap_45 : decode cX2_overlap 45 = .ok (.iconst 2, 1) := dk_5 (dk_at dksX2_overlap_1 23 rfl rfl)
theorem dX2_overlap_46 : decode cX2_overlap 46 = .ok (.iadd, 1) := dk_96 (dk_at dksX2_overlap_2 0 rfl rfl)
theorem dX2_overlap_47 : decode cX2_overlap 47 = .ok (.iaload, 1) := dk_46 (dk_at dksX2_overlap_2 1 rfl rfl)
theorem dX2_overlap_48 : decode cX2_overlap 48 = .ok (.if_icmp .gt 47, 3) := dk_163 0 47 (dk_at dksX2_overlap_2 2 rfl rfl)
theorem dX2_overlap_51 : decode cX2_overlap 51 = .ok (.aload_n 0, 1) := dk_42 (dk_at dksX2_overlap_2 5 rfl rfl)
theorem dX2_overlap_52 : decode cX2_overlap 52 = .ok (.getfield 20, 3) := dk_180 0 20 (dk_at dksX2_overlap_2 6 rfl rfl)
theorem dX2_overlap_55 : decode cX2_overlap 55 = .ok (.iload_n 3, 1) := dk_29 (dk_at dksX2_overlap_2 9 rfl rfl)
theorem dX2_overlap_56 : decode cX2_overlap 56 = .ok (.iconst 1, 1) := dk_4 (dk_at dksX2_overlap_2 10 rfl rfl)
theorem dX2_overlap_57 : decode cX2_overlap 57 = .ok (.iadd, 1) := dk_96 (dk_at dksX2_overlap_2 11 rfl rfl)
theorem dX2_overlap_58 : decode cX2_overlap 58 = .ok (.iaload, 1) := dk_46 (dk_at dksX2_overlap_2 12 rfl rfl)
theorem dX2_overlap_59 : decode cX2_overlap 59 = .ok (.aload_n 0, 1) := dk_42 (dk_at dksX2_overlap_2 13 rfl rfl)
theorem dX2_overlap_60 : decode cX2_overlap 60 = .ok (.getfield 20, 3) := dk_180 0 20 (dk_at dksX2_overlap_2 14 rfl rfl)
theorem dX2_overlap_63 : decode cX2_overlap 63 = .ok (.iload 4, 2) := dk_21 4 (dk_at dksX2_overlap_2 17 rfl rfl)
theorem dX2_overlap_65 : decode cX2_overlap 65 = .ok (.iconst 3, 1) := dk_6 (dk_at dksX2_overlap_2 19 rfl rfl)
theorem dX2_overlap_66 : decode cX2_overlap 66 = .ok (.iadd, 1) := dk_96 (dk_at dksX2_overlap_2 20 rfl rfl)
theorem dX2_overlap_67 : decode cX2_overlap 67 = .ok (.iaload, 1) := dk_46 (dk_at dksX2_overlap_2 21 rfl rfl)
theorem dX2_overlap_68 : decode cX2_overlap 68 = .ok (.if_icmp .gt 27, 3) := dk_163 0 27 (dk_at dksX2_overlap_3 0 rfl rfl)
theorem dX2_overlap_71 : decode cX2_overlap 71 = .ok (.aload_n 0, 1) := dk_42 (dk_at dksX2_overlap_3 3 rfl rfl)
theorem dX2_overlap_72 : decode cX2_overlap 72 = .ok (.getfield 20, 3) := dk_180 0 20 (dk_at dksX2_overlap_3 4 rfl rfl)
theorem dX2_overlap_75 : decode cX2_overlap 75 = .ok (.iload 4, 2) := dk_21 4 (dk_at dksX2_overlap_3 7 rfl rfl)
theorem dX2_overlap_77 : decode cX2_overlap 77 = .ok (.iconst 1, 1) := dk_4 (dk_at dksX2_overlap_3 9 rfl rfl)
theorem dX2_overlap_78 : decode cX2_overlap 78 = .ok (.iadd, 1) := dk_96 (dk_at dksX2_overlap_3 10 rfl rfl)
theorem dX2_overlap_79 : decode cX2_overlap 79 = .ok (.iaload, 1) := dk_46 (dk_at dksX2_overlap_3 11 rfl rfl)
theorem dX2_overlap_80 : decode cX2_overlap 80 = .ok (.aload_n 0, 1) := dk_42 (dk_at dksX2_overlap_3 12 rfl rfl)
theorem dX2_overlap_81 : decode cX2_overlap 81 = .ok (.getfield 20, 3) := dk_180 0 20 (dk_at dksX2_overlap_3 13 rfl rfl)
theorem dX2_overlap_84 : decode cX2_overlap 84 = .ok (.iload_n 3, 1) := dk_29 (dk_at dksX2_overlap_3 16 rfl rfl)
theorem dX2_overlap_85 : decode cX2_overlap 85 = .ok (.iconst 3, 1) := dk_6 (dk_at dksX2_overlap_3 17 rfl rfl)
theorem dX2_overlap_86 : decode cX2_overlap 86 = .ok (.iadd, 1) := dk_96 (dk_at dksX2_overlap_3 18 rfl rfl)
theorem dX2_overlap_87 : decode cX2_overlap 87 = .ok (.iaload, 1) := dk_46 (dk_at dksX2_overlap_3 19 rfl rfl)
theorem dX2_overlap_88 : decode cX2_overlap 88 = .ok (.if_icmp .gt 7, 3) := dk_163 0 7 (dk_at dksX2_overlap_3 20 rfl rfl)
theorem dX2_overlap_91 : decode cX2_overlap 91 = .ok (.iconst 1, 1) := dk_4 (dk_at dksX2_overlap_3 23 rfl rfl)
theorem dX2_overlap_92 : decode cX2_overlap 92 = .ok (.goto 4, 3) := dk_167 0 4 (dk_at dksX2_overlap_4 0 rfl rfl)
theorem dX2_overlap_95 : decode cX2_overlap 95 = .ok (.iconst 0, 1) := dk_3 (dk_at dksX2_overlap_4 3 rfl rfl)
theorem dX2_overlap_96 : decode cX2_overlap 96 = .ok (.ireturn, 1) := dk_172 (dk_at dksX2_overlap_4 4 rfl rfl)
abbrev cX2_readDevice : ByteArray := prog_22_method_30_code
def yX2_readDevice : MethodName := ⟨RX2, "readDevice", "()V"⟩
def dkwX2_readDevice_9 : List UInt8 := [96, 79, 177]
abbrev dktX2_readDevice_9 : List UInt8 := dkwX2_readDevice_9 ++ []
def dkwX2_readDevice_8 : List UInt8 := [167, 0, 4, 4, 79, 42, 180, 0, 26, 16, 38, 27, 96, 2, 79, 42, 180, 0, 20, 16, 10, 92, 46, 4]
abbrev dktX2_readDevice_8 : List UInt8 := dkwX2_readDevice_8 ++ dktX2_readDevice_9
def dkwX2_readDevice_7 : List UInt8 := [16, 86, 27, 96, 28, 79, 42, 180, 0, 26, 16, 6, 27, 96, 42, 18, 197, 182, 0, 140, 153, 0, 7, 3]
abbrev dktX2_readDevice_7 : List UInt8 := dkwX2_readDevice_7 ++ dktX2_readDevice_8
def dkwX2_readDevice_6 : List UInt8 := [16, 70, 27, 96, 46, 184, 0, 193, 154, 0, 8, 42, 6, 182, 0, 143, 42, 182, 0, 137, 42, 180, 0, 20]
abbrev dktX2_readDevice_6 : List UInt8 := dkwX2_readDevice_6 ++ dktX2_readDevice_7
def dkwX2_readDevice_5 : List UInt8 := [180, 0, 95, 154, 0, 37, 42, 180, 0, 20, 28, 42, 180, 0, 20, 16, 54, 27, 96, 46, 42, 180, 0, 20]
abbrev dktX2_readDevice_5 : List UInt8 := dkwX2_readDevice_5 ++ dktX2_readDevice_6
def dkwX2_readDevice_4 : List UInt8 := [182, 0, 140, 153, 0, 73, 42, 3, 42, 180, 0, 20, 16, 9, 46, 4, 100, 182, 0, 146, 61, 42]
abbrev dktX2_readDevice_4 : List UInt8 := dkwX2_readDevice_4 ++ dktX2_readDevice_5
def dkwX2_readDevice_3 : List UInt8 := [96, 42, 4, 17, 3, 231, 182, 0, 154, 79, 42, 180, 0, 20, 16, 86, 27, 96, 2, 79, 42, 18, 191]
abbrev dktX2_readDevice_3 : List UInt8 := dkwX2_readDevice_3 ++ dktX2_readDevice_4
def dkwX2_readDevice_2 : List UInt8 := [182, 0, 176, 79, 42, 180, 0, 20, 16, 70, 27, 96, 42, 182, 0, 179, 79, 42, 180, 0, 26, 16, 70, 27]
abbrev dktX2_readDevice_2 : List UInt8 := dkwX2_readDevice_2 ++ dktX2_readDevice_3
def dkwX2_readDevice_1 : List UInt8 := [180, 0, 95, 158, 0, 4, 177, 42, 180, 0, 20, 16, 10, 46, 60, 42, 180, 0, 20, 16, 54, 27, 96, 42]
abbrev dktX2_readDevice_1 : List UInt8 := dkwX2_readDevice_1 ++ dktX2_readDevice_2
def dkwX2_readDevice_0 : List UInt8 := [42, 180, 0, 20, 16, 10, 46, 16, 16, 160, 0, 8, 42, 7, 182, 0, 143, 42, 182, 0, 137, 42]
abbrev dktX2_readDevice_0 : List UInt8 := dkwX2_readDevice_0 ++ dktX2_readDevice_1
theorem dksX2_readDevice_0 : cX2_readDevice.data.toList.drop 0 = dktX2_readDevice_0 := by decide +kernel
theorem dksX2_readDevice_1 : cX2_readDevice.data.toList.drop 22 = dktX2_readDevice_1 := dk_seg dksX2_readDevice_0 22 rfl rfl
theorem dksX2_readDevice_2 : cX2_readDevice.data.toList.drop 46 = dktX2_readDevice_2 := dk_seg dksX2_readDevice_1 24 rfl rfl
theorem dksX2_readDevice_3 : cX2_readDevice.data.toList.drop 70 = dktX2_readDevice_3 := dk_seg dksX2_readDevice_2 24 rfl rfl
theorem dksX2_readDevice_4 : cX2_readDevice.data.toList.drop 93 = dktX2_readDevice_4 := dk_seg dksX2_readDevice_3 23 rfl rfl
theorem dksX2_readDevice_5 : cX2_readDevice.data.toList.drop 115 = dktX2_readDevice_5 := dk_seg dksX2_readDevice_4 22 rfl rfl
theorem dksX2_readDevice_6 : cX2_readDevice.data.toList.drop 139 = dktX2_readDevice_6 := dk_seg dksX2_readDevice_5 24 rfl rfl
theorem dksX2_readDevice_7 : cX2_readDevice.data.toList.drop 163 = dktX2_readDevice_7 := dk_seg dksX2_readDevice_6 24 rfl rfl
theorem dksX2_readDevice_8 : cX2_readDevice.data.toList.drop 187 = dktX2_readDevice_8 := dk_seg dksX2_readDevice_7 24 rfl rfl
theorem dksX2_readDevice_9 : cX2_readDevice.data.toList.drop 211 = dktX2_readDevice_9 := dk_seg dksX2_readDevice_8 24 rfl rfl
theorem dX2_readDevice_0 : decode cX2_readDevice 0 = .ok (.aload_n 0, 1) := dk_42 (dk_at dksX2_readDevice_0 0 rfl rfl)
theorem dX2_readDevice_1 : decode cX2_readDevice 1 = .ok (.getfield 20, 3) := dk_180 0 20 (dk_at dksX2_readDevice_0 1 rfl rfl)
theorem dX2_readDevice_4 : decode cX2_readDevice 4 = .ok (.bipush 10, 2) := dk_16 10 (dk_at dksX2_readDevice_0 4 rfl rfl)
theorem dX2_readDevice_6 : decode cX2_readDevice 6 = .ok (.iaload, 1) := dk_46 (dk_at dksX2_readDevice_0 6 rfl rfl)
theorem dX2_readDevice_7 : decode cX2_readDevice 7 = .ok (.bipush 16, 2) := dk_16 16 (dk_at dksX2_readDevice_0 7 rfl rfl)
theorem dX2_readDevice_9 : decode cX2_readDevice 9 = .ok (.if_icmp .ne 8, 3) := dk_160 0 8 (dk_at dksX2_readDevice_0 9 rfl rfl)
theorem dX2_readDevice_12 : decode cX2_readDevice 12 = .ok (.aload_n 0, 1) := dk_42 (dk_at dksX2_readDevice_0 12 rfl rfl)
theorem dX2_readDevice_13 : decode cX2_readDevice 13 = .ok (.iconst 4, 1) := dk_7 (dk_at dksX2_readDevice_0 13 rfl rfl)
theorem dX2_readDevice_14 : decode cX2_readDevice 14 = .ok (.invokevirtual 143, 3) := dk_182 0 143 (dk_at dksX2_readDevice_0 14 rfl rfl)
theorem dX2_readDevice_17 : decode cX2_readDevice 17 = .ok (.aload_n 0, 1) := dk_42 (dk_at dksX2_readDevice_0 17 rfl rfl)
theorem dX2_readDevice_18 : decode cX2_readDevice 18 = .ok (.invokevirtual 137, 3) := dk_182 0 137 (dk_at dksX2_readDevice_0 18 rfl rfl)
theorem dX2_readDevice_21 : decode cX2_readDevice 21 = .ok (.aload_n 0, 1) := dk_42 (dk_at dksX2_readDevice_0 21 rfl rfl)
theorem dX2_readDevice_22 : decode cX2_readDevice 22 = .ok (.getfield 95, 3) := dk_180 0 95 (dk_at dksX2_readDevice_1 0 rfl rfl)
theorem dX2_readDevice_25 : decode cX2_readDevice 25 = .ok (.ifCond .le 4, 3) := dk_158 0 4 (dk_at dksX2_readDevice_1 3 rfl rfl)
theorem dX2_readDevice_28 : decode cX2_readDevice 28 = .ok (.return_, 1) := dk_177 (dk_at dksX2_readDevice_1 6 rfl rfl)
theorem dX2_readDevice_29 : decode cX2_readDevice 29 = .ok (.aload_n 0, 1) := dk_42 (dk_at dksX2_readDevice_1 7 rfl rfl)
theorem dX2_readDevice_30 : decode cX2_readDevice 30 = .ok (.getfield 20, 3) := dk_180 0 20 (dk_at dksX2_readDevice_1 8 rfl rfl)
theorem dX2_readDevice_33 : decode cX2_readDevice 33 = .ok (.bipush 10, 2) := dk_16 10 (dk_at dksX2_readDevice_1 11 rfl rfl)
theorem dX2_readDevice_35 : decode cX2_readDevice 35 = .ok (.iaload, 1) := dk_46 (dk_at dksX2_readDevice_1 13 rfl rfl)
theorem dX2_readDevice_36 : decode cX2_readDevice 36 = .ok (.istore_n 1, 1) := dk_60 (dk_at dksX2_readDevice_1 14 rfl rfl)
theorem dX2_readDevice_37 : decode cX2_readDevice 37 = .ok (.aload_n 0, 1) := dk_42 (dk_at dksX2_readDevice_1 15 rfl rfl)
theorem dX2_readDevice_38 : decode cX2_readDevice 38 = .ok (.getfield 20, 3) := dk_180 0 20 (dk_at dksX2_readDevice_1 16 rfl rfl)
theorem dX2_readDevice_41 : decode cX2_readDevice 41 = .ok (.bipush 54, 2) := dk_16 54 (dk_at dksX2_readDevice_1 19 rfl rfl)
theorem dX2_readDevice_43 : decode cX2_readDevice 43 = .ok (.iload_n 1, 1) := dk_27 (dk_at dksX2_readDevice_1 21 rfl rfl)
theorem dX2_readDevice_44 : decode cX2_readDevice 44 = .ok (.iadd, 1) := dk_96 (dk_at dksX2_readDevice_1 22 rfl rfl)
theorem dX2_readDevice_45 : decode cX2_readDevice 45 = .ok (.aload_n 0, 1) := dk_42 (dk_at dksX2_readDevice_1 23 rfl rfl)
theorem dX2_readDevice_46 : decode cX2_readDevice 46 = .ok (.invokevirtual 176, 3) := dk_182 0 176 (dk_at dksX2_readDevice_2 0 rfl rfl)
theorem dX2_readDevice_49 : decode cX2_readDevice 49 = .ok (.iastore, 1) := dk_79 (dk_at dksX2_readDevice_2 3 rfl rfl)
theorem dX2_readDevice_50 : decode cX2_readDevice 50 = .ok (.aload_n 0, 1) := dk_42 (dk_at dksX2_readDevice_2 4 rfl rfl)
theorem dX2_readDevice_51 : decode cX2_readDevice 51 = .ok (.getfield 20, 3) := dk_180 0 20 (dk_at dksX2_readDevice_2 5 rfl rfl)
theorem dX2_readDevice_54 : decode cX2_readDevice 54 = .ok (.bipush 70, 2) := dk_16 70 (dk_at dksX2_readDevice_2 8 rfl rfl)
theorem dX2_readDevice_56 : decode cX2_readDevice 56 = .ok (.iload_n 1, 1) := dk_27 (dk_at dksX2_readDevice_2 10 rfl rfl)
theorem dX2_readDevice_57 : decode cX2_readDevice 57 = .ok (.iadd, 1) := dk_96 (dk_at dksX2_readDevice_2 11 rfl rfl)
theorem dX2_readDevice_58 : decode cX2_readDevice 58 = .ok (.aload_n 0, 1) := dk_42 (dk_at dksX2_readDevice_2 12 rfl rfl)
theorem dX2_readDevice_59 : decode cX2_readDevice 59 = .ok (.invokevirtual 179, 3) := dk_182 0 179 (dk_at dksX2_readDevice_2 13 rfl rfl)
theorem dX2_readDevice_62 : decode cX2_readDevice 62 = .ok (.iastore, 1) := dk_79 (dk_at dksX2_readDevice_2 16 rfl rfl)
theorem dX2_readDevice_63 : decode cX2_readDevice 63 = .ok (.aload_n 0, 1) := dk_42 (dk_at dksX2_readDevice_2 17 rfl rfl)
theorem dX2_readDevice_64 : decode cX2_readDevice 64 = .ok (.getfield 26, 3) := dk_180 0 26 (dk_at dksX2_readDevice_2 18 rfl rfl)
theorem dX2_readDevice_67 : decode cX2_readDevice 67 = .ok (.bipush 70, 2) := dk_16 70 (dk_at dksX2_readDevice_2 21 rfl rfl)
theorem dX2_readDevice_69 : decode cX2_readDevice 69 = .ok (.iload_n 1, 1) := dk_27 (dk_at dksX2_readDevice_2 23 rfl rfl)
theorem dX2_readDevice_70 : decode cX2_readDevice 70 = .ok (.iadd, 1) := dk_96 (dk_at dksX2_readDevice_3 0 rfl rfl)
theorem dX2_readDevice_71 : decode cX2_readDevice 71 = .ok (.aload_n 0, 1) := dk_42 (dk_at dksX2_readDevice_3 1 rfl rfl)
theorem dX2_readDevice_72 : decode cX2_readDevice 72 = .ok (.iconst 1, 1) := dk_4 (dk_at dksX2_readDevice_3 2 rfl rfl)
theorem dX2_readDevice_73 : decode cX2_readDevice 73 = .ok (.sipush 999, 3) := dk_17 3 231 (dk_at dksX2_readDevice_3 3 rfl rfl)
theorem dX2_readDevice_76 : decode cX2_readDevice 76 = .ok (.invokevirtual 154, 3) := dk_182 0 154 (dk_at dksX2_readDevice_3 6 rfl rfl)
theorem dX2_readDevice_79 : decode cX2_readDevice 79 = .ok (.iastore, 1) := dk_79 (dk_at dksX2_readDevice_3 9 rfl rfl)
theorem dX2_readDevice_80 : decode cX2_readDevice 80 = .ok (.aload_n 0, 1) := dk_42 (dk_at dksX2_readDevice_3 10 rfl rfl)
theorem dX2_readDevice_81 : decode cX2_readDevice 81 = .ok (.getfield 20, 3) := dk_180 0 20 (dk_at dksX2_readDevice_3 11 rfl rfl)
theorem dX2_readDevice_84 : decode cX2_readDevice 84 = .ok (.bipush 86, 2) := dk_16 86 (dk_at dksX2_readDevice_3 14 rfl rfl)
theorem dX2_readDevice_86 : decode cX2_readDevice 86 = .ok (.iload_n 1, 1) := dk_27 (dk_at dksX2_readDevice_3 16 rfl rfl)
theorem dX2_readDevice_87 : decode cX2_readDevice 87 = .ok (.iadd, 1) := dk_96 (dk_at dksX2_readDevice_3 17 rfl rfl)
theorem dX2_readDevice_88 : decode cX2_readDevice 88 = .ok (.iconst (-1), 1) := dk_2 (dk_at dksX2_readDevice_3 18 rfl rfl)
theorem dX2_readDevice_89 : decode cX2_readDevice 89 = .ok (.iastore, 1) := dk_79 (dk_at dksX2_readDevice_3 19 rfl rfl)
theorem dX2_readDevice_90 : decode cX2_readDevice 90 = .ok (.aload_n 0, 1) := dk_42 (dk_at dksX2_readDevice_3 20 rfl rfl)
theorem dX2_readDevice_91 : decode cX2_readDevice 91 = .ok (.ldc 191, 2) := dk_18 191 (dk_at dksX2_readDevice_3 21 rfl rfl)
theorem dX2_readDevice_93 : decode cX2_readDevice 93 = .ok (.invokevirtual 140, 3) := dk_182 0 140 (dk_at dksX2_readDevice_4 0 rfl rfl)
theorem dX2_readDevice_96 : decode cX2_readDevice 96 = .ok (.ifCond .eq 73, 3) := dk_153 0 73 (dk_at dksX2_readDevice_4 3 rfl rfl)
theorem dX2_readDevice_99 : decode cX2_readDevice 99 = .ok (.aload_n 0, 1) := dk_42 (dk_at dksX2_readDevice_4 6 rfl rfl)
theorem dX2_readDevice_100 : decode cX2_readDevice 100 = .ok (.iconst 0, 1) := dk_3 (dk_at dksX2_readDevice_4 7 rfl rfl)
theorem dX2_readDevice_101 : decode cX2_readDevice 101 = .ok (.aload_n 0, 1) := dk_42 (dk_at dksX2_readDevice_4 8 rfl rfl)
theorem dX2_readDevice_102 : decode cX2_readDevice 102 = .ok (.getfield 20, 3) := dk_180 0 20 (dk_at dksX2_readDevice_4 9 rfl rfl)
theorem dX2_readDevice_105 : decode cX2_readDevice 105 = .ok (.bipush 9, 2) := dk_16 9 (dk_at dksX2_readDevice_4 12 rfl rfl)
theorem dX2_readDevice_107 : decode cX2_readDevice 107 = .ok (.iaload, 1) := dk_46 (dk_at dksX2_readDevice_4 14 rfl rfl)
theorem dX2_readDevice_108 : decode cX2_readDevice 108 = .ok (.iconst 1, 1) := dk_4 (dk_at dksX2_readDevice_4 15 rfl rfl)
theorem dX2_readDevice_109 : decode cX2_readDevice 109 = .ok (.isub, 1) := dk_100 (dk_at dksX2_readDevice_4 16 rfl rfl)
theorem dX2_readDevice_110 : decode cX2_readDevice 110 = .ok (.invokevirtual 146, 3) := dk_182 0 146 (dk_at dksX2_readDevice_4 17 rfl rfl)
theorem dX2_readDevice_113 : decode cX2_readDevice 113 = .ok (.istore_n 2, 1) := dk_61 (dk_at dksX2_readDevice_4 20 rfl rfl)
theorem dX2_readDevice_114 : decode cX2_readDevice 114 = .ok (.aload_n 0, 1) := dk_42 (dk_at dksX2_readDevice_4 21 rfl rfl)
theorem dX2_readDevice_115 : decode cX2_readDevice 115 = .ok (.getfield 95, 3) := dk_180 0 95 (dk_at dksX2_readDevice_5 0 rfl rfl)
theorem dX2_readDevice_118 : decode cX2_readDevice 118 = .ok (.ifCond .ne 37, 3) := dk_154 0 37 (dk_at dksX2_readDevice_5 3 rfl rfl)
theorem dX2_readDevice_121 : decode cX2_readDevice 121 = .ok (.aload_n 0, 1) := dk_42 (dk_at dksX2_readDevice_5 6 rfl rfl)
theorem dX2_readDevice_122 : decode cX2_readDevice 122 = .ok (.getfield 20, 3) := dk_180 0 20 (dk_at dksX2_readDevice_5 7 rfl rfl)
theorem dX2_readDevice_125 : decode cX2_readDevice 125 = .ok (.iload_n 2, 1) := dk_28 (dk_at dksX2_readDevice_5 10 rfl rfl)
theorem dX2_readDevice_126 : decode cX2_readDevice 126 = .ok (.aload_n 0, 1) := dk_42 (dk_at dksX2_readDevice_5 11 rfl rfl)
theorem dX2_readDevice_127 : decode cX2_readDevice 127 = .ok (.getfield 20, 3) := dk_180 0 20 (dk_at dksX2_readDevice_5 12 rfl rfl)
theorem dX2_readDevice_130 : decode cX2_readDevice 130 = .ok (.bipush 54, 2) := dk_16 54 (dk_at dksX2_readDevice_5 15 rfl rfl)
theorem dX2_readDevice_132 : decode cX2_readDevice 132 = .ok (.iload_n 1, 1) := dk_27 (dk_at dksX2_readDevice_5 17 rfl rfl)
theorem dX2_readDevice_133 : decode cX2_readDevice 133 = .ok (.iadd, 1) := dk_96 (dk_at dksX2_readDevice_5 18 rfl rfl)
theorem dX2_readDevice_134 : decode cX2_readDevice 134 = .ok (.iaload, 1) := dk_46 (dk_at dksX2_readDevice_5 19 rfl rfl)
theorem dX2_readDevice_135 : decode cX2_readDevice 135 = .ok (.aload_n 0, 1) := dk_42 (dk_at dksX2_readDevice_5 20 rfl rfl)
theorem dX2_readDevice_136 : decode cX2_readDevice 136 = .ok (.getfield 20, 3) := dk_180 0 20 (dk_at dksX2_readDevice_5 21 rfl rfl)
theorem dX2_readDevice_139 : decode cX2_readDevice 139 = .ok (.bipush 70, 2) := dk_16 70 (dk_at dksX2_readDevice_6 0 rfl rfl)
theorem dX2_readDevice_141 : decode cX2_readDevice 141 = .ok (.iload_n 1, 1) := dk_27 (dk_at dksX2_readDevice_6 2 rfl rfl)
theorem dX2_readDevice_142 : decode cX2_readDevice 142 = .ok (.iadd, 1) := dk_96 (dk_at dksX2_readDevice_6 3 rfl rfl)
theorem dX2_readDevice_143 : decode cX2_readDevice 143 = .ok (.iaload, 1) := dk_46 (dk_at dksX2_readDevice_6 4 rfl rfl)
theorem dX2_readDevice_144 : decode cX2_readDevice 144 = .ok (.invokestatic 193, 3) := dk_184 0 193 (dk_at dksX2_readDevice_6 5 rfl rfl)
theorem dX2_readDevice_147 : decode cX2_readDevice 147 = .ok (.ifCond .ne 8, 3) := dk_154 0 8 (dk_at dksX2_readDevice_6 8 rfl rfl)
theorem dX2_readDevice_150 : decode cX2_readDevice 150 = .ok (.aload_n 0, 1) := dk_42 (dk_at dksX2_readDevice_6 11 rfl rfl)
theorem dX2_readDevice_151 : decode cX2_readDevice 151 = .ok (.iconst 3, 1) := dk_6 (dk_at dksX2_readDevice_6 12 rfl rfl)
theorem dX2_readDevice_152 : decode cX2_readDevice 152 = .ok (.invokevirtual 143, 3) := dk_182 0 143 (dk_at dksX2_readDevice_6 13 rfl rfl)
theorem dX2_readDevice_155 : decode cX2_readDevice 155 = .ok (.aload_n 0, 1) := dk_42 (dk_at dksX2_readDevice_6 16 rfl rfl)
theorem dX2_readDevice_156 : decode cX2_readDevice 156 = .ok (.invokevirtual 137, 3) := dk_182 0 137 (dk_at dksX2_readDevice_6 17 rfl rfl)
theorem dX2_readDevice_159 : decode cX2_readDevice 159 = .ok (.aload_n 0, 1) := dk_42 (dk_at dksX2_readDevice_6 20 rfl rfl)
theorem dX2_readDevice_160 : decode cX2_readDevice 160 = .ok (.getfield 20, 3) := dk_180 0 20 (dk_at dksX2_readDevice_6 21 rfl rfl)
theorem dX2_readDevice_163 : decode cX2_readDevice 163 = .ok (.bipush 86, 2) := dk_16 86 (dk_at dksX2_readDevice_7 0 rfl rfl)
theorem dX2_readDevice_165 : decode cX2_readDevice 165 = .ok (.iload_n 1, 1) := dk_27 (dk_at dksX2_readDevice_7 2 rfl rfl)
theorem dX2_readDevice_166 : decode cX2_readDevice 166 = .ok (.iadd, 1) := dk_96 (dk_at dksX2_readDevice_7 3 rfl rfl)
theorem dX2_readDevice_167 : decode cX2_readDevice 167 = .ok (.iload_n 2, 1) := dk_28 (dk_at dksX2_readDevice_7 4 rfl rfl)
theorem dX2_readDevice_168 : decode cX2_readDevice 168 = .ok (.iastore, 1) := dk_79 (dk_at dksX2_readDevice_7 5 rfl rfl)
theorem dX2_readDevice_169 : decode cX2_readDevice 169 = .ok (.aload_n 0, 1) := dk_42 (dk_at dksX2_readDevice_7 6 rfl rfl)
theorem dX2_readDevice_170 : decode cX2_readDevice 170 = .ok (.getfield 26, 3) := dk_180 0 26 (dk_at dksX2_readDevice_7 7 rfl rfl)
theorem dX2_readDevice_173 : decode cX2_readDevice 173 = .ok (.bipush 6, 2) := dk_16 6 (dk_at dksX2_readDevice_7 10 rfl rfl)
theorem dX2_readDevice_175 : decode cX2_readDevice 175 = .ok (.iload_n 1, 1) := dk_27 (dk_at dksX2_readDevice_7 12 rfl rfl)
theorem dX2_readDevice_176 : decode cX2_readDevice 176 = .ok (.iadd, 1) := dk_96 (dk_at dksX2_readDevice_7 13 rfl rfl)
theorem dX2_readDevice_177 : decode cX2_readDevice 177 = .ok (.aload_n 0, 1) := dk_42 (dk_at dksX2_readDevice_7 14 rfl rfl)
theorem dX2_readDevice_178 : decode cX2_readDevice 178 = .ok (.ldc 197, 2) := dk_18 197 (dk_at dksX2_readDevice_7 15 rfl rfl)
theorem dX2_readDevice_180 : decode cX2_readDevice 180 = .ok (.invokevirtual 140, 3) := dk_182 0 140 (dk_at dksX2_readDevice_7 17 rfl rfl)
theorem dX2_readDevice_183 : decode cX2_readDevice 183 = .ok (.ifCond .eq 7, 3) := dk_153 0 7 (dk_at dksX2_readDevice_7 20 rfl rfl)
theorem dX2_readDevice_186 : decode cX2_readDevice 186 = .ok (.iconst 0, 1) := dk_3 (dk_at dksX2_readDevice_7 23 rfl rfl)
theorem dX2_readDevice_187 : decode cX2_readDevice 187 = .ok (.goto 4, 3) := dk_167 0 4 (dk_at dksX2_readDevice_8 0 rfl rfl)
theorem dX2_readDevice_190 : decode cX2_readDevice 190 = .ok (.iconst 1, 1) := dk_4 (dk_at dksX2_readDevice_8 3 rfl rfl)
theorem dX2_readDevice_191 : decode cX2_readDevice 191 = .ok (.iastore, 1) := dk_79 (dk_at dksX2_readDevice_8 4 rfl rfl)
theorem dX2_readDevice_192 : decode cX2_readDevice 192 = .ok (.aload_n 0, 1) := dk_42 (dk_at dksX2_readDevice_8 5 rfl rfl)
theorem dX2_readDevice_193 : decode cX2_readDevice 193 = .ok (.getfield 26, 3) := dk_180 0 26 (dk_at dksX2_readDevice_8 6 rfl rfl)
theorem dX2_readDevice_196 : decode cX2_readDevice 196 = .ok (.bipush 38, 2) := dk_16 38 (dk_at dksX2_readDevice_8 9 rfl rfl)
theorem dX2_readDevice_198 : decode cX2_readDevice 198 = .ok (.iload_n 1, 1) := dk_27 (dk_at dksX2_readDevice_8 11 rfl rfl)
theorem dX2_readDevice_199 : decode cX2_readDevice 199 = .ok (.iadd, 1) := dk_96 (dk_at dksX2_readDevice_8 12 rfl rfl)
theorem dX2_readDevice_200 : decode cX2_readDevice 200 = .ok (.iconst (-1), 1) := dk_2 (dk_at dksX2_readDevice_8 13 rfl rfl)
theorem dX2_readDevice_201 : decode cX2_readDevice 201 = .ok (.iastore, 1) := dk_79 (dk_at dksX2_readDevice_8 14 rfl rfl)
theorem dX2_readDevice_202 : decode cX2_readDevice 202 = .ok (.aload_n 0, 1) := dk_42 (dk_at dksX2_readDevice_8 15 rfl rfl)
theorem dX2_readDevice_203 : decode cX2_readDevice 203 = .ok (.getfield 20, 3) := dk_180 0 20 (dk_at dksX2_readDevice_8 16 rfl rfl)
theorem dX2_readDevice_206 : decode cX2_readDevice 206 = .ok (.bipush 10, 2) := dk_16 10 (dk_at dksX2_readDevice_8 19 rfl rfl)
theorem dX2_readDevice_208 : decode cX2_readDevice 208 = .ok (.dup2, 1) := dk_92 (dk_at dksX2_readDevice_8 21 rfl rfl)
theorem dX2_readDevice_209 : decode cX2_readDevice 209 = .ok (.iaload, 1) := dk_46 (dk_at dksX2_readDevice_8 22 rfl rfl)
theorem dX2_readDevice_210 : decode cX2_readDevice 210 = .ok (.iconst 1, 1) := dk_4 (dk_at dksX2_readDevice_8 23 rfl rfl)
theorem dX2_readDevice_211 : decode cX2_readDevice 211 = .ok (.iadd, 1) := dk_96 (dk_at dksX2_readDevice_9 0 rfl rfl)
theorem dX2_readDevice_212 : decode cX2_readDevice 212 = .ok (.iastore, 1) := dk_79 (dk_at dksX2_readDevice_9 1 rfl rfl)
theorem dX2_readDevice_213 : decode cX2_readDevice 213 = .ok (.return_, 1) := dk_177 (dk_at dksX2_readDevice_9 2 rfl rfl)
abbrev cX2_isInArea : ByteArray := prog_22_method_29_code
def yX2_isInArea : MethodName := ⟨RX2, "isInArea", "([IIII)Z"⟩
def dkwX2_isInArea_2 : List UInt8 := [167, 0, 4, 3, 172]
abbrev dktX2_isInArea_2 : List UInt8 := dkwX2_isInArea_2 ++ []
def dkwX2_isInArea_1 : List UInt8 := [153, 0, 26, 29, 42, 21, 4, 4, 96, 46, 42, 21, 4, 6, 96, 46, 184, 0, 114, 153, 0, 7, 4]
abbrev dktX2_isInArea_1 : List UInt8 := dkwX2_isInArea_1 ++ dktX2_isInArea_2
def dkwX2_isInArea_0 : List UInt8 := [16, 29, 7, 27, 104, 96, 54, 4, 28, 42, 21, 4, 46, 42, 21, 4, 5, 96, 46, 184, 0, 114]
abbrev dktX2_isInArea_0 : List UInt8 := dkwX2_isInArea_0 ++ dktX2_isInArea_1
theorem dksX2_isInArea_0 : cX2_isInArea.data.toList.drop 0 = dktX2_isInArea_0 := by decide +kernel
theorem dksX2_isInArea_1 : cX2_isInArea.data.toList.drop 22 = dktX2_isInArea_1 := dk_seg dksX2_isInArea_0 22 rfl rfl
theorem dksX2_isInArea_2 : cX2_isInArea.data.toList.drop 45 = dktX2_isInArea_2 := dk_seg dksX2_isInArea_1 23 rfl rfl
theorem dX2_isInArea_0 : decode cX2_isInArea 0 = .ok (.bipush 29, 2) := dk_16 29 (dk_at dksX2_isInArea_0 0 rfl rfl)
theorem dX2_isInArea_2 : decode cX2_isInArea 2 = .ok (.iconst 4, 1) := dk_7 (dk_at dksX2_isInArea_0 2 rfl rfl)
theorem dX2_isInArea_3 : decode cX2_isInArea 3 = .ok (.iload_n 1, 1) := dk_27 (dk_at dksX2_isInArea_0 3 rfl rfl)
theorem dX2_isInArea_4 : decode cX2_isInArea 4 = .ok (.imul, 1) := dk_104 (dk_at dksX2_isInArea_0 4 rfl rfl)
theorem dX2_isInArea_5 : decode cX2_isInArea 5 = .ok (.iadd, 1) := dk_96 (dk_at dksX2_isInArea_0 5 rfl rfl)
theorem dX2_isInArea_6 : decode cX2_isInArea 6 = .ok (.istore 4, 2) := dk_54 4 (dk_at dksX2_isInArea_0 6 rfl rfl)
theorem dX2_isInArea_8 : decode cX2_isInArea 8 = .ok (.iload_n 2, 1) := dk_28 (dk_at dksX2_isInArea_0 8 rfl rfl)
theorem dX2_isInArea_9 : decode cX2_isInArea 9 = .ok (.aload_n 0, 1) := dk_42 (dk_at dksX2_isInArea_0 9 rfl rfl)
theorem dX2_isInArea_10 : decode cX2_isInArea 10 = .ok (.iload 4, 2) := dk_21 4 (dk_at dksX2_isInArea_0 10 rfl rfl)
theorem dX2_isInArea_12 : decode cX2_isInArea 12 = .ok (.iaload, 1) := dk_46 (dk_at dksX2_isInArea_0 12 rfl rfl)
theorem dX2_isInArea_13 : decode cX2_isInArea 13 = .ok (.aload_n 0, 1) := dk_42 (dk_at dksX2_isInArea_0 13 rfl rfl)
theorem dX2_isInArea_14 : decode cX2_isInArea 14 = .ok (.iload 4, 2) := dk_21 4 (dk_at dksX2_isInArea_0 14 rfl rfl)
theorem dX2_isInArea_16 : decode cX2_isInArea 16 = .ok (.iconst 2, 1) := dk_5 (dk_at dksX2_isInArea_0 16 rfl rfl)
theorem dX2_isInArea_17 : decode cX2_isInArea 17 = .ok (.iadd, 1) := dk_96 (dk_at dksX2_isInArea_0 17 rfl rfl)
theorem dX2_isInArea_18 : decode cX2_isInArea 18 = .ok (.iaload, 1) := dk_46 (dk_at dksX2_isInArea_0 18 rfl rfl)
theorem dX2_isInArea_19 : decode cX2_isInArea 19 = .ok (.invokestatic 114, 3) := dk_184 0 114 (dk_at dksX2_isInArea_0 19 rfl rfl)
theorem dX2_isInArea_22 : decode cX2_isInArea 22 = .ok (.ifCond .eq 26, 3) := dk_153 0 26 (dk_at dksX2_isInArea_1 0 rfl rfl)
theorem dX2_isInArea_25 : decode cX2_isInArea 25 = .ok (.iload_n 3, 1) := dk_29 (dk_at dksX2_isInArea_1 3 rfl rfl)
theorem dX2_isInArea_26 : decode cX2_isInArea 26 = .ok (.aload_n 0, 1) := dk_42 (dk_at dksX2_isInArea_1 4 rfl rfl)
theorem dX2_isInArea_27 : decode cX2_isInArea 27 = .ok (.iload 4, 2) := dk_21 4 (dk_at dksX2_isInArea_1 5 rfl rfl)
theorem dX2_isInArea_29 : decode cX2_isInArea 29 = .ok (.iconst 1, 1) := dk_4 (dk_at dksX2_isInArea_1 7 rfl rfl)
theorem dX2_isInArea_30 : decode cX2_isInArea 30 = .ok (.iadd, 1) := dk_96 (dk_at dksX2_isInArea_1 8 rfl rfl)
theorem dX2_isInArea_31 : decode cX2_isInArea 31 = .ok (.iaload, 1) := dk_46 (dk_at dksX2_isInArea_1 9 rfl rfl)
theorem dX2_isInArea_32 : decode cX2_isInArea 32 = .ok (.aload_n 0, 1) := dk_42 (dk_at dksX2_isInArea_1 10 rfl rfl)
theorem dX2_isInArea_33 : decode cX2_isInArea 33 = .ok (.iload 4, 2) := dk_21 4 (dk_at dksX2_isInArea_1 11 rfl rfl)
theorem dX2_isInArea_35 : decode cX2_isInArea 35 = .ok (.iconst 3, 1) := dk_6 (dk_at dksX2_isInArea_1 13 rfl rfl)
theorem dX2_isInArea_36 : decode cX2_isInArea 36 = .ok (.iadd, 1) := dk_96 (dk_at dksX2_isInArea_1 14 rfl rfl)
theorem dX2_isInArea_37 : decode cX2_isInArea 37 = .ok (.iaload, 1) := dk_46 (dk_at dksX2_isInArea_1 15 rfl rfl)
theorem dX2_isInArea_38 : decode cX2_isInArea 38 = .ok (.invokestatic 114, 3) := dk_184 0 114 (dk_at dksX2_isInArea_1 16 rfl rfl)
theorem dX2_isInArea_41 : decode cX2_isInArea 41 = .ok (.ifCond .eq 7, 3) := dk_153 0 7 (dk_at dksX2_isInArea_1 19 rfl rfl)
theorem dX2_isInArea_44 : decode cX2_isInArea 44 = .ok (.iconst 1, 1) := dk_4 (dk_at dksX2_isInArea_1 22 rfl rfl)
theorem dX2_isInArea_45 : decode cX2_isInArea 45 = .ok (.goto 4, 3) := dk_167 0 4 (dk_at dksX2_isInArea_2 0 rfl rfl)
theorem dX2_isInArea_48 : decode cX2_isInArea 48 = .ok (.iconst 0, 1) := dk_3 (dk_at dksX2_isInArea_2 3 rfl rfl)
theorem dX2_isInArea_49 : decode cX2_isInArea 49 = .ok (.ireturn, 1) := dk_172 (dk_at dksX2_isInArea_2 4 rfl rfl)
abbrev cX2_readDenial : ByteArray := prog_22_method_37_code
def yX2_readDenial : MethodName := ⟨RX2, "readDenial", "()V"⟩
def dkwX2_readDenial_2 : List UInt8 := [180, 0, 20, 16, 102, 46, 96, 27, 79, 42, 180, 0, 20, 16, 102, 92, 46, 4, 96, 79, 177]
abbrev dktX2_readDenial_2 : List UInt8 := dkwX2_readDenial_2 ++ []
def dkwX2_readDenial_1 : List UInt8 := [181, 0, 224, 42, 182, 0, 233, 60, 42, 180, 0, 95, 158, 0, 4, 177, 42, 180, 0, 20, 16, 103, 42]
abbrev dktX2_readDenial_1 : List UInt8 := dkwX2_readDenial_1 ++ dktX2_readDenial_2
def dkwX2_readDenial_0 : List UInt8 := [42, 180, 0, 20, 16, 102, 46, 7, 160, 0, 8, 42, 7, 182, 0, 143, 42, 182, 0, 137, 42, 3]
abbrev dktX2_readDenial_0 : List UInt8 := dkwX2_readDenial_0 ++ dktX2_readDenial_1
theorem dksX2_readDenial_0 : cX2_readDenial.data.toList.drop 0 = dktX2_readDenial_0 := by decide +kernel
theorem dksX2_readDenial_1 : cX2_readDenial.data.toList.drop 22 = dktX2_readDenial_1 := dk_seg dksX2_readDenial_0 22 rfl rfl
theorem dksX2_readDenial_2 : cX2_readDenial.data.toList.drop 45 = dktX2_readDenial_2 := dk_seg dksX2_readDenial_1 23 rfl rfl
theorem dX2_readDenial_0 : decode cX2_readDenial 0 = .ok (.aload_n 0, 1) := dk_42 (dk_at dksX2_readDenial_0 0 rfl rfl)
theorem dX2_readDenial_1 : decode cX2_readDenial 1 = .ok (.getfield 20, 3) := dk_180 0 20 (dk_at dksX2_readDenial_0 1 rfl rfl)
theorem dX2_readDenial_4 : decode cX2_readDenial 4 = .ok (.bipush 102, 2) := dk_16 102 (dk_at dksX2_readDenial_0 4 rfl rfl)
theorem dX2_readDenial_6 : decode cX2_readDenial 6 = .ok (.iaload, 1) := dk_46 (dk_at dksX2_readDenial_0 6 rfl rfl)
theorem dX2_readDenial_7 : decode cX2_readDenial 7 = .ok (.iconst 4, 1) := dk_7 (dk_at dksX2_readDenial_0 7 rfl rfl)
theorem dX2_readDenial_8 : decode cX2_readDenial 8 = .ok (.if_icmp .ne 8, 3) := dk_160 0 8 (dk_at dksX2_readDenial_0 8 rfl rfl)
theorem dX2_readDenial_11 : decode cX2_readDenial 11 = .ok (.aload_n 0, 1) := dk_42 (dk_at dksX2_readDenial_0 11 rfl rfl)
theorem dX2_readDenial_12 : decode cX2_readDenial 12 = .ok (.iconst 4, 1) := dk_7 (dk_at dksX2_readDenial_0 12 rfl rfl)
theorem dX2_readDenial_13 : decode cX2_readDenial 13 = .ok (.invokevirtual 143, 3) := dk_182 0 143 (dk_at dksX2_readDenial_0 13 rfl rfl)
theorem dX2_readDenial_16 : decode cX2_readDenial 16 = .ok (.aload_n 0, 1) := dk_42 (dk_at dksX2_readDenial_0 16 rfl rfl)
theorem dX2_readDenial_17 : decode cX2_readDenial 17 = .ok (.invokevirtual 137, 3) := dk_182 0 137 (dk_at dksX2_readDenial_0 17 rfl rfl)
theorem dX2_readDenial_20 : decode cX2_readDenial 20 = .ok (.aload_n 0, 1) := dk_42 (dk_at dksX2_readDenial_0 20 rfl rfl)
theorem dX2_readDenial_21 : decode cX2_readDenial 21 = .ok (.iconst 0, 1) := dk_3 (dk_at dksX2_readDenial_0 21 rfl rfl)
theorem dX2_readDenial_22 : decode cX2_readDenial 22 = .ok (.putfield 224, 3) := dk_181 0 224 (dk_at dksX2_readDenial_1 0 rfl rfl)
theorem dX2_readDenial_25 : decode cX2_readDenial 25 = .ok (.aload_n 0, 1) := dk_42 (dk_at dksX2_readDenial_1 3 rfl rfl)
theorem dX2_readDenial_26 : decode cX2_readDenial 26 = .ok (.invokevirtual 233, 3) := dk_182 0 233 (dk_at dksX2_readDenial_1 4 rfl rfl)
theorem dX2_readDenial_29 : decode cX2_readDenial 29 = .ok (.istore_n 1, 1) := dk_60 (dk_at dksX2_readDenial_1 7 rfl rfl)
theorem dX2_readDenial_30 : decode cX2_readDenial 30 = .ok (.aload_n 0, 1) := dk_42 (dk_at dksX2_readDenial_1 8 rfl rfl)
theorem dX2_readDenial_31 : decode cX2_readDenial 31 = .ok (.getfield 95, 3) := dk_180 0 95 (dk_at dksX2_readDenial_1 9 rfl rfl)
theorem dX2_readDenial_34 : decode cX2_readDenial 34 = .ok (.ifCond .le 4, 3) := dk_158 0 4 (dk_at dksX2_readDenial_1 12 rfl rfl)
theorem dX2_readDenial_37 : decode cX2_readDenial 37 = .ok (.return_, 1) := dk_177 (dk_at dksX2_readDenial_1 15 rfl rfl)
theorem dX2_readDenial_38 : decode cX2_readDenial 38 = .ok (.aload_n 0, 1) := dk_42 (dk_at dksX2_readDenial_1 16 rfl rfl)
theorem dX2_readDenial_39 : decode cX2_readDenial 39 = .ok (.getfield 20, 3) := dk_180 0 20 (dk_at dksX2_readDenial_1 17 rfl rfl)
theorem dX2_readDenial_42 : decode cX2_readDenial 42 = .ok (.bipush 103, 2) := dk_16 103 (dk_at dksX2_readDenial_1 20 rfl rfl)
theorem dX2_readDenial_44 : decode cX2_readDenial 44 = .ok (.aload_n 0, 1) := dk_42 (dk_at dksX2_readDenial_1 22 rfl rfl)
theorem dX2_readDenial_45 : decode cX2_readDenial 45 = .ok (.getfield 20, 3) := dk_180 0 20 (dk_at dksX2_readDenial_2 0 rfl rfl)
theorem dX2_readDenial_48 : decode cX2_readDenial 48 = .ok (.bipush 102, 2) := dk_16 102 (dk_at dksX2_readDenial_2 3 rfl rfl)
theorem dX2_readDenial_50 : decode cX2_readDenial 50 = .ok (.iaload, 1) := dk_46 (dk_at dksX2_readDenial_2 5 rfl rfl)
theorem dX2_readDenial_51 : decode cX2_readDenial 51 = .ok (.iadd, 1) := dk_96 (dk_at dksX2_readDenial_2 6 rfl rfl)
theorem dX2_readDenial_52 : decode cX2_readDenial 52 = .ok (.iload_n 1, 1) := dk_27 (dk_at dksX2_readDenial_2 7 rfl rfl)
theorem dX2_readDenial_53 : decode cX2_readDenial 53 = .ok (.iastore, 1) := dk_79 (dk_at dksX2_readDenial_2 8 rfl rfl)
theorem dX2_readDenial_54 : decode cX2_readDenial 54 = .ok (.aload_n 0, 1) := dk_42 (dk_at dksX2_readDenial_2 9 rfl rfl)
theorem dX2_readDenial_55 : decode cX2_readDenial 55 = .ok (.getfield 20, 3) := dk_180 0 20 (dk_at dksX2_readDenial_2 10 rfl rfl)
theorem dX2_readDenial_58 : decode cX2_readDenial 58 = .ok (.bipush 102, 2) := dk_16 102 (dk_at dksX2_readDenial_2 13 rfl rfl)
theorem dX2_readDenial_60 : decode cX2_readDenial 60 = .ok (.dup2, 1) := dk_92 (dk_at dksX2_readDenial_2 15 rfl rfl)
theorem dX2_readDenial_61 : decode cX2_readDenial 61 = .ok (.iaload, 1) := dk_46 (dk_at dksX2_readDenial_2 16 rfl rfl)
theorem dX2_readDenial_62 : decode cX2_readDenial 62 = .ok (.iconst 1, 1) := dk_4 (dk_at dksX2_readDenial_2 17 rfl rfl)
theorem dX2_readDenial_63 : decode cX2_readDenial 63 = .ok (.iadd, 1) := dk_96 (dk_at dksX2_readDenial_2 18 rfl rfl)
theorem dX2_readDenial_64 : decode cX2_readDenial 64 = .ok (.iastore, 1) := dk_79 (dk_at dksX2_readDenial_2 19 rfl rfl)
theorem dX2_readDenial_65 : decode cX2_readDenial 65 = .ok (.return_, 1) := dk_177 (dk_at dksX2_readDenial_2 20 rfl rfl)
abbrev cX2_test : ByteArray := prog_22_method_32_code
def yX2_test : MethodName := ⟨RX2, "test", "()I"⟩
def dkwX2_test_2 : List UInt8 := [180, 0, 67, 27, 42, 28, 27, 29, 182, 0, 212, 79, 42, 180, 0, 67, 27, 46, 60, 167, 255, 194, 27, 172]
abbrev dktX2_test_2 : List UInt8 := dkwX2_test_2 ++ []
def dkwX2_test_1 : List UInt8 := [18, 208, 182, 0, 133, 153, 0, 7, 3, 167, 0, 4, 4, 61, 42, 182, 0, 137, 42, 182, 0, 205, 62, 42]
abbrev dktX2_test_1 : List UInt8 := dkwX2_test_1 ++ dktX2_test_2
def dkwX2_test_0 : List UInt8 := [42, 182, 0, 205, 60, 42, 18, 208, 182, 0, 133, 154, 0, 12, 42, 18, 210, 182, 0, 133, 153, 0, 50, 42]
abbrev dktX2_test_0 : List UInt8 := dkwX2_test_0 ++ dktX2_test_1
theorem dksX2_test_0 : cX2_test.data.toList.drop 0 = dktX2_test_0 := by decide +kernel
theorem dksX2_test_1 : cX2_test.data.toList.drop 24 = dktX2_test_1 := dk_seg dksX2_test_0 24 rfl rfl
theorem dksX2_test_2 : cX2_test.data.toList.drop 48 = dktX2_test_2 := dk_seg dksX2_test_1 24 rfl rfl
theorem dX2_test_0 : decode cX2_test 0 = .ok (.aload_n 0, 1) := dk_42 (dk_at dksX2_test_0 0 rfl rfl)
theorem dX2_test_1 : decode cX2_test 1 = .ok (.invokevirtual 205, 3) := dk_182 0 205 (dk_at dksX2_test_0 1 rfl rfl)
theorem dX2_test_4 : decode cX2_test 4 = .ok (.istore_n 1, 1) := dk_60 (dk_at dksX2_test_0 4 rfl rfl)
theorem dX2_test_5 : decode cX2_test 5 = .ok (.aload_n 0, 1) := dk_42 (dk_at dksX2_test_0 5 rfl rfl)
theorem dX2_test_6 : decode cX2_test 6 = .ok (.ldc 208, 2) := dk_18 208 (dk_at dksX2_test_0 6 rfl rfl)
theorem dX2_test_8 : decode cX2_test 8 = .ok (.invokevirtual 133, 3) := dk_182 0 133 (dk_at dksX2_test_0 8 rfl rfl)
theorem dX2_test_11 : decode cX2_test 11 = .ok (.ifCond .ne 12, 3) := dk_154 0 12 (dk_at dksX2_test_0 11 rfl rfl)
theorem dX2_test_14 : decode cX2_test 14 = .ok (.aload_n 0, 1) := dk_42 (dk_at dksX2_test_0 14 rfl rfl)
theorem dX2_test_15 : decode cX2_test 15 = .ok (.ldc 210, 2) := dk_18 210 (dk_at dksX2_test_0 15 rfl rfl)
theorem dX2_test_17 : decode cX2_test 17 = .ok (.invokevirtual 133, 3) := dk_182 0 133 (dk_at dksX2_test_0 17 rfl rfl)
theorem dX2_test_20 : decode cX2_test 20 = .ok (.ifCond .eq 50, 3) := dk_153 0 50 (dk_at dksX2_test_0 20 rfl rfl)
theorem dX2_test_23 : decode cX2_test 23 = .ok (.aload_n 0, 1) := dk_42 (dk_at dksX2_test_0 23 rfl rfl)
theorem dX2_test_24 : decode cX2_test 24 = .ok (.ldc 208, 2) := dk_18 208 (dk_at dksX2_test_1 0 rfl rfl)
theorem dX2_test_26 : decode cX2_test 26 = .ok (.invokevirtual 133, 3) := dk_182 0 133 (dk_at dksX2_test_1 2 rfl rfl)
theorem dX2_test_29 : decode cX2_test 29 = .ok (.ifCond .eq 7, 3) := dk_153 0 7 (dk_at dksX2_test_1 5 rfl rfl)
theorem dX2_test_32 : decode cX2_test 32 = .ok (.iconst 0, 1) := dk_3 (dk_at dksX2_test_1 8 rfl rfl)
theorem dX2_test_33 : decode cX2_test 33 = .ok (.goto 4, 3) := dk_167 0 4 (dk_at dksX2_test_1 9 rfl rfl)
theorem dX2_test_36 : decode cX2_test 36 = .ok (.iconst 1, 1) := dk_4 (dk_at dksX2_test_1 12 rfl rfl)
theorem dX2_test_37 : decode cX2_test 37 = .ok (.istore_n 2, 1) := dk_61 (dk_at dksX2_test_1 13 rfl rfl)
theorem dX2_test_38 : decode cX2_test 38 = .ok (.aload_n 0, 1) := dk_42 (dk_at dksX2_test_1 14 rfl rfl)
theorem dX2_test_39 : decode cX2_test 39 = .ok (.invokevirtual 137, 3) := dk_182 0 137 (dk_at dksX2_test_1 15 rfl rfl)
theorem dX2_test_42 : decode cX2_test 42 = .ok (.aload_n 0, 1) := dk_42 (dk_at dksX2_test_1 18 rfl rfl)
theorem dX2_test_43 : decode cX2_test 43 = .ok (.invokevirtual 205, 3) := dk_182 0 205 (dk_at dksX2_test_1 19 rfl rfl)
theorem dX2_test_46 : decode cX2_test 46 = .ok (.istore_n 3, 1) := dk_62 (dk_at dksX2_test_1 22 rfl rfl)
theorem dX2_test_47 : decode cX2_test 47 = .ok (.aload_n 0, 1) := dk_42 (dk_at dksX2_test_1 23 rfl rfl)
theorem dX2_test_48 : decode cX2_test 48 = .ok (.getfield 67, 3) := dk_180 0 67 (dk_at dksX2_test_2 0 rfl rfl)
theorem dX2_test_51 : decode cX2_test 51 = .ok (.iload_n 1, 1) := dk_27 (dk_at dksX2_test_2 3 rfl rfl)
theorem dX2_test_52 : decode cX2_test 52 = .ok (.aload_n 0, 1) := dk_42 (dk_at dksX2_test_2 4 rfl rfl)
theorem dX2_test_53 : decode cX2_test 53 = .ok (.iload_n 2, 1) := dk_28 (dk_at dksX2_test_2 5 rfl rfl)
theorem dX2_test_54 : decode cX2_test 54 = .ok (.iload_n 1, 1) := dk_27 (dk_at dksX2_test_2 6 rfl rfl)
theorem dX2_test_55 : decode cX2_test 55 = .ok (.iload_n 3, 1) := dk_29 (dk_at dksX2_test_2 7 rfl rfl)
theorem dX2_test_56 : decode cX2_test 56 = .ok (.invokevirtual 212, 3) := dk_182 0 212 (dk_at dksX2_test_2 8 rfl rfl)
theorem dX2_test_59 : decode cX2_test 59 = .ok (.iastore, 1) := dk_79 (dk_at dksX2_test_2 11 rfl rfl)
theorem dX2_test_60 : decode cX2_test 60 = .ok (.aload_n 0, 1) := dk_42 (dk_at dksX2_test_2 12 rfl rfl)
theorem dX2_test_61 : decode cX2_test 61 = .ok (.getfield 67, 3) := dk_180 0 67 (dk_at dksX2_test_2 13 rfl rfl)
theorem dX2_test_64 : decode cX2_test 64 = .ok (.iload_n 1, 1) := dk_27 (dk_at dksX2_test_2 16 rfl rfl)
theorem dX2_test_65 : decode cX2_test 65 = .ok (.iaload, 1) := dk_46 (dk_at dksX2_test_2 17 rfl rfl)
theorem dX2_test_66 : decode cX2_test 66 = .ok (.istore_n 1, 1) := dk_60 (dk_at dksX2_test_2 18 rfl rfl)
theorem dX2_test_67 : decode cX2_test 67 = .ok (.goto (-62), 3) := dk_167 255 194 (dk_at dksX2_test_2 19 rfl rfl)
theorem dX2_test_70 : decode cX2_test 70 = .ok (.iload_n 1, 1) := dk_27 (dk_at dksX2_test_2 22 rfl rfl)
theorem dX2_test_71 : decode cX2_test 71 = .ok (.ireturn, 1) := dk_172 (dk_at dksX2_test_2 23 rfl rfl)
abbrev cX2_unit : ByteArray := prog_22_method_34_code
def yX2_unit : MethodName := ⟨RX2, "unit", "()I"⟩
def dkwX2_unit_5 : List UInt8 := [181, 0, 224, 28, 172]
abbrev dktX2_unit_5 : List UInt8 := dkwX2_unit_5 ++ []
def dkwX2_unit_4 : List UInt8 := [160, 0, 10, 42, 182, 0, 227, 167, 0, 8, 42, 27, 182, 0, 230, 61, 42, 89, 180, 0, 224, 4, 100]
abbrev dktX2_unit_4 : List UInt8 := dkwX2_unit_4 ++ dktX2_unit_5
def dkwX2_unit_3 : List UInt8 := [18, 219, 182, 0, 140, 153, 0, 17, 42, 5, 42, 182, 0, 205, 3, 182, 0, 212, 61, 167, 0, 21, 27, 2]
abbrev dktX2_unit_3 : List UInt8 := dkwX2_unit_3 ++ dktX2_unit_4
def dkwX2_unit_2 : List UInt8 := [182, 0, 143, 42, 180, 0, 95, 158, 0, 5, 3, 172, 42, 89, 180, 0, 224, 4, 96, 181, 0, 224, 42]
abbrev dktX2_unit_2 : List UInt8 := dkwX2_unit_2 ++ dktX2_unit_3
def dkwX2_unit_1 : List UInt8 := [182, 0, 221, 154, 0, 8, 42, 4, 182, 0, 143, 42, 180, 0, 224, 16, 9, 164, 0, 9, 42, 16, 6]
abbrev dktX2_unit_1 : List UInt8 := dkwX2_unit_1 ++ dktX2_unit_2
def dkwX2_unit_0 : List UInt8 := [42, 182, 0, 216, 60, 27, 2, 160, 0, 26, 42, 18, 219, 182, 0, 133, 154, 0, 17, 42, 16, 40]
abbrev dktX2_unit_0 : List UInt8 := dkwX2_unit_0 ++ dktX2_unit_1
theorem dksX2_unit_0 : cX2_unit.data.toList.drop 0 = dktX2_unit_0 := by decide +kernel
theorem dksX2_unit_1 : cX2_unit.data.toList.drop 22 = dktX2_unit_1 := dk_seg dksX2_unit_0 22 rfl rfl
theorem dksX2_unit_2 : cX2_unit.data.toList.drop 45 = dktX2_unit_2 := dk_seg dksX2_unit_1 23 rfl rfl
theorem dksX2_unit_3 : cX2_unit.data.toList.drop 68 = dktX2_unit_3 := dk_seg dksX2_unit_2 23 rfl rfl
theorem dksX2_unit_4 : cX2_unit.data.toList.drop 92 = dktX2_unit_4 := dk_seg dksX2_unit_3 24 rfl rfl
theorem dksX2_unit_5 : cX2_unit.data.toList.drop 115 = dktX2_unit_5 := dk_seg dksX2_unit_4 23 rfl rfl
theorem dX2_unit_0 : decode cX2_unit 0 = .ok (.aload_n 0, 1) := dk_42 (dk_at dksX2_unit_0 0 rfl rfl)
theorem dX2_unit_1 : decode cX2_unit 1 = .ok (.invokevirtual 216, 3) := dk_182 0 216 (dk_at dksX2_unit_0 1 rfl rfl)
theorem dX2_unit_4 : decode cX2_unit 4 = .ok (.istore_n 1, 1) := dk_60 (dk_at dksX2_unit_0 4 rfl rfl)
theorem dX2_unit_5 : decode cX2_unit 5 = .ok (.iload_n 1, 1) := dk_27 (dk_at dksX2_unit_0 5 rfl rfl)
theorem dX2_unit_6 : decode cX2_unit 6 = .ok (.iconst (-1), 1) := dk_2 (dk_at dksX2_unit_0 6 rfl rfl)
theorem dX2_unit_7 : decode cX2_unit 7 = .ok (.if_icmp .ne 26, 3) := dk_160 0 26 (dk_at dksX2_unit_0 7 rfl rfl)
theorem dX2_unit_10 : decode cX2_unit 10 = .ok (.aload_n 0, 1) := dk_42 (dk_at dksX2_unit_0 10 rfl rfl)
theorem dX2_unit_11 : decode cX2_unit 11 = .ok (.ldc 219, 2) := dk_18 219 (dk_at dksX2_unit_0 11 rfl rfl)
theorem dX2_unit_13 : decode cX2_unit 13 = .ok (.invokevirtual 133, 3) := dk_182 0 133 (dk_at dksX2_unit_0 13 rfl rfl)
theorem dX2_unit_16 : decode cX2_unit 16 = .ok (.ifCond .ne 17, 3) := dk_154 0 17 (dk_at dksX2_unit_0 16 rfl rfl)
theorem dX2_unit_19 : decode cX2_unit 19 = .ok (.aload_n 0, 1) := dk_42 (dk_at dksX2_unit_0 19 rfl rfl)
theorem dX2_unit_20 : decode cX2_unit 20 = .ok (.bipush 40, 2) := dk_16 40 (dk_at dksX2_unit_0 20 rfl rfl)
theorem dX2_unit_22 : decode cX2_unit 22 = .ok (.invokevirtual 221, 3) := dk_182 0 221 (dk_at dksX2_unit_1 0 rfl rfl)
theorem dX2_unit_25 : decode cX2_unit 25 = .ok (.ifCond .ne 8, 3) := dk_154 0 8 (dk_at dksX2_unit_1 3 rfl rfl)
theorem dX2_unit_28 : decode cX2_unit 28 = .ok (.aload_n 0, 1) := dk_42 (dk_at dksX2_unit_1 6 rfl rfl)
theorem dX2_unit_29 : decode cX2_unit 29 = .ok (.iconst 1, 1) := dk_4 (dk_at dksX2_unit_1 7 rfl rfl)
theorem dX2_unit_30 : decode cX2_unit 30 = .ok (.invokevirtual 143, 3) := dk_182 0 143 (dk_at dksX2_unit_1 8 rfl rfl)
theorem dX2_unit_33 : decode cX2_unit 33 = .ok (.aload_n 0, 1) := dk_42 (dk_at dksX2_unit_1 11 rfl rfl)
theorem dX2_unit_34 : decode cX2_unit 34 = .ok (.getfield 224, 3) := dk_180 0 224 (dk_at dksX2_unit_1 12 rfl rfl)
theorem dX2_unit_37 : decode cX2_unit 37 = .ok (.bipush 9, 2) := dk_16 9 (dk_at dksX2_unit_1 15 rfl rfl)
theorem dX2_unit_39 : decode cX2_unit 39 = .ok (.if_icmp .le 9, 3) := dk_164 0 9 (dk_at dksX2_unit_1 17 rfl rfl)
theorem dX2_unit_42 : decode cX2_unit 42 = .ok (.aload_n 0, 1) := dk_42 (dk_at dksX2_unit_1 20 rfl rfl)
theorem dX2_unit_43 : decode cX2_unit 43 = .ok (.bipush 6, 2) := dk_16 6 (dk_at dksX2_unit_1 21 rfl rfl)
theorem dX2_unit_45 : decode cX2_unit 45 = .ok (.invokevirtual 143, 3) := dk_182 0 143 (dk_at dksX2_unit_2 0 rfl rfl)
theorem dX2_unit_48 : decode cX2_unit 48 = .ok (.aload_n 0, 1) := dk_42 (dk_at dksX2_unit_2 3 rfl rfl)
theorem dX2_unit_49 : decode cX2_unit 49 = .ok (.getfield 95, 3) := dk_180 0 95 (dk_at dksX2_unit_2 4 rfl rfl)
theorem dX2_unit_52 : decode cX2_unit 52 = .ok (.ifCond .le 5, 3) := dk_158 0 5 (dk_at dksX2_unit_2 7 rfl rfl)
theorem dX2_unit_55 : decode cX2_unit 55 = .ok (.iconst 0, 1) := dk_3 (dk_at dksX2_unit_2 10 rfl rfl)
theorem dX2_unit_56 : decode cX2_unit 56 = .ok (.ireturn, 1) := dk_172 (dk_at dksX2_unit_2 11 rfl rfl)
theorem dX2_unit_57 : decode cX2_unit 57 = .ok (.aload_n 0, 1) := dk_42 (dk_at dksX2_unit_2 12 rfl rfl)
theorem dX2_unit_58 : decode cX2_unit 58 = .ok (.dup, 1) := dk_89 (dk_at dksX2_unit_2 13 rfl rfl)
theorem dX2_unit_59 : decode cX2_unit 59 = .ok (.getfield 224, 3) := dk_180 0 224 (dk_at dksX2_unit_2 14 rfl rfl)
theorem dX2_unit_62 : decode cX2_unit 62 = .ok (.iconst 1, 1) := dk_4 (dk_at dksX2_unit_2 17 rfl rfl)
theorem dX2_unit_63 : decode cX2_unit 63 = .ok (.iadd, 1) := dk_96 (dk_at dksX2_unit_2 18 rfl rfl)
theorem dX2_unit_64 : decode cX2_unit 64 = .ok (.putfield 224, 3) := dk_181 0 224 (dk_at dksX2_unit_2 19 rfl rfl)
theorem dX2_unit_67 : decode cX2_unit 67 = .ok (.aload_n 0, 1) := dk_42 (dk_at dksX2_unit_2 22 rfl rfl)
theorem dX2_unit_68 : decode cX2_unit 68 = .ok (.ldc 219, 2) := dk_18 219 (dk_at dksX2_unit_3 0 rfl rfl)
theorem dX2_unit_70 : decode cX2_unit 70 = .ok (.invokevirtual 140, 3) := dk_182 0 140 (dk_at dksX2_unit_3 2 rfl rfl)
theorem dX2_unit_73 : decode cX2_unit 73 = .ok (.ifCond .eq 17, 3) := dk_153 0 17 (dk_at dksX2_unit_3 5 rfl rfl)
theorem dX2_unit_76 : decode cX2_unit 76 = .ok (.aload_n 0, 1) := dk_42 (dk_at dksX2_unit_3 8 rfl rfl)
theorem dX2_unit_77 : decode cX2_unit 77 = .ok (.iconst 2, 1) := dk_5 (dk_at dksX2_unit_3 9 rfl rfl)
theorem dX2_unit_78 : decode cX2_unit 78 = .ok (.aload_n 0, 1) := dk_42 (dk_at dksX2_unit_3 10 rfl rfl)
theorem dX2_unit_79 : decode cX2_unit 79 = .ok (.invokevirtual 205, 3) := dk_182 0 205 (dk_at dksX2_unit_3 11 rfl rfl)
theorem dX2_unit_82 : decode cX2_unit 82 = .ok (.iconst 0, 1) := dk_3 (dk_at dksX2_unit_3 14 rfl rfl)
theorem dX2_unit_83 : decode cX2_unit 83 = .ok (.invokevirtual 212, 3) := dk_182 0 212 (dk_at dksX2_unit_3 15 rfl rfl)
theorem dX2_unit_86 : decode cX2_unit 86 = .ok (.istore_n 2, 1) := dk_61 (dk_at dksX2_unit_3 18 rfl rfl)
theorem dX2_unit_87 : decode cX2_unit 87 = .ok (.goto 21, 3) := dk_167 0 21 (dk_at dksX2_unit_3 19 rfl rfl)
theorem dX2_unit_90 : decode cX2_unit 90 = .ok (.iload_n 1, 1) := dk_27 (dk_at dksX2_unit_3 22 rfl rfl)
theorem dX2_unit_91 : decode cX2_unit 91 = .ok (.iconst (-1), 1) := dk_2 (dk_at dksX2_unit_3 23 rfl rfl)
theorem dX2_unit_92 : decode cX2_unit 92 = .ok (.if_icmp .ne 10, 3) := dk_160 0 10 (dk_at dksX2_unit_4 0 rfl rfl)
theorem dX2_unit_95 : decode cX2_unit 95 = .ok (.aload_n 0, 1) := dk_42 (dk_at dksX2_unit_4 3 rfl rfl)
theorem dX2_unit_96 : decode cX2_unit 96 = .ok (.invokevirtual 227, 3) := dk_182 0 227 (dk_at dksX2_unit_4 4 rfl rfl)
theorem dX2_unit_99 : decode cX2_unit 99 = .ok (.goto 8, 3) := dk_167 0 8 (dk_at dksX2_unit_4 7 rfl rfl)
theorem dX2_unit_102 : decode cX2_unit 102 = .ok (.aload_n 0, 1) := dk_42 (dk_at dksX2_unit_4 10 rfl rfl)
theorem dX2_unit_103 : decode cX2_unit 103 = .ok (.iload_n 1, 1) := dk_27 (dk_at dksX2_unit_4 11 rfl rfl)
theorem dX2_unit_104 : decode cX2_unit 104 = .ok (.invokevirtual 230, 3) := dk_182 0 230 (dk_at dksX2_unit_4 12 rfl rfl)
theorem dX2_unit_107 : decode cX2_unit 107 = .ok (.istore_n 2, 1) := dk_61 (dk_at dksX2_unit_4 15 rfl rfl)
theorem dX2_unit_108 : decode cX2_unit 108 = .ok (.aload_n 0, 1) := dk_42 (dk_at dksX2_unit_4 16 rfl rfl)
theorem dX2_unit_109 : decode cX2_unit 109 = .ok (.dup, 1) := dk_89 (dk_at dksX2_unit_4 17 rfl rfl)
theorem dX2_unit_110 : decode cX2_unit 110 = .ok (.getfield 224, 3) := dk_180 0 224 (dk_at dksX2_unit_4 18 rfl rfl)
theorem dX2_unit_113 : decode cX2_unit 113 = .ok (.iconst 1, 1) := dk_4 (dk_at dksX2_unit_4 21 rfl rfl)
theorem dX2_unit_114 : decode cX2_unit 114 = .ok (.isub, 1) := dk_100 (dk_at dksX2_unit_4 22 rfl rfl)
theorem dX2_unit_115 : decode cX2_unit 115 = .ok (.putfield 224, 3) := dk_181 0 224 (dk_at dksX2_unit_5 0 rfl rfl)
theorem dX2_unit_118 : decode cX2_unit 118 = .ok (.iload_n 2, 1) := dk_28 (dk_at dksX2_unit_5 3 rfl rfl)
theorem dX2_unit_119 : decode cX2_unit 119 = .ok (.ireturn, 1) := dk_172 (dk_at dksX2_unit_5 4 rfl rfl)
abbrev cX2_valueHere : ByteArray := prog_22_method_33_code
def yX2_valueHere : MethodName := ⟨RX2, "valueHere", "()I"⟩
def dkwX2_valueHere_1 : List UInt8 := [27, 172, 132, 1, 1, 167, 255, 229, 2, 172]
abbrev dktX2_valueHere_1 : List UInt8 := dkwX2_valueHere_1 ++ []
def dkwX2_valueHere_0 : List UInt8 := [3, 60, 27, 42, 180, 0, 54, 190, 162, 0, 24, 42, 42, 180, 0, 54, 27, 50, 182, 0, 133, 153, 0, 5]
abbrev dktX2_valueHere_0 : List UInt8 := dkwX2_valueHere_0 ++ dktX2_valueHere_1
theorem dksX2_valueHere_0 : cX2_valueHere.data.toList.drop 0 = dktX2_valueHere_0 := by decide +kernel
theorem dksX2_valueHere_1 : cX2_valueHere.data.toList.drop 24 = dktX2_valueHere_1 := dk_seg dksX2_valueHere_0 24 rfl rfl
theorem dX2_valueHere_0 : decode cX2_valueHere 0 = .ok (.iconst 0, 1) := dk_3 (dk_at dksX2_valueHere_0 0 rfl rfl)
theorem dX2_valueHere_1 : decode cX2_valueHere 1 = .ok (.istore_n 1, 1) := dk_60 (dk_at dksX2_valueHere_0 1 rfl rfl)
theorem dX2_valueHere_2 : decode cX2_valueHere 2 = .ok (.iload_n 1, 1) := dk_27 (dk_at dksX2_valueHere_0 2 rfl rfl)
theorem dX2_valueHere_3 : decode cX2_valueHere 3 = .ok (.aload_n 0, 1) := dk_42 (dk_at dksX2_valueHere_0 3 rfl rfl)
theorem dX2_valueHere_4 : decode cX2_valueHere 4 = .ok (.getfield 54, 3) := dk_180 0 54 (dk_at dksX2_valueHere_0 4 rfl rfl)
theorem dX2_valueHere_7 : decode cX2_valueHere 7 = .ok (.arraylength, 1) := dk_190 (dk_at dksX2_valueHere_0 7 rfl rfl)
theorem dX2_valueHere_8 : decode cX2_valueHere 8 = .ok (.if_icmp .ge 24, 3) := dk_162 0 24 (dk_at dksX2_valueHere_0 8 rfl rfl)
theorem dX2_valueHere_11 : decode cX2_valueHere 11 = .ok (.aload_n 0, 1) := dk_42 (dk_at dksX2_valueHere_0 11 rfl rfl)
theorem dX2_valueHere_12 : decode cX2_valueHere 12 = .ok (.aload_n 0, 1) := dk_42 (dk_at dksX2_valueHere_0 12 rfl rfl)
theorem dX2_valueHere_13 : decode cX2_valueHere 13 = .ok (.getfield 54, 3) := dk_180 0 54 (dk_at dksX2_valueHere_0 13 rfl rfl)
theorem dX2_valueHere_16 : decode cX2_valueHere 16 = .ok (.iload_n 1, 1) := dk_27 (dk_at dksX2_valueHere_0 16 rfl rfl)
theorem dX2_valueHere_17 : decode cX2_valueHere 17 = .ok (.aaload, 1) := dk_50 (dk_at dksX2_valueHere_0 17 rfl rfl)
theorem dX2_valueHere_18 : decode cX2_valueHere 18 = .ok (.invokevirtual 133, 3) := dk_182 0 133 (dk_at dksX2_valueHere_0 18 rfl rfl)
theorem dX2_valueHere_21 : decode cX2_valueHere 21 = .ok (.ifCond .eq 5, 3) := dk_153 0 5 (dk_at dksX2_valueHere_0 21 rfl rfl)
theorem dX2_valueHere_24 : decode cX2_valueHere 24 = .ok (.iload_n 1, 1) := dk_27 (dk_at dksX2_valueHere_1 0 rfl rfl)
theorem dX2_valueHere_25 : decode cX2_valueHere 25 = .ok (.ireturn, 1) := dk_172 (dk_at dksX2_valueHere_1 1 rfl rfl)
theorem dX2_valueHere_26 : decode cX2_valueHere 26 = .ok (.iinc 1 1, 3) := dk_132 1 1 (dk_at dksX2_valueHere_1 2 rfl rfl)
theorem dX2_valueHere_29 : decode cX2_valueHere 29 = .ok (.goto (-27), 3) := dk_167 255 229 (dk_at dksX2_valueHere_1 5 rfl rfl)
theorem dX2_valueHere_32 : decode cX2_valueHere 32 = .ok (.iconst (-1), 1) := dk_2 (dk_at dksX2_valueHere_1 8 rfl rfl)
theorem dX2_valueHere_33 : decode cX2_valueHere 33 = .ok (.ireturn, 1) := dk_172 (dk_at dksX2_valueHere_1 9 rfl rfl)
abbrev cX2_node : ByteArray := prog_22_method_31_code
def yX2_node : MethodName := ⟨RX2, "node", "(III)I"⟩
def dkwX2_node_2 : List UInt8 := [181, 0, 202, 21, 4, 172]
abbrev dktX2_node_2 : List UInt8 := dkwX2_node_2 ++ []
def dkwX2_node_1 : List UInt8 := [79, 42, 180, 0, 61, 21, 4, 28, 79, 42, 180, 0, 64, 21, 4, 29, 79, 42, 89, 180, 0, 202, 4, 96]
abbrev dktX2_node_1 : List UInt8 := dkwX2_node_1 ++ dktX2_node_2
def dkwX2_node_0 : List UInt8 := [4, 42, 180, 0, 199, 100, 17, 2, 188, 104, 42, 180, 0, 202, 96, 54, 4, 42, 180, 0, 58, 21, 4, 27]
abbrev dktX2_node_0 : List UInt8 := dkwX2_node_0 ++ dktX2_node_1
theorem dksX2_node_0 : cX2_node.data.toList.drop 0 = dktX2_node_0 := by decide +kernel
theorem dksX2_node_1 : cX2_node.data.toList.drop 24 = dktX2_node_1 := dk_seg dksX2_node_0 24 rfl rfl
theorem dksX2_node_2 : cX2_node.data.toList.drop 48 = dktX2_node_2 := dk_seg dksX2_node_1 24 rfl rfl
theorem dX2_node_0 : decode cX2_node 0 = .ok (.iconst 1, 1) := dk_4 (dk_at dksX2_node_0 0 rfl rfl)
theorem dX2_node_1 : decode cX2_node 1 = .ok (.aload_n 0, 1) := dk_42 (dk_at dksX2_node_0 1 rfl rfl)
theorem dX2_node_2 : decode cX2_node 2 = .ok (.getfield 199, 3) := dk_180 0 199 (dk_at dksX2_node_0 2 rfl rfl)
theorem dX2_node_5 : decode cX2_node 5 = .ok (.isub, 1) := dk_100 (dk_at dksX2_node_0 5 rfl rfl)
theorem dX2_node_6 : decode cX2_node 6 = .ok (.sipush 700, 3) := dk_17 2 188 (dk_at dksX2_node_0 6 rfl rfl)
theorem dX2_node_9 : decode cX2_node 9 = .ok (.imul, 1) := dk_104 (dk_at dksX2_node_0 9 rfl rfl)
theorem dX2_node_10 : decode cX2_node 10 = .ok (.aload_n 0, 1) := dk_42 (dk_at dksX2_node_0 10 rfl rfl)
theorem dX2_node_11 : decode cX2_node 11 = .ok (.getfield 202, 3) := dk_180 0 202 (dk_at dksX2_node_0 11 rfl rfl)
theorem dX2_node_14 : decode cX2_node 14 = .ok (.iadd, 1) := dk_96 (dk_at dksX2_node_0 14 rfl rfl)
theorem dX2_node_15 : decode cX2_node 15 = .ok (.istore 4, 2) := dk_54 4 (dk_at dksX2_node_0 15 rfl rfl)
theorem dX2_node_17 : decode cX2_node 17 = .ok (.aload_n 0, 1) := dk_42 (dk_at dksX2_node_0 17 rfl rfl)
theorem dX2_node_18 : decode cX2_node 18 = .ok (.getfield 58, 3) := dk_180 0 58 (dk_at dksX2_node_0 18 rfl rfl)
theorem dX2_node_21 : decode cX2_node 21 = .ok (.iload 4, 2) := dk_21 4 (dk_at dksX2_node_0 21 rfl rfl)
theorem dX2_node_23 : decode cX2_node 23 = .ok (.iload_n 1, 1) := dk_27 (dk_at dksX2_node_0 23 rfl rfl)
theorem dX2_node_24 : decode cX2_node 24 = .ok (.iastore, 1) := dk_79 (dk_at dksX2_node_1 0 rfl rfl)
theorem dX2_node_25 : decode cX2_node 25 = .ok (.aload_n 0, 1) := dk_42 (dk_at dksX2_node_1 1 rfl rfl)
theorem dX2_node_26 : decode cX2_node 26 = .ok (.getfield 61, 3) := dk_180 0 61 (dk_at dksX2_node_1 2 rfl rfl)
theorem dX2_node_29 : decode cX2_node 29 = .ok (.iload 4, 2) := dk_21 4 (dk_at dksX2_node_1 5 rfl rfl)
theorem dX2_node_31 : decode cX2_node 31 = .ok (.iload_n 2, 1) := dk_28 (dk_at dksX2_node_1 7 rfl rfl)
theorem dX2_node_32 : decode cX2_node 32 = .ok (.iastore, 1) := dk_79 (dk_at dksX2_node_1 8 rfl rfl)
theorem dX2_node_33 : decode cX2_node 33 = .ok (.aload_n 0, 1) := dk_42 (dk_at dksX2_node_1 9 rfl rfl)
theorem dX2_node_34 : decode cX2_node 34 = .ok (.getfield 64, 3) := dk_180 0 64 (dk_at dksX2_node_1 10 rfl rfl)
theorem dX2_node_37 : decode cX2_node 37 = .ok (.iload 4, 2) := dk_21 4 (dk_at dksX2_node_1 13 rfl rfl)
theorem dX2_node_39 : decode cX2_node 39 = .ok (.iload_n 3, 1) := dk_29 (dk_at dksX2_node_1 15 rfl rfl)
theorem dX2_node_40 : decode cX2_node 40 = .ok (.iastore, 1) := dk_79 (dk_at dksX2_node_1 16 rfl rfl)
theorem dX2_node_41 : decode cX2_node 41 = .ok (.aload_n 0, 1) := dk_42 (dk_at dksX2_node_1 17 rfl rfl)
theorem dX2_node_42 : decode cX2_node 42 = .ok (.dup, 1) := dk_89 (dk_at dksX2_node_1 18 rfl rfl)
theorem dX2_node_43 : decode cX2_node 43 = .ok (.getfield 202, 3) := dk_180 0 202 (dk_at dksX2_node_1 19 rfl rfl)
theorem dX2_node_46 : decode cX2_node 46 = .ok (.iconst 1, 1) := dk_4 (dk_at dksX2_node_1 22 rfl rfl)
theorem dX2_node_47 : decode cX2_node 47 = .ok (.iadd, 1) := dk_96 (dk_at dksX2_node_1 23 rfl rfl)
theorem dX2_node_48 : decode cX2_node 48 = .ok (.putfield 202, 3) := dk_181 0 202 (dk_at dksX2_node_2 0 rfl rfl)
theorem dX2_node_51 : decode cX2_node 51 = .ok (.iload 4, 2) := dk_21 4 (dk_at dksX2_node_2 3 rfl rfl)
theorem dX2_node_53 : decode cX2_node 53 = .ok (.ireturn, 1) := dk_172 (dk_at dksX2_node_2 5 rfl rfl)
abbrev cX2_inner : ByteArray := prog_22_method_35_code
def yX2_inner : MethodName := ⟨RX2, "inner", "()I"⟩
def dkwX2_inner_1 : List UInt8 := [182, 0, 137, 27, 172]
abbrev dktX2_inner_1 : List UInt8 := dkwX2_inner_1 ++ []
def dkwX2_inner_0 : List UInt8 := [42, 182, 0, 137, 42, 182, 0, 233, 60, 42, 16, 41, 182, 0, 221, 154, 0, 8, 42, 4, 182, 0, 143, 42]
abbrev dktX2_inner_0 : List UInt8 := dkwX2_inner_0 ++ dktX2_inner_1
theorem dksX2_inner_0 : cX2_inner.data.toList.drop 0 = dktX2_inner_0 := by decide +kernel
theorem dksX2_inner_1 : cX2_inner.data.toList.drop 24 = dktX2_inner_1 := dk_seg dksX2_inner_0 24 rfl rfl
theorem dX2_inner_0 : decode cX2_inner 0 = .ok (.aload_n 0, 1) := dk_42 (dk_at dksX2_inner_0 0 rfl rfl)
theorem dX2_inner_1 : decode cX2_inner 1 = .ok (.invokevirtual 137, 3) := dk_182 0 137 (dk_at dksX2_inner_0 1 rfl rfl)
theorem dX2_inner_4 : decode cX2_inner 4 = .ok (.aload_n 0, 1) := dk_42 (dk_at dksX2_inner_0 4 rfl rfl)
theorem dX2_inner_5 : decode cX2_inner 5 = .ok (.invokevirtual 233, 3) := dk_182 0 233 (dk_at dksX2_inner_0 5 rfl rfl)
theorem dX2_inner_8 : decode cX2_inner 8 = .ok (.istore_n 1, 1) := dk_60 (dk_at dksX2_inner_0 8 rfl rfl)
theorem dX2_inner_9 : decode cX2_inner 9 = .ok (.aload_n 0, 1) := dk_42 (dk_at dksX2_inner_0 9 rfl rfl)
theorem dX2_inner_10 : decode cX2_inner 10 = .ok (.bipush 41, 2) := dk_16 41 (dk_at dksX2_inner_0 10 rfl rfl)
theorem dX2_inner_12 : decode cX2_inner 12 = .ok (.invokevirtual 221, 3) := dk_182 0 221 (dk_at dksX2_inner_0 12 rfl rfl)
theorem dX2_inner_15 : decode cX2_inner 15 = .ok (.ifCond .ne 8, 3) := dk_154 0 8 (dk_at dksX2_inner_0 15 rfl rfl)
theorem dX2_inner_18 : decode cX2_inner 18 = .ok (.aload_n 0, 1) := dk_42 (dk_at dksX2_inner_0 18 rfl rfl)
theorem dX2_inner_19 : decode cX2_inner 19 = .ok (.iconst 1, 1) := dk_4 (dk_at dksX2_inner_0 19 rfl rfl)
theorem dX2_inner_20 : decode cX2_inner 20 = .ok (.invokevirtual 143, 3) := dk_182 0 143 (dk_at dksX2_inner_0 20 rfl rfl)
theorem dX2_inner_23 : decode cX2_inner 23 = .ok (.aload_n 0, 1) := dk_42 (dk_at dksX2_inner_0 23 rfl rfl)
theorem dX2_inner_24 : decode cX2_inner 24 = .ok (.invokevirtual 137, 3) := dk_182 0 137 (dk_at dksX2_inner_1 0 rfl rfl)
theorem dX2_inner_27 : decode cX2_inner 27 = .ok (.iload_n 1, 1) := dk_27 (dk_at dksX2_inner_1 3 rfl rfl)
theorem dX2_inner_28 : decode cX2_inner 28 = .ok (.ireturn, 1) := dk_172 (dk_at dksX2_inner_1 4 rfl rfl)
abbrev cX2_comparison : ByteArray := prog_22_method_36_code
def yX2_comparison : MethodName := ⟨RX2, "comparison", "(I)I"⟩
def dkwX2_comparison_2 : List UInt8 := [4, 182, 0, 143, 42, 182, 0, 137, 42, 28, 27, 42, 3, 17, 39, 15, 182, 0, 154, 182, 0, 212, 172]
abbrev dktX2_comparison_2 : List UInt8 := dkwX2_comparison_2 ++ []
def dkwX2_comparison_1 : List UInt8 := [153, 0, 7, 7, 167, 0, 4, 8, 61, 28, 8, 160, 0, 17, 42, 16, 61, 182, 0, 221, 154, 0, 8, 42]
abbrev dktX2_comparison_1 : List UInt8 := dkwX2_comparison_1 ++ dktX2_comparison_2
def dkwX2_comparison_0 : List UInt8 := [42, 182, 0, 137, 42, 16, 60, 182, 0, 221, 153, 0, 7, 6, 167, 0, 17, 42, 16, 62, 182, 0, 221]
abbrev dktX2_comparison_0 : List UInt8 := dkwX2_comparison_0 ++ dktX2_comparison_1
theorem dksX2_comparison_0 : cX2_comparison.data.toList.drop 0 = dktX2_comparison_0 := by decide +kernel
theorem dksX2_comparison_1 : cX2_comparison.data.toList.drop 23 = dktX2_comparison_1 := dk_seg dksX2_comparison_0 23 rfl rfl
theorem dksX2_comparison_2 : cX2_comparison.data.toList.drop 47 = dktX2_comparison_2 := dk_seg dksX2_comparison_1 24 rfl rfl
theorem dX2_comparison_0 : decode cX2_comparison 0 = .ok (.aload_n 0, 1) := dk_42 (dk_at dksX2_comparison_0 0 rfl rfl)
theorem dX2_comparison_1 : decode cX2_comparison 1 = .ok (.invokevirtual 137, 3) := dk_182 0 137 (dk_at dksX2_comparison_0 1 rfl rfl)
theorem dX2_comparison_4 : decode cX2_comparison 4 = .ok (.aload_n 0, 1) := dk_42 (dk_at dksX2_comparison_0 4 rfl rfl)
theorem dX2_comparison_5 : decode cX2_comparison 5 = .ok (.bipush 60, 2) := dk_16 60 (dk_at dksX2_comparison_0 5 rfl rfl)
theorem dX2_comparison_7 : decode cX2_comparison 7 = .ok (.invokevirtual 221, 3) := dk_182 0 221 (dk_at dksX2_comparison_0 7 rfl rfl)
theorem dX2_comparison_10 : decode cX2_comparison 10 = .ok (.ifCond .eq 7, 3) := dk_153 0 7 (dk_at dksX2_comparison_0 10 rfl rfl)
theorem dX2_comparison_13 : decode cX2_comparison 13 = .ok (.iconst 3, 1) := dk_6 (dk_at dksX2_comparison_0 13 rfl rfl)
theorem dX2_comparison_14 : decode cX2_comparison 14 = .ok (.goto 17, 3) := dk_167 0 17 (dk_at dksX2_comparison_0 14 rfl rfl)
theorem dX2_comparison_17 : decode cX2_comparison 17 = .ok (.aload_n 0, 1) := dk_42 (dk_at dksX2_comparison_0 17 rfl rfl)
theorem dX2_comparison_18 : decode cX2_comparison 18 = .ok (.bipush 62, 2) := dk_16 62 (dk_at dksX2_comparison_0 18 rfl rfl)
theorem dX2_comparison_20 : decode cX2_comparison 20 = .ok (.invokevirtual 221, 3) := dk_182 0 221 (dk_at dksX2_comparison_0 20 rfl rfl)
theorem dX2_comparison_23 : decode cX2_comparison 23 = .ok (.ifCond .eq 7, 3) := dk_153 0 7 (dk_at dksX2_comparison_1 0 rfl rfl)
theorem dX2_comparison_26 : decode cX2_comparison 26 = .ok (.iconst 4, 1) := dk_7 (dk_at dksX2_comparison_1 3 rfl rfl)
theorem dX2_comparison_27 : decode cX2_comparison 27 = .ok (.goto 4, 3) := dk_167 0 4 (dk_at dksX2_comparison_1 4 rfl rfl)
theorem dX2_comparison_30 : decode cX2_comparison 30 = .ok (.iconst 5, 1) := dk_8 (dk_at dksX2_comparison_1 7 rfl rfl)
theorem dX2_comparison_31 : decode cX2_comparison 31 = .ok (.istore_n 2, 1) := dk_61 (dk_at dksX2_comparison_1 8 rfl rfl)
theorem dX2_comparison_32 : decode cX2_comparison 32 = .ok (.iload_n 2, 1) := dk_28 (dk_at dksX2_comparison_1 9 rfl rfl)
theorem dX2_comparison_33 : decode cX2_comparison 33 = .ok (.iconst 5, 1) := dk_8 (dk_at dksX2_comparison_1 10 rfl rfl)
theorem dX2_comparison_34 : decode cX2_comparison 34 = .ok (.if_icmp .ne 17, 3) := dk_160 0 17 (dk_at dksX2_comparison_1 11 rfl rfl)
theorem dX2_comparison_37 : decode cX2_comparison 37 = .ok (.aload_n 0, 1) := dk_42 (dk_at dksX2_comparison_1 14 rfl rfl)
theorem dX2_comparison_38 : decode cX2_comparison 38 = .ok (.bipush 61, 2) := dk_16 61 (dk_at dksX2_comparison_1 15 rfl rfl)
theorem dX2_comparison_40 : decode cX2_comparison 40 = .ok (.invokevirtual 221, 3) := dk_182 0 221 (dk_at dksX2_comparison_1 17 rfl rfl)
theorem dX2_comparison_43 : decode cX2_comparison 43 = .ok (.ifCond .ne 8, 3) := dk_154 0 8 (dk_at dksX2_comparison_1 20 rfl rfl)
theorem dX2_comparison_46 : decode cX2_comparison 46 = .ok (.aload_n 0, 1) := dk_42 (dk_at dksX2_comparison_1 23 rfl rfl)
theorem dX2_comparison_47 : decode cX2_comparison 47 = .ok (.iconst 1, 1) := dk_4 (dk_at dksX2_comparison_2 0 rfl rfl)
theorem dX2_comparison_48 : decode cX2_comparison 48 = .ok (.invokevirtual 143, 3) := dk_182 0 143 (dk_at dksX2_comparison_2 1 rfl rfl)
theorem dX2_comparison_51 : decode cX2_comparison 51 = .ok (.aload_n 0, 1) := dk_42 (dk_at dksX2_comparison_2 4 rfl rfl)
theorem dX2_comparison_52 : decode cX2_comparison 52 = .ok (.invokevirtual 137, 3) := dk_182 0 137 (dk_at dksX2_comparison_2 5 rfl rfl)
theorem dX2_comparison_55 : decode cX2_comparison 55 = .ok (.aload_n 0, 1) := dk_42 (dk_at dksX2_comparison_2 8 rfl rfl)
theorem dX2_comparison_56 : decode cX2_comparison 56 = .ok (.iload_n 2, 1) := dk_28 (dk_at dksX2_comparison_2 9 rfl rfl)
theorem dX2_comparison_57 : decode cX2_comparison 57 = .ok (.iload_n 1, 1) := dk_27 (dk_at dksX2_comparison_2 10 rfl rfl)
theorem dX2_comparison_58 : decode cX2_comparison 58 = .ok (.aload_n 0, 1) := dk_42 (dk_at dksX2_comparison_2 11 rfl rfl)
theorem dX2_comparison_59 : decode cX2_comparison 59 = .ok (.iconst 0, 1) := dk_3 (dk_at dksX2_comparison_2 12 rfl rfl)
theorem dX2_comparison_60 : decode cX2_comparison 60 = .ok (.sipush 9999, 3) := dk_17 39 15 (dk_at dksX2_comparison_2 13 rfl rfl)
theorem dX2_comparison_63 : decode cX2_comparison 63 = .ok (.invokevirtual 154, 3) := dk_182 0 154 (dk_at dksX2_comparison_2 16 rfl rfl)
theorem dX2_comparison_66 : decode cX2_comparison 66 = .ok (.invokevirtual 212, 3) := dk_182 0 212 (dk_at dksX2_comparison_2 19 rfl rfl)
theorem dX2_comparison_69 : decode cX2_comparison 69 = .ok (.ireturn, 1) := dk_172 (dk_at dksX2_comparison_2 22 rfl rfl)
abbrev cX2_copy : ByteArray := prog_22_method_46_code
def yX2_copy : MethodName := ⟨RX2, "copy", "([II[II)V"⟩
def dkwX2_copy_1 : List UInt8 := [132, 4, 1, 167, 255, 233, 177]
abbrev dktX2_copy_1 : List UInt8 := dkwX2_copy_1 ++ []
def dkwX2_copy_0 : List UInt8 := [3, 54, 4, 21, 4, 17, 5, 118, 162, 0, 21, 44, 29, 21, 4, 96, 42, 27, 21, 4, 96, 46, 79]
abbrev dktX2_copy_0 : List UInt8 := dkwX2_copy_0 ++ dktX2_copy_1
theorem dksX2_copy_0 : cX2_copy.data.toList.drop 0 = dktX2_copy_0 := by decide +kernel
theorem dksX2_copy_1 : cX2_copy.data.toList.drop 23 = dktX2_copy_1 := dk_seg dksX2_copy_0 23 rfl rfl
theorem dX2_copy_0 : decode cX2_copy 0 = .ok (.iconst 0, 1) := dk_3 (dk_at dksX2_copy_0 0 rfl rfl)
theorem dX2_copy_1 : decode cX2_copy 1 = .ok (.istore 4, 2) := dk_54 4 (dk_at dksX2_copy_0 1 rfl rfl)
theorem dX2_copy_3 : decode cX2_copy 3 = .ok (.iload 4, 2) := dk_21 4 (dk_at dksX2_copy_0 3 rfl rfl)
theorem dX2_copy_5 : decode cX2_copy 5 = .ok (.sipush 1398, 3) := dk_17 5 118 (dk_at dksX2_copy_0 5 rfl rfl)
theorem dX2_copy_8 : decode cX2_copy 8 = .ok (.if_icmp .ge 21, 3) := dk_162 0 21 (dk_at dksX2_copy_0 8 rfl rfl)
theorem dX2_copy_11 : decode cX2_copy 11 = .ok (.aload_n 2, 1) := dk_44 (dk_at dksX2_copy_0 11 rfl rfl)
theorem dX2_copy_12 : decode cX2_copy 12 = .ok (.iload_n 3, 1) := dk_29 (dk_at dksX2_copy_0 12 rfl rfl)
theorem dX2_copy_13 : decode cX2_copy 13 = .ok (.iload 4, 2) := dk_21 4 (dk_at dksX2_copy_0 13 rfl rfl)
theorem dX2_copy_15 : decode cX2_copy 15 = .ok (.iadd, 1) := dk_96 (dk_at dksX2_copy_0 15 rfl rfl)
theorem dX2_copy_16 : decode cX2_copy 16 = .ok (.aload_n 0, 1) := dk_42 (dk_at dksX2_copy_0 16 rfl rfl)
theorem dX2_copy_17 : decode cX2_copy 17 = .ok (.iload_n 1, 1) := dk_27 (dk_at dksX2_copy_0 17 rfl rfl)
theorem dX2_copy_18 : decode cX2_copy 18 = .ok (.iload 4, 2) := dk_21 4 (dk_at dksX2_copy_0 18 rfl rfl)
theorem dX2_copy_20 : decode cX2_copy 20 = .ok (.iadd, 1) := dk_96 (dk_at dksX2_copy_0 20 rfl rfl)
theorem dX2_copy_21 : decode cX2_copy 21 = .ok (.iaload, 1) := dk_46 (dk_at dksX2_copy_0 21 rfl rfl)
theorem dX2_copy_22 : decode cX2_copy 22 = .ok (.iastore, 1) := dk_79 (dk_at dksX2_copy_0 22 rfl rfl)
theorem dX2_copy_23 : decode cX2_copy 23 = .ok (.iinc 4 1, 3) := dk_132 4 1 (dk_at dksX2_copy_1 0 rfl rfl)
theorem dX2_copy_26 : decode cX2_copy 26 = .ok (.goto (-23), 3) := dk_167 255 233 (dk_at dksX2_copy_1 3 rfl rfl)
theorem dX2_copy_29 : decode cX2_copy 29 = .ok (.return_, 1) := dk_177 (dk_at dksX2_copy_1 6 rfl rfl)
abbrev cX2_channels : ByteArray := prog_22_method_81_code
def yX2_channels : MethodName := ⟨RX2, "channels", "()I"⟩
def dkwX2_channels_0 : List UInt8 := [42, 42, 180, 0, 17, 5, 46, 182, 1, 199, 172]
abbrev dktX2_channels_0 : List UInt8 := dkwX2_channels_0 ++ []
theorem dksX2_channels_0 : cX2_channels.data.toList.drop 0 = dktX2_channels_0 := by decide +kernel
theorem dX2_channels_0 : decode cX2_channels 0 = .ok (.aload_n 0, 1) := dk_42 (dk_at dksX2_channels_0 0 rfl rfl)
theorem dX2_channels_1 : decode cX2_channels 1 = .ok (.aload_n 0, 1) := dk_42 (dk_at dksX2_channels_0 1 rfl rfl)
theorem dX2_channels_2 : decode cX2_channels 2 = .ok (.getfield 17, 3) := dk_180 0 17 (dk_at dksX2_channels_0 2 rfl rfl)
theorem dX2_channels_5 : decode cX2_channels 5 = .ok (.iconst 2, 1) := dk_5 (dk_at dksX2_channels_0 5 rfl rfl)
theorem dX2_channels_6 : decode cX2_channels 6 = .ok (.iaload, 1) := dk_46 (dk_at dksX2_channels_0 6 rfl rfl)
theorem dX2_channels_7 : decode cX2_channels 7 = .ok (.invokevirtual 455, 3) := dk_182 1 199 (dk_at dksX2_channels_0 7 rfl rfl)
theorem dX2_channels_10 : decode cX2_channels 10 = .ok (.ireturn, 1) := dk_172 (dk_at dksX2_channels_0 10 rfl rfl)
abbrev cX2_told : ByteArray := prog_22_method_80_code
def yX2_told : MethodName := ⟨RX2, "told", "(I)I"⟩
def dkwX2_told_0 : List UInt8 := [42, 3, 181, 0, 85, 42, 180, 1, 50, 153, 0, 7, 27, 167, 0, 4, 3, 172]
abbrev dktX2_told_0 : List UInt8 := dkwX2_told_0 ++ []
theorem dksX2_told_0 : cX2_told.data.toList.drop 0 = dktX2_told_0 := by decide +kernel
theorem dX2_told_0 : decode cX2_told 0 = .ok (.aload_n 0, 1) := dk_42 (dk_at dksX2_told_0 0 rfl rfl)
theorem dX2_told_1 : decode cX2_told 1 = .ok (.iconst 0, 1) := dk_3 (dk_at dksX2_told_0 1 rfl rfl)
theorem dX2_told_2 : decode cX2_told 2 = .ok (.putfield 85, 3) := dk_181 0 85 (dk_at dksX2_told_0 2 rfl rfl)
theorem dX2_told_5 : decode cX2_told 5 = .ok (.aload_n 0, 1) := dk_42 (dk_at dksX2_told_0 5 rfl rfl)
theorem dX2_told_6 : decode cX2_told 6 = .ok (.getfield 306, 3) := dk_180 1 50 (dk_at dksX2_told_0 6 rfl rfl)
theorem dX2_told_9 : decode cX2_told 9 = .ok (.ifCond .eq 7, 3) := dk_153 0 7 (dk_at dksX2_told_0 9 rfl rfl)
theorem dX2_told_12 : decode cX2_told 12 = .ok (.iload_n 1, 1) := dk_27 (dk_at dksX2_told_0 12 rfl rfl)
theorem dX2_told_13 : decode cX2_told 13 = .ok (.goto 4, 3) := dk_167 0 4 (dk_at dksX2_told_0 13 rfl rfl)
theorem dX2_told_16 : decode cX2_told 16 = .ok (.iconst 0, 1) := dk_3 (dk_at dksX2_told_0 16 rfl rfl)
theorem dX2_told_17 : decode cX2_told 17 = .ok (.ireturn, 1) := dk_172 (dk_at dksX2_told_0 17 rfl rfl)
abbrev cX2_incumbents : ByteArray := prog_22_method_82_code
def yX2_incumbents : MethodName := ⟨RX2, "incumbents", "()I"⟩
def dkwX2_incumbents_0 : List UInt8 := [42, 42, 180, 0, 23, 7, 46, 182, 1, 199, 172]
abbrev dktX2_incumbents_0 : List UInt8 := dkwX2_incumbents_0 ++ []
theorem dksX2_incumbents_0 : cX2_incumbents.data.toList.drop 0 = dktX2_incumbents_0 := by decide +kernel
theorem dX2_incumbents_0 : decode cX2_incumbents 0 = .ok (.aload_n 0, 1) := dk_42 (dk_at dksX2_incumbents_0 0 rfl rfl)
theorem dX2_incumbents_1 : decode cX2_incumbents 1 = .ok (.aload_n 0, 1) := dk_42 (dk_at dksX2_incumbents_0 1 rfl rfl)
theorem dX2_incumbents_2 : decode cX2_incumbents 2 = .ok (.getfield 23, 3) := dk_180 0 23 (dk_at dksX2_incumbents_0 2 rfl rfl)
theorem dX2_incumbents_5 : decode cX2_incumbents 5 = .ok (.iconst 4, 1) := dk_7 (dk_at dksX2_incumbents_0 5 rfl rfl)
theorem dX2_incumbents_6 : decode cX2_incumbents 6 = .ok (.iaload, 1) := dk_46 (dk_at dksX2_incumbents_0 6 rfl rfl)
theorem dX2_incumbents_7 : decode cX2_incumbents 7 = .ok (.invokevirtual 455, 3) := dk_182 1 199 (dk_at dksX2_incumbents_0 7 rfl rfl)
theorem dX2_incumbents_10 : decode cX2_incumbents 10 = .ok (.ireturn, 1) := dk_172 (dk_at dksX2_incumbents_0 10 rfl rfl)
abbrev cX2_licences : ByteArray := prog_22_method_83_code
def yX2_licences : MethodName := ⟨RX2, "licences", "()I"⟩
def dkwX2_licences_0 : List UInt8 := [42, 42, 180, 0, 17, 16, 9, 46, 182, 1, 199, 172]
abbrev dktX2_licences_0 : List UInt8 := dkwX2_licences_0 ++ []
theorem dksX2_licences_0 : cX2_licences.data.toList.drop 0 = dktX2_licences_0 := by decide +kernel
theorem dX2_licences_0 : decode cX2_licences 0 = .ok (.aload_n 0, 1) := dk_42 (dk_at dksX2_licences_0 0 rfl rfl)
theorem dX2_licences_1 : decode cX2_licences 1 = .ok (.aload_n 0, 1) := dk_42 (dk_at dksX2_licences_0 1 rfl rfl)
theorem dX2_licences_2 : decode cX2_licences 2 = .ok (.getfield 17, 3) := dk_180 0 17 (dk_at dksX2_licences_0 2 rfl rfl)
theorem dX2_licences_5 : decode cX2_licences 5 = .ok (.bipush 9, 2) := dk_16 9 (dk_at dksX2_licences_0 5 rfl rfl)
theorem dX2_licences_7 : decode cX2_licences 7 = .ok (.iaload, 1) := dk_46 (dk_at dksX2_licences_0 7 rfl rfl)
theorem dX2_licences_8 : decode cX2_licences 8 = .ok (.invokevirtual 455, 3) := dk_182 1 199 (dk_at dksX2_licences_0 8 rfl rfl)
theorem dX2_licences_11 : decode cX2_licences 11 = .ok (.ireturn, 1) := dk_172 (dk_at dksX2_licences_0 11 rfl rfl)
abbrev cX2_devices : ByteArray := prog_22_method_84_code
def yX2_devices : MethodName := ⟨RX2, "devices", "()I"⟩
def dkwX2_devices_0 : List UInt8 := [42, 42, 180, 0, 17, 16, 10, 46, 182, 1, 199, 172]
abbrev dktX2_devices_0 : List UInt8 := dkwX2_devices_0 ++ []
theorem dksX2_devices_0 : cX2_devices.data.toList.drop 0 = dktX2_devices_0 := by decide +kernel
theorem dX2_devices_0 : decode cX2_devices 0 = .ok (.aload_n 0, 1) := dk_42 (dk_at dksX2_devices_0 0 rfl rfl)
theorem dX2_devices_1 : decode cX2_devices 1 = .ok (.aload_n 0, 1) := dk_42 (dk_at dksX2_devices_0 1 rfl rfl)
theorem dX2_devices_2 : decode cX2_devices 2 = .ok (.getfield 17, 3) := dk_180 0 17 (dk_at dksX2_devices_0 2 rfl rfl)
theorem dX2_devices_5 : decode cX2_devices 5 = .ok (.bipush 10, 2) := dk_16 10 (dk_at dksX2_devices_0 5 rfl rfl)
theorem dX2_devices_7 : decode cX2_devices 7 = .ok (.iaload, 1) := dk_46 (dk_at dksX2_devices_0 7 rfl rfl)
theorem dX2_devices_8 : decode cX2_devices 8 = .ok (.invokevirtual 455, 3) := dk_182 1 199 (dk_at dksX2_devices_0 8 rfl rfl)
theorem dX2_devices_11 : decode cX2_devices 11 = .ok (.ireturn, 1) := dk_172 (dk_at dksX2_devices_0 11 rfl rfl)
abbrev cX2_time : ByteArray := prog_22_method_85_code
def yX2_time : MethodName := ⟨RX2, "time", "()I"⟩
def dkwX2_time_0 : List UInt8 := [42, 42, 180, 0, 23, 3, 46, 182, 1, 199, 172]
abbrev dktX2_time_0 : List UInt8 := dkwX2_time_0 ++ []
theorem dksX2_time_0 : cX2_time.data.toList.drop 0 = dktX2_time_0 := by decide +kernel
theorem dX2_time_0 : decode cX2_time 0 = .ok (.aload_n 0, 1) := dk_42 (dk_at dksX2_time_0 0 rfl rfl)
theorem dX2_time_1 : decode cX2_time 1 = .ok (.aload_n 0, 1) := dk_42 (dk_at dksX2_time_0 1 rfl rfl)
theorem dX2_time_2 : decode cX2_time 2 = .ok (.getfield 23, 3) := dk_180 0 23 (dk_at dksX2_time_0 2 rfl rfl)
theorem dX2_time_5 : decode cX2_time 5 = .ok (.iconst 0, 1) := dk_3 (dk_at dksX2_time_0 5 rfl rfl)
theorem dX2_time_6 : decode cX2_time 6 = .ok (.iaload, 1) := dk_46 (dk_at dksX2_time_0 6 rfl rfl)
theorem dX2_time_7 : decode cX2_time 7 = .ok (.invokevirtual 455, 3) := dk_182 1 199 (dk_at dksX2_time_0 7 rfl rfl)
theorem dX2_time_10 : decode cX2_time 10 = .ok (.ireturn, 1) := dk_172 (dk_at dksX2_time_0 10 rfl rfl)
abbrev cX2_isSensed : ByteArray := prog_22_method_92_code
def yX2_isSensed : MethodName := ⟨RX2, "isSensed", "(I)Z"⟩
def dkwX2_isSensed_1 : List UInt8 := [4, 167, 0, 4, 3, 172]
abbrev dktX2_isSensed_1 : List UInt8 := dkwX2_isSensed_1 ++ []
def dkwX2_isSensed_0 : List UInt8 := [42, 42, 27, 182, 1, 202, 182, 1, 205, 153, 0, 19, 42, 42, 180, 0, 23, 27, 182, 1, 77, 153, 0, 7]
abbrev dktX2_isSensed_0 : List UInt8 := dkwX2_isSensed_0 ++ dktX2_isSensed_1
theorem dksX2_isSensed_0 : cX2_isSensed.data.toList.drop 0 = dktX2_isSensed_0 := by decide +kernel
theorem dksX2_isSensed_1 : cX2_isSensed.data.toList.drop 24 = dktX2_isSensed_1 := dk_seg dksX2_isSensed_0 24 rfl rfl
theorem dX2_isSensed_0 : decode cX2_isSensed 0 = .ok (.aload_n 0, 1) := dk_42 (dk_at dksX2_isSensed_0 0 rfl rfl)
theorem dX2_isSensed_1 : decode cX2_isSensed 1 = .ok (.aload_n 0, 1) := dk_42 (dk_at dksX2_isSensed_0 1 rfl rfl)
theorem dX2_isSensed_2 : decode cX2_isSensed 2 = .ok (.iload_n 1, 1) := dk_27 (dk_at dksX2_isSensed_0 2 rfl rfl)
theorem dX2_isSensed_3 : decode cX2_isSensed 3 = .ok (.invokevirtual 458, 3) := dk_182 1 202 (dk_at dksX2_isSensed_0 3 rfl rfl)
theorem dX2_isSensed_6 : decode cX2_isSensed 6 = .ok (.invokevirtual 461, 3) := dk_182 1 205 (dk_at dksX2_isSensed_0 6 rfl rfl)
theorem dX2_isSensed_9 : decode cX2_isSensed 9 = .ok (.ifCond .eq 19, 3) := dk_153 0 19 (dk_at dksX2_isSensed_0 9 rfl rfl)
theorem dX2_isSensed_12 : decode cX2_isSensed 12 = .ok (.aload_n 0, 1) := dk_42 (dk_at dksX2_isSensed_0 12 rfl rfl)
theorem dX2_isSensed_13 : decode cX2_isSensed 13 = .ok (.aload_n 0, 1) := dk_42 (dk_at dksX2_isSensed_0 13 rfl rfl)
theorem dX2_isSensed_14 : decode cX2_isSensed 14 = .ok (.getfield 23, 3) := dk_180 0 23 (dk_at dksX2_isSensed_0 14 rfl rfl)
theorem dX2_isSensed_17 : decode cX2_isSensed 17 = .ok (.iload_n 1, 1) := dk_27 (dk_at dksX2_isSensed_0 17 rfl rfl)
theorem dX2_isSensed_18 : decode cX2_isSensed 18 = .ok (.invokevirtual 333, 3) := dk_182 1 77 (dk_at dksX2_isSensed_0 18 rfl rfl)
theorem dX2_isSensed_21 : decode cX2_isSensed 21 = .ok (.ifCond .eq 7, 3) := dk_153 0 7 (dk_at dksX2_isSensed_0 21 rfl rfl)
theorem dX2_isSensed_24 : decode cX2_isSensed 24 = .ok (.iconst 1, 1) := dk_4 (dk_at dksX2_isSensed_1 0 rfl rfl)
theorem dX2_isSensed_25 : decode cX2_isSensed 25 = .ok (.goto 4, 3) := dk_167 0 4 (dk_at dksX2_isSensed_1 1 rfl rfl)
theorem dX2_isSensed_28 : decode cX2_isSensed 28 = .ok (.iconst 0, 1) := dk_3 (dk_at dksX2_isSensed_1 4 rfl rfl)
theorem dX2_isSensed_29 : decode cX2_isSensed 29 = .ok (.ireturn, 1) := dk_172 (dk_at dksX2_isSensed_1 5 rfl rfl)
abbrev cX2_isIncumbent : ByteArray := prog_22_method_87_code
def yX2_isIncumbent : MethodName := ⟨RX2, "isIncumbent", "(I)Z"⟩
def dkwX2_isIncumbent_0 : List UInt8 := [27, 3, 42, 180, 0, 23, 7, 46, 4, 100, 184, 0, 114, 172]
abbrev dktX2_isIncumbent_0 : List UInt8 := dkwX2_isIncumbent_0 ++ []
theorem dksX2_isIncumbent_0 : cX2_isIncumbent.data.toList.drop 0 = dktX2_isIncumbent_0 := by decide +kernel
theorem dX2_isIncumbent_0 : decode cX2_isIncumbent 0 = .ok (.iload_n 1, 1) := dk_27 (dk_at dksX2_isIncumbent_0 0 rfl rfl)
theorem dX2_isIncumbent_1 : decode cX2_isIncumbent 1 = .ok (.iconst 0, 1) := dk_3 (dk_at dksX2_isIncumbent_0 1 rfl rfl)
theorem dX2_isIncumbent_2 : decode cX2_isIncumbent 2 = .ok (.aload_n 0, 1) := dk_42 (dk_at dksX2_isIncumbent_0 2 rfl rfl)
theorem dX2_isIncumbent_3 : decode cX2_isIncumbent 3 = .ok (.getfield 23, 3) := dk_180 0 23 (dk_at dksX2_isIncumbent_0 3 rfl rfl)
theorem dX2_isIncumbent_6 : decode cX2_isIncumbent 6 = .ok (.iconst 4, 1) := dk_7 (dk_at dksX2_isIncumbent_0 6 rfl rfl)
theorem dX2_isIncumbent_7 : decode cX2_isIncumbent 7 = .ok (.iaload, 1) := dk_46 (dk_at dksX2_isIncumbent_0 7 rfl rfl)
theorem dX2_isIncumbent_8 : decode cX2_isIncumbent 8 = .ok (.iconst 1, 1) := dk_4 (dk_at dksX2_isIncumbent_0 8 rfl rfl)
theorem dX2_isIncumbent_9 : decode cX2_isIncumbent 9 = .ok (.isub, 1) := dk_100 (dk_at dksX2_isIncumbent_0 9 rfl rfl)
theorem dX2_isIncumbent_10 : decode cX2_isIncumbent 10 = .ok (.invokestatic 114, 3) := dk_184 0 114 (dk_at dksX2_isIncumbent_0 10 rfl rfl)
theorem dX2_isIncumbent_13 : decode cX2_isIncumbent 13 = .ok (.ireturn, 1) := dk_172 (dk_at dksX2_isIncumbent_0 13 rfl rfl)
abbrev cX2_mayAsk : ByteArray := prog_22_method_86_code
def yX2_mayAsk : MethodName := ⟨RX2, "mayAsk", "(Z)Z"⟩
def dkwX2_mayAsk_1 : List UInt8 := [42, 180, 0, 85, 154, 0, 7, 4, 167, 0, 4, 3, 172]
abbrev dktX2_mayAsk_1 : List UInt8 := dkwX2_mayAsk_1 ++ []
def dkwX2_mayAsk_0 : List UInt8 := [42, 42, 180, 1, 50, 154, 0, 7, 4, 167, 0, 12, 27, 153, 0, 7, 3, 167, 0, 4, 5, 181, 0, 85]
abbrev dktX2_mayAsk_0 : List UInt8 := dkwX2_mayAsk_0 ++ dktX2_mayAsk_1
theorem dksX2_mayAsk_0 : cX2_mayAsk.data.toList.drop 0 = dktX2_mayAsk_0 := by decide +kernel
theorem dksX2_mayAsk_1 : cX2_mayAsk.data.toList.drop 24 = dktX2_mayAsk_1 := dk_seg dksX2_mayAsk_0 24 rfl rfl
theorem dX2_mayAsk_0 : decode cX2_mayAsk 0 = .ok (.aload_n 0, 1) := dk_42 (dk_at dksX2_mayAsk_0 0 rfl rfl)
theorem dX2_mayAsk_1 : decode cX2_mayAsk 1 = .ok (.aload_n 0, 1) := dk_42 (dk_at dksX2_mayAsk_0 1 rfl rfl)
theorem dX2_mayAsk_2 : decode cX2_mayAsk 2 = .ok (.getfield 306, 3) := dk_180 1 50 (dk_at dksX2_mayAsk_0 2 rfl rfl)
theorem dX2_mayAsk_5 : decode cX2_mayAsk 5 = .ok (.ifCond .ne 7, 3) := dk_154 0 7 (dk_at dksX2_mayAsk_0 5 rfl rfl)
theorem dX2_mayAsk_8 : decode cX2_mayAsk 8 = .ok (.iconst 1, 1) := dk_4 (dk_at dksX2_mayAsk_0 8 rfl rfl)
theorem dX2_mayAsk_9 : decode cX2_mayAsk 9 = .ok (.goto 12, 3) := dk_167 0 12 (dk_at dksX2_mayAsk_0 9 rfl rfl)
theorem dX2_mayAsk_12 : decode cX2_mayAsk 12 = .ok (.iload_n 1, 1) := dk_27 (dk_at dksX2_mayAsk_0 12 rfl rfl)
theorem dX2_mayAsk_13 : decode cX2_mayAsk 13 = .ok (.ifCond .eq 7, 3) := dk_153 0 7 (dk_at dksX2_mayAsk_0 13 rfl rfl)
theorem dX2_mayAsk_16 : decode cX2_mayAsk 16 = .ok (.iconst 0, 1) := dk_3 (dk_at dksX2_mayAsk_0 16 rfl rfl)
theorem dX2_mayAsk_17 : decode cX2_mayAsk 17 = .ok (.goto 4, 3) := dk_167 0 4 (dk_at dksX2_mayAsk_0 17 rfl rfl)
theorem dX2_mayAsk_20 : decode cX2_mayAsk 20 = .ok (.iconst 2, 1) := dk_5 (dk_at dksX2_mayAsk_0 20 rfl rfl)
theorem dX2_mayAsk_21 : decode cX2_mayAsk 21 = .ok (.putfield 85, 3) := dk_181 0 85 (dk_at dksX2_mayAsk_0 21 rfl rfl)
theorem dX2_mayAsk_24 : decode cX2_mayAsk 24 = .ok (.aload_n 0, 1) := dk_42 (dk_at dksX2_mayAsk_1 0 rfl rfl)
theorem dX2_mayAsk_25 : decode cX2_mayAsk 25 = .ok (.getfield 85, 3) := dk_180 0 85 (dk_at dksX2_mayAsk_1 1 rfl rfl)
theorem dX2_mayAsk_28 : decode cX2_mayAsk 28 = .ok (.ifCond .ne 7, 3) := dk_154 0 7 (dk_at dksX2_mayAsk_1 4 rfl rfl)
theorem dX2_mayAsk_31 : decode cX2_mayAsk 31 = .ok (.iconst 1, 1) := dk_4 (dk_at dksX2_mayAsk_1 7 rfl rfl)
theorem dX2_mayAsk_32 : decode cX2_mayAsk 32 = .ok (.goto 4, 3) := dk_167 0 4 (dk_at dksX2_mayAsk_1 8 rfl rfl)
theorem dX2_mayAsk_35 : decode cX2_mayAsk 35 = .ok (.iconst 0, 1) := dk_3 (dk_at dksX2_mayAsk_1 11 rfl rfl)
theorem dX2_mayAsk_36 : decode cX2_mayAsk 36 = .ok (.ireturn, 1) := dk_172 (dk_at dksX2_mayAsk_1 12 rfl rfl)
abbrev cX2_sensed : ByteArray := prog_22_method_54_code
def yX2_sensed : MethodName := ⟨RX2, "sensed", "([II)Z"⟩
def dkwX2_sensed_3 : List UInt8 := [180, 0, 17, 21, 5, 5, 96, 46, 104, 163, 0, 5, 4, 172, 132, 4, 1, 167, 255, 179, 3, 172]
abbrev dktX2_sensed_3 : List UInt8 := dkwX2_sensed_3 ++ []
def dkwX2_sensed_2 : List UInt8 := [46, 43, 29, 3, 96, 46, 43, 29, 4, 96, 46, 184, 1, 57, 42, 180, 0, 17, 21, 5, 5, 96, 46, 42]
abbrev dktX2_sensed_2 : List UInt8 := dkwX2_sensed_2 ++ dktX2_sensed_3
def dkwX2_sensed_1 : List UInt8 := [16, 11, 6, 21, 4, 104, 96, 54, 5, 42, 180, 0, 17, 21, 5, 46, 42, 180, 0, 17, 21, 5, 4, 96]
abbrev dktX2_sensed_1 : List UInt8 := dkwX2_sensed_1 ++ dktX2_sensed_2
def dkwX2_sensed_0 : List UInt8 := [16, 118, 16, 8, 28, 104, 96, 62, 3, 54, 4, 21, 4, 42, 180, 0, 17, 16, 8, 46, 162, 0, 71]
abbrev dktX2_sensed_0 : List UInt8 := dkwX2_sensed_0 ++ dktX2_sensed_1
theorem dksX2_sensed_0 : cX2_sensed.data.toList.drop 0 = dktX2_sensed_0 := by decide +kernel
theorem dksX2_sensed_1 : cX2_sensed.data.toList.drop 23 = dktX2_sensed_1 := dk_seg dksX2_sensed_0 23 rfl rfl
theorem dksX2_sensed_2 : cX2_sensed.data.toList.drop 47 = dktX2_sensed_2 := dk_seg dksX2_sensed_1 24 rfl rfl
theorem dksX2_sensed_3 : cX2_sensed.data.toList.drop 71 = dktX2_sensed_3 := dk_seg dksX2_sensed_2 24 rfl rfl
theorem dX2_sensed_0 : decode cX2_sensed 0 = .ok (.bipush 118, 2) := dk_16 118 (dk_at dksX2_sensed_0 0 rfl rfl)
theorem dX2_sensed_2 : decode cX2_sensed 2 = .ok (.bipush 8, 2) := dk_16 8 (dk_at dksX2_sensed_0 2 rfl rfl)
theorem dX2_sensed_4 : decode cX2_sensed 4 = .ok (.iload_n 2, 1) := dk_28 (dk_at dksX2_sensed_0 4 rfl rfl)
theorem dX2_sensed_5 : decode cX2_sensed 5 = .ok (.imul, 1) := dk_104 (dk_at dksX2_sensed_0 5 rfl rfl)
theorem dX2_sensed_6 : decode cX2_sensed 6 = .ok (.iadd, 1) := dk_96 (dk_at dksX2_sensed_0 6 rfl rfl)
theorem dX2_sensed_7 : decode cX2_sensed 7 = .ok (.istore_n 3, 1) := dk_62 (dk_at dksX2_sensed_0 7 rfl rfl)
theorem dX2_sensed_8 : decode cX2_sensed 8 = .ok (.iconst 0, 1) := dk_3 (dk_at dksX2_sensed_0 8 rfl rfl)
theorem dX2_sensed_9 : decode cX2_sensed 9 = .ok (.istore 4, 2) := dk_54 4 (dk_at dksX2_sensed_0 9 rfl rfl)
theorem dX2_sensed_11 : decode cX2_sensed 11 = .ok (.iload 4, 2) := dk_21 4 (dk_at dksX2_sensed_0 11 rfl rfl)
theorem dX2_sensed_13 : decode cX2_sensed 13 = .ok (.aload_n 0, 1) := dk_42 (dk_at dksX2_sensed_0 13 rfl rfl)
theorem dX2_sensed_14 : decode cX2_sensed 14 = .ok (.getfield 17, 3) := dk_180 0 17 (dk_at dksX2_sensed_0 14 rfl rfl)
theorem dX2_sensed_17 : decode cX2_sensed 17 = .ok (.bipush 8, 2) := dk_16 8 (dk_at dksX2_sensed_0 17 rfl rfl)
theorem dX2_sensed_19 : decode cX2_sensed 19 = .ok (.iaload, 1) := dk_46 (dk_at dksX2_sensed_0 19 rfl rfl)
theorem dX2_sensed_20 : decode cX2_sensed 20 = .ok (.if_icmp .ge 71, 3) := dk_162 0 71 (dk_at dksX2_sensed_0 20 rfl rfl)
theorem dX2_sensed_23 : decode cX2_sensed 23 = .ok (.bipush 11, 2) := dk_16 11 (dk_at dksX2_sensed_1 0 rfl rfl)
theorem dX2_sensed_25 : decode cX2_sensed 25 = .ok (.iconst 3, 1) := dk_6 (dk_at dksX2_sensed_1 2 rfl rfl)
theorem dX2_sensed_26 : decode cX2_sensed 26 = .ok (.iload 4, 2) := dk_21 4 (dk_at dksX2_sensed_1 3 rfl rfl)
theorem dX2_sensed_28 : decode cX2_sensed 28 = .ok (.imul, 1) := dk_104 (dk_at dksX2_sensed_1 5 rfl rfl)
theorem dX2_sensed_29 : decode cX2_sensed 29 = .ok (.iadd, 1) := dk_96 (dk_at dksX2_sensed_1 6 rfl rfl)
theorem dX2_sensed_30 : decode cX2_sensed 30 = .ok (.istore 5, 2) := dk_54 5 (dk_at dksX2_sensed_1 7 rfl rfl)
theorem dX2_sensed_32 : decode cX2_sensed 32 = .ok (.aload_n 0, 1) := dk_42 (dk_at dksX2_sensed_1 9 rfl rfl)
theorem dX2_sensed_33 : decode cX2_sensed 33 = .ok (.getfield 17, 3) := dk_180 0 17 (dk_at dksX2_sensed_1 10 rfl rfl)
theorem dX2_sensed_36 : decode cX2_sensed 36 = .ok (.iload 5, 2) := dk_21 5 (dk_at dksX2_sensed_1 13 rfl rfl)
theorem dX2_sensed_38 : decode cX2_sensed 38 = .ok (.iaload, 1) := dk_46 (dk_at dksX2_sensed_1 15 rfl rfl)
theorem dX2_sensed_39 : decode cX2_sensed 39 = .ok (.aload_n 0, 1) := dk_42 (dk_at dksX2_sensed_1 16 rfl rfl)
theorem dX2_sensed_40 : decode cX2_sensed 40 = .ok (.getfield 17, 3) := dk_180 0 17 (dk_at dksX2_sensed_1 17 rfl rfl)
theorem dX2_sensed_43 : decode cX2_sensed 43 = .ok (.iload 5, 2) := dk_21 5 (dk_at dksX2_sensed_1 20 rfl rfl)
theorem dX2_sensed_45 : decode cX2_sensed 45 = .ok (.iconst 1, 1) := dk_4 (dk_at dksX2_sensed_1 22 rfl rfl)
theorem dX2_sensed_46 : decode cX2_sensed 46 = .ok (.iadd, 1) := dk_96 (dk_at dksX2_sensed_1 23 rfl rfl)
theorem dX2_sensed_47 : decode cX2_sensed 47 = .ok (.iaload, 1) := dk_46 (dk_at dksX2_sensed_2 0 rfl rfl)
theorem dX2_sensed_48 : decode cX2_sensed 48 = .ok (.aload_n 1, 1) := dk_43 (dk_at dksX2_sensed_2 1 rfl rfl)
theorem dX2_sensed_49 : decode cX2_sensed 49 = .ok (.iload_n 3, 1) := dk_29 (dk_at dksX2_sensed_2 2 rfl rfl)
theorem dX2_sensed_50 : decode cX2_sensed 50 = .ok (.iconst 0, 1) := dk_3 (dk_at dksX2_sensed_2 3 rfl rfl)
theorem dX2_sensed_51 : decode cX2_sensed 51 = .ok (.iadd, 1) := dk_96 (dk_at dksX2_sensed_2 4 rfl rfl)
theorem dX2_sensed_52 : decode cX2_sensed 52 = .ok (.iaload, 1) := dk_46 (dk_at dksX2_sensed_2 5 rfl rfl)
theorem dX2_sensed_53 : decode cX2_sensed 53 = .ok (.aload_n 1, 1) := dk_43 (dk_at dksX2_sensed_2 6 rfl rfl)
theorem dX2_sensed_54 : decode cX2_sensed 54 = .ok (.iload_n 3, 1) := dk_29 (dk_at dksX2_sensed_2 7 rfl rfl)
theorem dX2_sensed_55 : decode cX2_sensed 55 = .ok (.iconst 1, 1) := dk_4 (dk_at dksX2_sensed_2 8 rfl rfl)
theorem dX2_sensed_56 : decode cX2_sensed 56 = .ok (.iadd, 1) := dk_96 (dk_at dksX2_sensed_2 9 rfl rfl)
theorem dX2_sensed_57 : decode cX2_sensed 57 = .ok (.iaload, 1) := dk_46 (dk_at dksX2_sensed_2 10 rfl rfl)
theorem dX2_sensed_58 : decode cX2_sensed 58 = .ok (.invokestatic 313, 3) := dk_184 1 57 (dk_at dksX2_sensed_2 11 rfl rfl)
theorem dX2_sensed_61 : decode cX2_sensed 61 = .ok (.aload_n 0, 1) := dk_42 (dk_at dksX2_sensed_2 14 rfl rfl)
theorem dX2_sensed_62 : decode cX2_sensed 62 = .ok (.getfield 17, 3) := dk_180 0 17 (dk_at dksX2_sensed_2 15 rfl rfl)
theorem dX2_sensed_65 : decode cX2_sensed 65 = .ok (.iload 5, 2) := dk_21 5 (dk_at dksX2_sensed_2 18 rfl rfl)
theorem dX2_sensed_67 : decode cX2_sensed 67 = .ok (.iconst 2, 1) := dk_5 (dk_at dksX2_sensed_2 20 rfl rfl)
theorem dX2_sensed_68 : decode cX2_sensed 68 = .ok (.iadd, 1) := dk_96 (dk_at dksX2_sensed_2 21 rfl rfl)
theorem dX2_sensed_69 : decode cX2_sensed 69 = .ok (.iaload, 1) := dk_46 (dk_at dksX2_sensed_2 22 rfl rfl)
theorem dX2_sensed_70 : decode cX2_sensed 70 = .ok (.aload_n 0, 1) := dk_42 (dk_at dksX2_sensed_2 23 rfl rfl)
theorem dX2_sensed_71 : decode cX2_sensed 71 = .ok (.getfield 17, 3) := dk_180 0 17 (dk_at dksX2_sensed_3 0 rfl rfl)
theorem dX2_sensed_74 : decode cX2_sensed 74 = .ok (.iload 5, 2) := dk_21 5 (dk_at dksX2_sensed_3 3 rfl rfl)
theorem dX2_sensed_76 : decode cX2_sensed 76 = .ok (.iconst 2, 1) := dk_5 (dk_at dksX2_sensed_3 5 rfl rfl)
theorem dX2_sensed_77 : decode cX2_sensed 77 = .ok (.iadd, 1) := dk_96 (dk_at dksX2_sensed_3 6 rfl rfl)
theorem dX2_sensed_78 : decode cX2_sensed 78 = .ok (.iaload, 1) := dk_46 (dk_at dksX2_sensed_3 7 rfl rfl)
theorem dX2_sensed_79 : decode cX2_sensed 79 = .ok (.imul, 1) := dk_104 (dk_at dksX2_sensed_3 8 rfl rfl)
theorem dX2_sensed_80 : decode cX2_sensed 80 = .ok (.if_icmp .gt 5, 3) := dk_163 0 5 (dk_at dksX2_sensed_3 9 rfl rfl)
theorem dX2_sensed_83 : decode cX2_sensed 83 = .ok (.iconst 1, 1) := dk_4 (dk_at dksX2_sensed_3 12 rfl rfl)
theorem dX2_sensed_84 : decode cX2_sensed 84 = .ok (.ireturn, 1) := dk_172 (dk_at dksX2_sensed_3 13 rfl rfl)
theorem dX2_sensed_85 : decode cX2_sensed 85 = .ok (.iinc 4 1, 3) := dk_132 4 1 (dk_at dksX2_sensed_3 14 rfl rfl)
theorem dX2_sensed_88 : decode cX2_sensed 88 = .ok (.goto (-77), 3) := dk_167 255 179 (dk_at dksX2_sensed_3 17 rfl rfl)
theorem dX2_sensed_91 : decode cX2_sensed 91 = .ok (.iconst 0, 1) := dk_3 (dk_at dksX2_sensed_3 20 rfl rfl)
theorem dX2_sensed_92 : decode cX2_sensed 92 = .ok (.ireturn, 1) := dk_172 (dk_at dksX2_sensed_3 21 rfl rfl)
abbrev cX2_squared : ByteArray := prog_22_method_48_code
def yX2_squared : MethodName := ⟨RX2, "squared", "(IIII)I"⟩
def dkwX2_squared_0 : List UInt8 := [26, 28, 100, 26, 28, 100, 104, 27, 29, 100, 27, 29, 100, 104, 96, 172]
abbrev dktX2_squared_0 : List UInt8 := dkwX2_squared_0 ++ []
theorem dksX2_squared_0 : cX2_squared.data.toList.drop 0 = dktX2_squared_0 := by decide +kernel
theorem dX2_squared_0 : decode cX2_squared 0 = .ok (.iload_n 0, 1) := dk_26 (dk_at dksX2_squared_0 0 rfl rfl)
theorem dX2_squared_1 : decode cX2_squared 1 = .ok (.iload_n 2, 1) := dk_28 (dk_at dksX2_squared_0 1 rfl rfl)
theorem dX2_squared_2 : decode cX2_squared 2 = .ok (.isub, 1) := dk_100 (dk_at dksX2_squared_0 2 rfl rfl)
theorem dX2_squared_3 : decode cX2_squared 3 = .ok (.iload_n 0, 1) := dk_26 (dk_at dksX2_squared_0 3 rfl rfl)
theorem dX2_squared_4 : decode cX2_squared 4 = .ok (.iload_n 2, 1) := dk_28 (dk_at dksX2_squared_0 4 rfl rfl)
theorem dX2_squared_5 : decode cX2_squared 5 = .ok (.isub, 1) := dk_100 (dk_at dksX2_squared_0 5 rfl rfl)
theorem dX2_squared_6 : decode cX2_squared 6 = .ok (.imul, 1) := dk_104 (dk_at dksX2_squared_0 6 rfl rfl)
theorem dX2_squared_7 : decode cX2_squared 7 = .ok (.iload_n 1, 1) := dk_27 (dk_at dksX2_squared_0 7 rfl rfl)
theorem dX2_squared_8 : decode cX2_squared 8 = .ok (.iload_n 3, 1) := dk_29 (dk_at dksX2_squared_0 8 rfl rfl)
theorem dX2_squared_9 : decode cX2_squared 9 = .ok (.isub, 1) := dk_100 (dk_at dksX2_squared_0 9 rfl rfl)
theorem dX2_squared_10 : decode cX2_squared 10 = .ok (.iload_n 1, 1) := dk_27 (dk_at dksX2_squared_0 10 rfl rfl)
theorem dX2_squared_11 : decode cX2_squared 11 = .ok (.iload_n 3, 1) := dk_29 (dk_at dksX2_squared_0 11 rfl rfl)
theorem dX2_squared_12 : decode cX2_squared 12 = .ok (.isub, 1) := dk_100 (dk_at dksX2_squared_0 12 rfl rfl)
theorem dX2_squared_13 : decode cX2_squared 13 = .ok (.imul, 1) := dk_104 (dk_at dksX2_squared_0 13 rfl rfl)
theorem dX2_squared_14 : decode cX2_squared 14 = .ok (.iadd, 1) := dk_96 (dk_at dksX2_squared_0 14 rfl rfl)
theorem dX2_squared_15 : decode cX2_squared 15 = .ok (.ireturn, 1) := dk_172 (dk_at dksX2_squared_0 15 rfl rfl)
abbrev cX2_isProtected : ByteArray := prog_22_method_93_code
def yX2_isProtected : MethodName := ⟨RX2, "isProtected", "(I)Z"⟩
def dkwX2_isProtected_1 : List UInt8 := [4, 167, 0, 4, 3, 172]
abbrev dktX2_isProtected_1 : List UInt8 := dkwX2_isProtected_1 ++ []
def dkwX2_isProtected_0 : List UInt8 := [42, 42, 27, 182, 1, 202, 182, 1, 205, 153, 0, 19, 42, 42, 180, 0, 23, 27, 182, 1, 114, 153, 0, 7]
abbrev dktX2_isProtected_0 : List UInt8 := dkwX2_isProtected_0 ++ dktX2_isProtected_1
theorem dksX2_isProtected_0 : cX2_isProtected.data.toList.drop 0 = dktX2_isProtected_0 := by decide +kernel
theorem dksX2_isProtected_1 : cX2_isProtected.data.toList.drop 24 = dktX2_isProtected_1 := dk_seg dksX2_isProtected_0 24 rfl rfl
theorem dX2_isProtected_0 : decode cX2_isProtected 0 = .ok (.aload_n 0, 1) := dk_42 (dk_at dksX2_isProtected_0 0 rfl rfl)
theorem dX2_isProtected_1 : decode cX2_isProtected 1 = .ok (.aload_n 0, 1) := dk_42 (dk_at dksX2_isProtected_0 1 rfl rfl)
theorem dX2_isProtected_2 : decode cX2_isProtected 2 = .ok (.iload_n 1, 1) := dk_27 (dk_at dksX2_isProtected_0 2 rfl rfl)
theorem dX2_isProtected_3 : decode cX2_isProtected 3 = .ok (.invokevirtual 458, 3) := dk_182 1 202 (dk_at dksX2_isProtected_0 3 rfl rfl)
theorem dX2_isProtected_6 : decode cX2_isProtected 6 = .ok (.invokevirtual 461, 3) := dk_182 1 205 (dk_at dksX2_isProtected_0 6 rfl rfl)
theorem dX2_isProtected_9 : decode cX2_isProtected 9 = .ok (.ifCond .eq 19, 3) := dk_153 0 19 (dk_at dksX2_isProtected_0 9 rfl rfl)
theorem dX2_isProtected_12 : decode cX2_isProtected 12 = .ok (.aload_n 0, 1) := dk_42 (dk_at dksX2_isProtected_0 12 rfl rfl)
theorem dX2_isProtected_13 : decode cX2_isProtected 13 = .ok (.aload_n 0, 1) := dk_42 (dk_at dksX2_isProtected_0 13 rfl rfl)
theorem dX2_isProtected_14 : decode cX2_isProtected 14 = .ok (.getfield 23, 3) := dk_180 0 23 (dk_at dksX2_isProtected_0 14 rfl rfl)
theorem dX2_isProtected_17 : decode cX2_isProtected 17 = .ok (.iload_n 1, 1) := dk_27 (dk_at dksX2_isProtected_0 17 rfl rfl)
theorem dX2_isProtected_18 : decode cX2_isProtected 18 = .ok (.invokevirtual 370, 3) := dk_182 1 114 (dk_at dksX2_isProtected_0 18 rfl rfl)
theorem dX2_isProtected_21 : decode cX2_isProtected 21 = .ok (.ifCond .eq 7, 3) := dk_153 0 7 (dk_at dksX2_isProtected_0 21 rfl rfl)
theorem dX2_isProtected_24 : decode cX2_isProtected 24 = .ok (.iconst 1, 1) := dk_4 (dk_at dksX2_isProtected_1 0 rfl rfl)
theorem dX2_isProtected_25 : decode cX2_isProtected 25 = .ok (.goto 4, 3) := dk_167 0 4 (dk_at dksX2_isProtected_1 1 rfl rfl)
theorem dX2_isProtected_28 : decode cX2_isProtected 28 = .ok (.iconst 0, 1) := dk_3 (dk_at dksX2_isProtected_1 4 rfl rfl)
theorem dX2_isProtected_29 : decode cX2_isProtected 29 = .ok (.ireturn, 1) := dk_172 (dk_at dksX2_isProtected_1 5 rfl rfl)
abbrev cX2_protects : ByteArray := prog_22_method_55_code
def yX2_protects : MethodName := ⟨RX2, "protects", "([II)Z"⟩
def dkwX2_protects_3 : List UInt8 := [182, 1, 77, 153, 0, 7, 4, 167, 0, 4, 3, 172]
abbrev dktX2_protects_3 : List UInt8 := dkwX2_protects_3 ++ []
def dkwX2_protects_2 : List UInt8 := [180, 0, 17, 16, 7, 46, 96, 43, 29, 16, 6, 96, 46, 4, 100, 184, 0, 114, 153, 0, 16, 42, 43, 28]
abbrev dktX2_protects_2 : List UInt8 := dkwX2_protects_2 ++ dktX2_protects_3
def dkwX2_protects_1 : List UInt8 := [96, 46, 43, 29, 16, 6, 96, 46, 4, 100, 184, 0, 114, 172, 43, 3, 46, 43, 29, 8, 96, 46, 42]
abbrev dktX2_protects_1 : List UInt8 := dkwX2_protects_1 ++ dktX2_protects_2
def dkwX2_protects_0 : List UInt8 := [16, 118, 16, 8, 28, 104, 96, 62, 43, 29, 16, 7, 96, 46, 4, 160, 0, 23, 43, 3, 46, 43, 29, 8]
abbrev dktX2_protects_0 : List UInt8 := dkwX2_protects_0 ++ dktX2_protects_1
theorem dksX2_protects_0 : cX2_protects.data.toList.drop 0 = dktX2_protects_0 := by decide +kernel
theorem dksX2_protects_1 : cX2_protects.data.toList.drop 24 = dktX2_protects_1 := dk_seg dksX2_protects_0 24 rfl rfl
theorem dksX2_protects_2 : cX2_protects.data.toList.drop 47 = dktX2_protects_2 := dk_seg dksX2_protects_1 23 rfl rfl
theorem dksX2_protects_3 : cX2_protects.data.toList.drop 71 = dktX2_protects_3 := dk_seg dksX2_protects_2 24 rfl rfl
theorem dX2_protects_0 : decode cX2_protects 0 = .ok (.bipush 118, 2) := dk_16 118 (dk_at dksX2_protects_0 0 rfl rfl)
theorem dX2_protects_2 : decode cX2_protects 2 = .ok (.bipush 8, 2) := dk_16 8 (dk_at dksX2_protects_0 2 rfl rfl)
theorem dX2_protects_4 : decode cX2_protects 4 = .ok (.iload_n 2, 1) := dk_28 (dk_at dksX2_protects_0 4 rfl rfl)
theorem dX2_protects_5 : decode cX2_protects 5 = .ok (.imul, 1) := dk_104 (dk_at dksX2_protects_0 5 rfl rfl)
theorem dX2_protects_6 : decode cX2_protects 6 = .ok (.iadd, 1) := dk_96 (dk_at dksX2_protects_0 6 rfl rfl)
theorem dX2_protects_7 : decode cX2_protects 7 = .ok (.istore_n 3, 1) := dk_62 (dk_at dksX2_protects_0 7 rfl rfl)
theorem dX2_protects_8 : decode cX2_protects 8 = .ok (.aload_n 1, 1) := dk_43 (dk_at dksX2_protects_0 8 rfl rfl)
theorem dX2_protects_9 : decode cX2_protects 9 = .ok (.iload_n 3, 1) := dk_29 (dk_at dksX2_protects_0 9 rfl rfl)
theorem dX2_protects_10 : decode cX2_protects 10 = .ok (.bipush 7, 2) := dk_16 7 (dk_at dksX2_protects_0 10 rfl rfl)
theorem dX2_protects_12 : decode cX2_protects 12 = .ok (.iadd, 1) := dk_96 (dk_at dksX2_protects_0 12 rfl rfl)
theorem dX2_protects_13 : decode cX2_protects 13 = .ok (.iaload, 1) := dk_46 (dk_at dksX2_protects_0 13 rfl rfl)
theorem dX2_protects_14 : decode cX2_protects 14 = .ok (.iconst 1, 1) := dk_4 (dk_at dksX2_protects_0 14 rfl rfl)
theorem dX2_protects_15 : decode cX2_protects 15 = .ok (.if_icmp .ne 23, 3) := dk_160 0 23 (dk_at dksX2_protects_0 15 rfl rfl)
theorem dX2_protects_18 : decode cX2_protects 18 = .ok (.aload_n 1, 1) := dk_43 (dk_at dksX2_protects_0 18 rfl rfl)
theorem dX2_protects_19 : decode cX2_protects 19 = .ok (.iconst 0, 1) := dk_3 (dk_at dksX2_protects_0 19 rfl rfl)
theorem dX2_protects_20 : decode cX2_protects 20 = .ok (.iaload, 1) := dk_46 (dk_at dksX2_protects_0 20 rfl rfl)
theorem dX2_protects_21 : decode cX2_protects 21 = .ok (.aload_n 1, 1) := dk_43 (dk_at dksX2_protects_0 21 rfl rfl)
theorem dX2_protects_22 : decode cX2_protects 22 = .ok (.iload_n 3, 1) := dk_29 (dk_at dksX2_protects_0 22 rfl rfl)
theorem dX2_protects_23 : decode cX2_protects 23 = .ok (.iconst 5, 1) := dk_8 (dk_at dksX2_protects_0 23 rfl rfl)
theorem dX2_protects_24 : decode cX2_protects 24 = .ok (.iadd, 1) := dk_96 (dk_at dksX2_protects_1 0 rfl rfl)
theorem dX2_protects_25 : decode cX2_protects 25 = .ok (.iaload, 1) := dk_46 (dk_at dksX2_protects_1 1 rfl rfl)
theorem dX2_protects_26 : decode cX2_protects 26 = .ok (.aload_n 1, 1) := dk_43 (dk_at dksX2_protects_1 2 rfl rfl)
theorem dX2_protects_27 : decode cX2_protects 27 = .ok (.iload_n 3, 1) := dk_29 (dk_at dksX2_protects_1 3 rfl rfl)
theorem dX2_protects_28 : decode cX2_protects 28 = .ok (.bipush 6, 2) := dk_16 6 (dk_at dksX2_protects_1 4 rfl rfl)
theorem dX2_protects_30 : decode cX2_protects 30 = .ok (.iadd, 1) := dk_96 (dk_at dksX2_protects_1 6 rfl rfl)
theorem dX2_protects_31 : decode cX2_protects 31 = .ok (.iaload, 1) := dk_46 (dk_at dksX2_protects_1 7 rfl rfl)
theorem dX2_protects_32 : decode cX2_protects 32 = .ok (.iconst 1, 1) := dk_4 (dk_at dksX2_protects_1 8 rfl rfl)
theorem dX2_protects_33 : decode cX2_protects 33 = .ok (.isub, 1) := dk_100 (dk_at dksX2_protects_1 9 rfl rfl)
theorem dX2_protects_34 : decode cX2_protects 34 = .ok (.invokestatic 114, 3) := dk_184 0 114 (dk_at dksX2_protects_1 10 rfl rfl)
theorem dX2_protects_37 : decode cX2_protects 37 = .ok (.ireturn, 1) := dk_172 (dk_at dksX2_protects_1 13 rfl rfl)
theorem dX2_protects_38 : decode cX2_protects 38 = .ok (.aload_n 1, 1) := dk_43 (dk_at dksX2_protects_1 14 rfl rfl)
theorem dX2_protects_39 : decode cX2_protects 39 = .ok (.iconst 0, 1) := dk_3 (dk_at dksX2_protects_1 15 rfl rfl)
theorem dX2_protects_40 : decode cX2_protects 40 = .ok (.iaload, 1) := dk_46 (dk_at dksX2_protects_1 16 rfl rfl)
theorem dX2_protects_41 : decode cX2_protects 41 = .ok (.aload_n 1, 1) := dk_43 (dk_at dksX2_protects_1 17 rfl rfl)
theorem dX2_protects_42 : decode cX2_protects 42 = .ok (.iload_n 3, 1) := dk_29 (dk_at dksX2_protects_1 18 rfl rfl)
theorem dX2_protects_43 : decode cX2_protects 43 = .ok (.iconst 5, 1) := dk_8 (dk_at dksX2_protects_1 19 rfl rfl)
theorem dX2_protects_44 : decode cX2_protects 44 = .ok (.iadd, 1) := dk_96 (dk_at dksX2_protects_1 20 rfl rfl)
theorem dX2_protects_45 : decode cX2_protects 45 = .ok (.iaload, 1) := dk_46 (dk_at dksX2_protects_1 21 rfl rfl)
theorem dX2_protects_46 : decode cX2_protects 46 = .ok (.aload_n 0, 1) := dk_42 (dk_at dksX2_protects_1 22 rfl rfl)
theorem dX2_protects_47 : decode cX2_protects 47 = .ok (.getfield 17, 3) := dk_180 0 17 (dk_at dksX2_protects_2 0 rfl rfl)
theorem dX2_protects_50 : decode cX2_protects 50 = .ok (.bipush 7, 2) := dk_16 7 (dk_at dksX2_protects_2 3 rfl rfl)
theorem dX2_protects_52 : decode cX2_protects 52 = .ok (.iaload, 1) := dk_46 (dk_at dksX2_protects_2 5 rfl rfl)
theorem dX2_protects_53 : decode cX2_protects 53 = .ok (.iadd, 1) := dk_96 (dk_at dksX2_protects_2 6 rfl rfl)
theorem dX2_protects_54 : decode cX2_protects 54 = .ok (.aload_n 1, 1) := dk_43 (dk_at dksX2_protects_2 7 rfl rfl)
theorem dX2_protects_55 : decode cX2_protects 55 = .ok (.iload_n 3, 1) := dk_29 (dk_at dksX2_protects_2 8 rfl rfl)
theorem dX2_protects_56 : decode cX2_protects 56 = .ok (.bipush 6, 2) := dk_16 6 (dk_at dksX2_protects_2 9 rfl rfl)
theorem dX2_protects_58 : decode cX2_protects 58 = .ok (.iadd, 1) := dk_96 (dk_at dksX2_protects_2 11 rfl rfl)
theorem dX2_protects_59 : decode cX2_protects 59 = .ok (.iaload, 1) := dk_46 (dk_at dksX2_protects_2 12 rfl rfl)
theorem dX2_protects_60 : decode cX2_protects 60 = .ok (.iconst 1, 1) := dk_4 (dk_at dksX2_protects_2 13 rfl rfl)
theorem dX2_protects_61 : decode cX2_protects 61 = .ok (.isub, 1) := dk_100 (dk_at dksX2_protects_2 14 rfl rfl)
theorem dX2_protects_62 : decode cX2_protects 62 = .ok (.invokestatic 114, 3) := dk_184 0 114 (dk_at dksX2_protects_2 15 rfl rfl)
theorem dX2_protects_65 : decode cX2_protects 65 = .ok (.ifCond .eq 16, 3) := dk_153 0 16 (dk_at dksX2_protects_2 18 rfl rfl)
theorem dX2_protects_68 : decode cX2_protects 68 = .ok (.aload_n 0, 1) := dk_42 (dk_at dksX2_protects_2 21 rfl rfl)
theorem dX2_protects_69 : decode cX2_protects 69 = .ok (.aload_n 1, 1) := dk_43 (dk_at dksX2_protects_2 22 rfl rfl)
theorem dX2_protects_70 : decode cX2_protects 70 = .ok (.iload_n 2, 1) := dk_28 (dk_at dksX2_protects_2 23 rfl rfl)
theorem dX2_protects_71 : decode cX2_protects 71 = .ok (.invokevirtual 333, 3) := dk_182 1 77 (dk_at dksX2_protects_3 0 rfl rfl)
theorem dX2_protects_74 : decode cX2_protects 74 = .ok (.ifCond .eq 7, 3) := dk_153 0 7 (dk_at dksX2_protects_3 3 rfl rfl)
theorem dX2_protects_77 : decode cX2_protects 77 = .ok (.iconst 1, 1) := dk_4 (dk_at dksX2_protects_3 6 rfl rfl)
theorem dX2_protects_78 : decode cX2_protects 78 = .ok (.goto 4, 3) := dk_167 0 4 (dk_at dksX2_protects_3 7 rfl rfl)
theorem dX2_protects_81 : decode cX2_protects 81 = .ok (.iconst 0, 1) := dk_3 (dk_at dksX2_protects_3 10 rfl rfl)
theorem dX2_protects_82 : decode cX2_protects 82 = .ok (.ireturn, 1) := dk_172 (dk_at dksX2_protects_3 11 rfl rfl)
abbrev cX2_headroom : ByteArray := prog_22_method_95_code
def yX2_headroom : MethodName := ⟨RX2, "headroom", "(I)I"⟩
def dkwX2_headroom_0 : List UInt8 := [42, 42, 27, 182, 1, 202, 182, 1, 205, 153, 0, 11, 42, 27, 182, 1, 209, 167, 0, 4, 3, 172]
abbrev dktX2_headroom_0 : List UInt8 := dkwX2_headroom_0 ++ []
theorem dksX2_headroom_0 : cX2_headroom.data.toList.drop 0 = dktX2_headroom_0 := by decide +kernel
theorem dX2_headroom_0 : decode cX2_headroom 0 = .ok (.aload_n 0, 1) := dk_42 (dk_at dksX2_headroom_0 0 rfl rfl)
theorem dX2_headroom_1 : decode cX2_headroom 1 = .ok (.aload_n 0, 1) := dk_42 (dk_at dksX2_headroom_0 1 rfl rfl)
theorem dX2_headroom_2 : decode cX2_headroom 2 = .ok (.iload_n 1, 1) := dk_27 (dk_at dksX2_headroom_0 2 rfl rfl)
theorem dX2_headroom_3 : decode cX2_headroom 3 = .ok (.invokevirtual 458, 3) := dk_182 1 202 (dk_at dksX2_headroom_0 3 rfl rfl)
theorem dX2_headroom_6 : decode cX2_headroom 6 = .ok (.invokevirtual 461, 3) := dk_182 1 205 (dk_at dksX2_headroom_0 6 rfl rfl)
theorem dX2_headroom_9 : decode cX2_headroom 9 = .ok (.ifCond .eq 11, 3) := dk_153 0 11 (dk_at dksX2_headroom_0 9 rfl rfl)
theorem dX2_headroom_12 : decode cX2_headroom 12 = .ok (.aload_n 0, 1) := dk_42 (dk_at dksX2_headroom_0 12 rfl rfl)
theorem dX2_headroom_13 : decode cX2_headroom 13 = .ok (.iload_n 1, 1) := dk_27 (dk_at dksX2_headroom_0 13 rfl rfl)
theorem dX2_headroom_14 : decode cX2_headroom 14 = .ok (.invokevirtual 465, 3) := dk_182 1 209 (dk_at dksX2_headroom_0 14 rfl rfl)
theorem dX2_headroom_17 : decode cX2_headroom 17 = .ok (.goto 4, 3) := dk_167 0 4 (dk_at dksX2_headroom_0 17 rfl rfl)
theorem dX2_headroom_20 : decode cX2_headroom 20 = .ok (.iconst 0, 1) := dk_3 (dk_at dksX2_headroom_0 20 rfl rfl)
theorem dX2_headroom_21 : decode cX2_headroom 21 = .ok (.ireturn, 1) := dk_172 (dk_at dksX2_headroom_0 21 rfl rfl)
abbrev cX2_room : ByteArray := prog_22_method_94_code
def yX2_room : MethodName := ⟨RX2, "room", "(I)I"⟩
def dkwX2_room_3 : List UInt8 := [42, 180, 0, 23, 28, 7, 96, 46, 29, 100, 172]
abbrev dktX2_room_3 : List UInt8 := dkwX2_room_3 ++ []
def dkwX2_room_2 : List UInt8 := [42, 180, 0, 23, 28, 4, 96, 46, 21, 4, 3, 182, 1, 117, 184, 1, 95, 62, 132, 4, 1, 167, 255, 208]
abbrev dktX2_room_2 : List UInt8 := dkwX2_room_2 ++ dktX2_room_3
def dkwX2_room_1 : List UInt8 := [180, 0, 23, 28, 6, 96, 46, 163, 0, 41, 29, 42, 42, 180, 0, 23, 42, 180, 0, 23, 28, 3, 96, 46]
abbrev dktX2_room_1 : List UInt8 := dkwX2_room_1 ++ dktX2_room_2
def dkwX2_room_0 : List UInt8 := [16, 118, 16, 8, 27, 104, 96, 61, 3, 62, 42, 180, 0, 23, 28, 5, 96, 46, 54, 4, 21, 4, 42]
abbrev dktX2_room_0 : List UInt8 := dkwX2_room_0 ++ dktX2_room_1
theorem dksX2_room_0 : cX2_room.data.toList.drop 0 = dktX2_room_0 := by decide +kernel
theorem dksX2_room_1 : cX2_room.data.toList.drop 23 = dktX2_room_1 := dk_seg dksX2_room_0 23 rfl rfl
theorem dksX2_room_2 : cX2_room.data.toList.drop 47 = dktX2_room_2 := dk_seg dksX2_room_1 24 rfl rfl
theorem dksX2_room_3 : cX2_room.data.toList.drop 71 = dktX2_room_3 := dk_seg dksX2_room_2 24 rfl rfl
theorem dX2_room_0 : decode cX2_room 0 = .ok (.bipush 118, 2) := dk_16 118 (dk_at dksX2_room_0 0 rfl rfl)
theorem dX2_room_2 : decode cX2_room 2 = .ok (.bipush 8, 2) := dk_16 8 (dk_at dksX2_room_0 2 rfl rfl)
theorem dX2_room_4 : decode cX2_room 4 = .ok (.iload_n 1, 1) := dk_27 (dk_at dksX2_room_0 4 rfl rfl)
theorem dX2_room_5 : decode cX2_room 5 = .ok (.imul, 1) := dk_104 (dk_at dksX2_room_0 5 rfl rfl)
theorem dX2_room_6 : decode cX2_room 6 = .ok (.iadd, 1) := dk_96 (dk_at dksX2_room_0 6 rfl rfl)
theorem dX2_room_7 : decode cX2_room 7 = .ok (.istore_n 2, 1) := dk_61 (dk_at dksX2_room_0 7 rfl rfl)
theorem dX2_room_8 : decode cX2_room 8 = .ok (.iconst 0, 1) := dk_3 (dk_at dksX2_room_0 8 rfl rfl)
theorem dX2_room_9 : decode cX2_room 9 = .ok (.istore_n 3, 1) := dk_62 (dk_at dksX2_room_0 9 rfl rfl)
theorem dX2_room_10 : decode cX2_room 10 = .ok (.aload_n 0, 1) := dk_42 (dk_at dksX2_room_0 10 rfl rfl)
theorem dX2_room_11 : decode cX2_room 11 = .ok (.getfield 23, 3) := dk_180 0 23 (dk_at dksX2_room_0 11 rfl rfl)
theorem dX2_room_14 : decode cX2_room 14 = .ok (.iload_n 2, 1) := dk_28 (dk_at dksX2_room_0 14 rfl rfl)
theorem dX2_room_15 : decode cX2_room 15 = .ok (.iconst 2, 1) := dk_5 (dk_at dksX2_room_0 15 rfl rfl)
theorem dX2_room_16 : decode cX2_room 16 = .ok (.iadd, 1) := dk_96 (dk_at dksX2_room_0 16 rfl rfl)
theorem dX2_room_17 : decode cX2_room 17 = .ok (.iaload, 1) := dk_46 (dk_at dksX2_room_0 17 rfl rfl)
theorem dX2_room_18 : decode cX2_room 18 = .ok (.istore 4, 2) := dk_54 4 (dk_at dksX2_room_0 18 rfl rfl)
theorem dX2_room_20 : decode cX2_room 20 = .ok (.iload 4, 2) := dk_21 4 (dk_at dksX2_room_0 20 rfl rfl)
theorem dX2_room_22 : decode cX2_room 22 = .ok (.aload_n 0, 1) := dk_42 (dk_at dksX2_room_0 22 rfl rfl)
theorem dX2_room_23 : decode cX2_room 23 = .ok (.getfield 23, 3) := dk_180 0 23 (dk_at dksX2_room_1 0 rfl rfl)
theorem dX2_room_26 : decode cX2_room 26 = .ok (.iload_n 2, 1) := dk_28 (dk_at dksX2_room_1 3 rfl rfl)
theorem dX2_room_27 : decode cX2_room 27 = .ok (.iconst 3, 1) := dk_6 (dk_at dksX2_room_1 4 rfl rfl)
theorem dX2_room_28 : decode cX2_room 28 = .ok (.iadd, 1) := dk_96 (dk_at dksX2_room_1 5 rfl rfl)
theorem dX2_room_29 : decode cX2_room 29 = .ok (.iaload, 1) := dk_46 (dk_at dksX2_room_1 6 rfl rfl)
theorem dX2_room_30 : decode cX2_room 30 = .ok (.if_icmp .gt 41, 3) := dk_163 0 41 (dk_at dksX2_room_1 7 rfl rfl)
theorem dX2_room_33 : decode cX2_room 33 = .ok (.iload_n 3, 1) := dk_29 (dk_at dksX2_room_1 10 rfl rfl)
theorem dX2_room_34 : decode cX2_room 34 = .ok (.aload_n 0, 1) := dk_42 (dk_at dksX2_room_1 11 rfl rfl)
theorem dX2_room_35 : decode cX2_room 35 = .ok (.aload_n 0, 1) := dk_42 (dk_at dksX2_room_1 12 rfl rfl)
theorem dX2_room_36 : decode cX2_room 36 = .ok (.getfield 23, 3) := dk_180 0 23 (dk_at dksX2_room_1 13 rfl rfl)
theorem dX2_room_39 : decode cX2_room 39 = .ok (.aload_n 0, 1) := dk_42 (dk_at dksX2_room_1 16 rfl rfl)
theorem dX2_room_40 : decode cX2_room 40 = .ok (.getfield 23, 3) := dk_180 0 23 (dk_at dksX2_room_1 17 rfl rfl)
theorem dX2_room_43 : decode cX2_room 43 = .ok (.iload_n 2, 1) := dk_28 (dk_at dksX2_room_1 20 rfl rfl)
theorem dX2_room_44 : decode cX2_room 44 = .ok (.iconst 0, 1) := dk_3 (dk_at dksX2_room_1 21 rfl rfl)
theorem dX2_room_45 : decode cX2_room 45 = .ok (.iadd, 1) := dk_96 (dk_at dksX2_room_1 22 rfl rfl)
theorem dX2_room_46 : decode cX2_room 46 = .ok (.iaload, 1) := dk_46 (dk_at dksX2_room_1 23 rfl rfl)
theorem dX2_room_47 : decode cX2_room 47 = .ok (.aload_n 0, 1) := dk_42 (dk_at dksX2_room_2 0 rfl rfl)
theorem dX2_room_48 : decode cX2_room 48 = .ok (.getfield 23, 3) := dk_180 0 23 (dk_at dksX2_room_2 1 rfl rfl)
theorem dX2_room_51 : decode cX2_room 51 = .ok (.iload_n 2, 1) := dk_28 (dk_at dksX2_room_2 4 rfl rfl)
theorem dX2_room_52 : decode cX2_room 52 = .ok (.iconst 1, 1) := dk_4 (dk_at dksX2_room_2 5 rfl rfl)
theorem dX2_room_53 : decode cX2_room 53 = .ok (.iadd, 1) := dk_96 (dk_at dksX2_room_2 6 rfl rfl)
theorem dX2_room_54 : decode cX2_room 54 = .ok (.iaload, 1) := dk_46 (dk_at dksX2_room_2 7 rfl rfl)
theorem dX2_room_55 : decode cX2_room 55 = .ok (.iload 4, 2) := dk_21 4 (dk_at dksX2_room_2 8 rfl rfl)
theorem dX2_room_57 : decode cX2_room 57 = .ok (.iconst 0, 1) := dk_3 (dk_at dksX2_room_2 10 rfl rfl)
theorem dX2_room_58 : decode cX2_room 58 = .ok (.invokevirtual 373, 3) := dk_182 1 117 (dk_at dksX2_room_2 11 rfl rfl)
theorem dX2_room_61 : decode cX2_room 61 = .ok (.invokestatic 351, 3) := dk_184 1 95 (dk_at dksX2_room_2 14 rfl rfl)
theorem dX2_room_64 : decode cX2_room 64 = .ok (.istore_n 3, 1) := dk_62 (dk_at dksX2_room_2 17 rfl rfl)
theorem dX2_room_65 : decode cX2_room 65 = .ok (.iinc 4 1, 3) := dk_132 4 1 (dk_at dksX2_room_2 18 rfl rfl)
theorem dX2_room_68 : decode cX2_room 68 = .ok (.goto (-48), 3) := dk_167 255 208 (dk_at dksX2_room_2 21 rfl rfl)
theorem dX2_room_71 : decode cX2_room 71 = .ok (.aload_n 0, 1) := dk_42 (dk_at dksX2_room_3 0 rfl rfl)
theorem dX2_room_72 : decode cX2_room 72 = .ok (.getfield 23, 3) := dk_180 0 23 (dk_at dksX2_room_3 1 rfl rfl)
theorem dX2_room_75 : decode cX2_room 75 = .ok (.iload_n 2, 1) := dk_28 (dk_at dksX2_room_3 4 rfl rfl)
theorem dX2_room_76 : decode cX2_room 76 = .ok (.iconst 4, 1) := dk_7 (dk_at dksX2_room_3 5 rfl rfl)
theorem dX2_room_77 : decode cX2_room 77 = .ok (.iadd, 1) := dk_96 (dk_at dksX2_room_3 6 rfl rfl)
theorem dX2_room_78 : decode cX2_room 78 = .ok (.iaload, 1) := dk_46 (dk_at dksX2_room_3 7 rfl rfl)
theorem dX2_room_79 : decode cX2_room 79 = .ok (.iload_n 3, 1) := dk_29 (dk_at dksX2_room_3 8 rfl rfl)
theorem dX2_room_80 : decode cX2_room 80 = .ok (.isub, 1) := dk_100 (dk_at dksX2_room_3 9 rfl rfl)
theorem dX2_room_81 : decode cX2_room 81 = .ok (.ireturn, 1) := dk_172 (dk_at dksX2_room_3 10 rfl rfl)
abbrev cX2_sum : ByteArray := prog_22_method_53_code
def yX2_sum : MethodName := ⟨RX2, "sum", "([IIIII)I"⟩
def dkwX2_sum_2 : List UInt8 := [54, 6, 132, 7, 1, 167, 255, 210, 21, 6, 172]
abbrev dktX2_sum_2 : List UInt8 := dkwX2_sum_2 ++ []
def dkwX2_sum_1 : List UInt8 := [21, 5, 182, 1, 70, 153, 0, 17, 42, 43, 21, 7, 28, 29, 21, 4, 182, 1, 73, 167, 0, 4, 3, 96]
abbrev dktX2_sum_1 : List UInt8 := dkwX2_sum_1 ++ dktX2_sum_2
def dkwX2_sum_0 : List UInt8 := [3, 54, 6, 3, 54, 7, 21, 7, 42, 180, 0, 17, 16, 10, 46, 162, 0, 40, 21, 6, 42, 21, 7]
abbrev dktX2_sum_0 : List UInt8 := dkwX2_sum_0 ++ dktX2_sum_1
theorem dksX2_sum_0 : cX2_sum.data.toList.drop 0 = dktX2_sum_0 := by decide +kernel
theorem dksX2_sum_1 : cX2_sum.data.toList.drop 23 = dktX2_sum_1 := dk_seg dksX2_sum_0 23 rfl rfl
theorem dksX2_sum_2 : cX2_sum.data.toList.drop 47 = dktX2_sum_2 := dk_seg dksX2_sum_1 24 rfl rfl
theorem dX2_sum_0 : decode cX2_sum 0 = .ok (.iconst 0, 1) := dk_3 (dk_at dksX2_sum_0 0 rfl rfl)
theorem dX2_sum_1 : decode cX2_sum 1 = .ok (.istore 6, 2) := dk_54 6 (dk_at dksX2_sum_0 1 rfl rfl)
theorem dX2_sum_3 : decode cX2_sum 3 = .ok (.iconst 0, 1) := dk_3 (dk_at dksX2_sum_0 3 rfl rfl)
theorem dX2_sum_4 : decode cX2_sum 4 = .ok (.istore 7, 2) := dk_54 7 (dk_at dksX2_sum_0 4 rfl rfl)
theorem dX2_sum_6 : decode cX2_sum 6 = .ok (.iload 7, 2) := dk_21 7 (dk_at dksX2_sum_0 6 rfl rfl)
theorem dX2_sum_8 : decode cX2_sum 8 = .ok (.aload_n 0, 1) := dk_42 (dk_at dksX2_sum_0 8 rfl rfl)
theorem dX2_sum_9 : decode cX2_sum 9 = .ok (.getfield 17, 3) := dk_180 0 17 (dk_at dksX2_sum_0 9 rfl rfl)
theorem dX2_sum_12 : decode cX2_sum 12 = .ok (.bipush 10, 2) := dk_16 10 (dk_at dksX2_sum_0 12 rfl rfl)
theorem dX2_sum_14 : decode cX2_sum 14 = .ok (.iaload, 1) := dk_46 (dk_at dksX2_sum_0 14 rfl rfl)
theorem dX2_sum_15 : decode cX2_sum 15 = .ok (.if_icmp .ge 40, 3) := dk_162 0 40 (dk_at dksX2_sum_0 15 rfl rfl)
theorem dX2_sum_18 : decode cX2_sum 18 = .ok (.iload 6, 2) := dk_21 6 (dk_at dksX2_sum_0 18 rfl rfl)
theorem dX2_sum_20 : decode cX2_sum 20 = .ok (.aload_n 0, 1) := dk_42 (dk_at dksX2_sum_0 20 rfl rfl)
theorem dX2_sum_21 : decode cX2_sum 21 = .ok (.iload 7, 2) := dk_21 7 (dk_at dksX2_sum_0 21 rfl rfl)
theorem dX2_sum_23 : decode cX2_sum 23 = .ok (.iload 5, 2) := dk_21 5 (dk_at dksX2_sum_1 0 rfl rfl)
theorem dX2_sum_25 : decode cX2_sum 25 = .ok (.invokevirtual 326, 3) := dk_182 1 70 (dk_at dksX2_sum_1 2 rfl rfl)
theorem dX2_sum_28 : decode cX2_sum 28 = .ok (.ifCond .eq 17, 3) := dk_153 0 17 (dk_at dksX2_sum_1 5 rfl rfl)
theorem dX2_sum_31 : decode cX2_sum 31 = .ok (.aload_n 0, 1) := dk_42 (dk_at dksX2_sum_1 8 rfl rfl)
theorem dX2_sum_32 : decode cX2_sum 32 = .ok (.aload_n 1, 1) := dk_43 (dk_at dksX2_sum_1 9 rfl rfl)
theorem dX2_sum_33 : decode cX2_sum 33 = .ok (.iload 7, 2) := dk_21 7 (dk_at dksX2_sum_1 10 rfl rfl)
theorem dX2_sum_35 : decode cX2_sum 35 = .ok (.iload_n 2, 1) := dk_28 (dk_at dksX2_sum_1 12 rfl rfl)
theorem dX2_sum_36 : decode cX2_sum 36 = .ok (.iload_n 3, 1) := dk_29 (dk_at dksX2_sum_1 13 rfl rfl)
theorem dX2_sum_37 : decode cX2_sum 37 = .ok (.iload 4, 2) := dk_21 4 (dk_at dksX2_sum_1 14 rfl rfl)
theorem dX2_sum_39 : decode cX2_sum 39 = .ok (.invokevirtual 329, 3) := dk_182 1 73 (dk_at dksX2_sum_1 16 rfl rfl)
theorem dX2_sum_42 : decode cX2_sum 42 = .ok (.goto 4, 3) := dk_167 0 4 (dk_at dksX2_sum_1 19 rfl rfl)
theorem dX2_sum_45 : decode cX2_sum 45 = .ok (.iconst 0, 1) := dk_3 (dk_at dksX2_sum_1 22 rfl rfl)
theorem dX2_sum_46 : decode cX2_sum 46 = .ok (.iadd, 1) := dk_96 (dk_at dksX2_sum_1 23 rfl rfl)
theorem dX2_sum_47 : decode cX2_sum 47 = .ok (.istore 6, 2) := dk_54 6 (dk_at dksX2_sum_2 0 rfl rfl)
theorem dX2_sum_49 : decode cX2_sum 49 = .ok (.iinc 7 1, 3) := dk_132 7 1 (dk_at dksX2_sum_2 2 rfl rfl)
theorem dX2_sum_52 : decode cX2_sum 52 = .ok (.goto (-46), 3) := dk_167 255 210 (dk_at dksX2_sum_2 5 rfl rfl)
theorem dX2_sum_55 : decode cX2_sum 55 = .ok (.iload 6, 2) := dk_21 6 (dk_at dksX2_sum_2 8 rfl rfl)
theorem dX2_sum_57 : decode cX2_sum 57 = .ok (.ireturn, 1) := dk_172 (dk_at dksX2_sum_2 10 rfl rfl)
abbrev cX2_isOf : ByteArray := prog_22_method_52_code
def yX2_isOf : MethodName := ⟨RX2, "isOf", "(II)Z"⟩
def dkwX2_isOf_1 : List UInt8 := [167, 0, 4, 3, 172]
abbrev dktX2_isOf_1 : List UInt8 := dkwX2_isOf_1 ++ []
def dkwX2_isOf_0 : List UInt8 := [28, 153, 0, 21, 42, 27, 182, 1, 4, 28, 5, 160, 0, 7, 4, 167, 0, 4, 3, 160, 0, 7, 4]
abbrev dktX2_isOf_0 : List UInt8 := dkwX2_isOf_0 ++ dktX2_isOf_1
theorem dksX2_isOf_0 : cX2_isOf.data.toList.drop 0 = dktX2_isOf_0 := by decide +kernel
theorem dksX2_isOf_1 : cX2_isOf.data.toList.drop 23 = dktX2_isOf_1 := dk_seg dksX2_isOf_0 23 rfl rfl
theorem dX2_isOf_0 : decode cX2_isOf 0 = .ok (.iload_n 2, 1) := dk_28 (dk_at dksX2_isOf_0 0 rfl rfl)
theorem dX2_isOf_1 : decode cX2_isOf 1 = .ok (.ifCond .eq 21, 3) := dk_153 0 21 (dk_at dksX2_isOf_0 1 rfl rfl)
theorem dX2_isOf_4 : decode cX2_isOf 4 = .ok (.aload_n 0, 1) := dk_42 (dk_at dksX2_isOf_0 4 rfl rfl)
theorem dX2_isOf_5 : decode cX2_isOf 5 = .ok (.iload_n 1, 1) := dk_27 (dk_at dksX2_isOf_0 5 rfl rfl)
theorem dX2_isOf_6 : decode cX2_isOf 6 = .ok (.invokevirtual 260, 3) := dk_182 1 4 (dk_at dksX2_isOf_0 6 rfl rfl)
theorem dX2_isOf_9 : decode cX2_isOf 9 = .ok (.iload_n 2, 1) := dk_28 (dk_at dksX2_isOf_0 9 rfl rfl)
theorem dX2_isOf_10 : decode cX2_isOf 10 = .ok (.iconst 2, 1) := dk_5 (dk_at dksX2_isOf_0 10 rfl rfl)
theorem dX2_isOf_11 : decode cX2_isOf 11 = .ok (.if_icmp .ne 7, 3) := dk_160 0 7 (dk_at dksX2_isOf_0 11 rfl rfl)
theorem dX2_isOf_14 : decode cX2_isOf 14 = .ok (.iconst 1, 1) := dk_4 (dk_at dksX2_isOf_0 14 rfl rfl)
theorem dX2_isOf_15 : decode cX2_isOf 15 = .ok (.goto 4, 3) := dk_167 0 4 (dk_at dksX2_isOf_0 15 rfl rfl)
theorem dX2_isOf_18 : decode cX2_isOf 18 = .ok (.iconst 0, 1) := dk_3 (dk_at dksX2_isOf_0 18 rfl rfl)
theorem dX2_isOf_19 : decode cX2_isOf 19 = .ok (.if_icmp .ne 7, 3) := dk_160 0 7 (dk_at dksX2_isOf_0 19 rfl rfl)
theorem dX2_isOf_22 : decode cX2_isOf 22 = .ok (.iconst 1, 1) := dk_4 (dk_at dksX2_isOf_0 22 rfl rfl)
theorem dX2_isOf_23 : decode cX2_isOf 23 = .ok (.goto 4, 3) := dk_167 0 4 (dk_at dksX2_isOf_1 0 rfl rfl)
theorem dX2_isOf_26 : decode cX2_isOf 26 = .ok (.iconst 0, 1) := dk_3 (dk_at dksX2_isOf_1 3 rfl rfl)
theorem dX2_isOf_27 : decode cX2_isOf 27 = .ok (.ireturn, 1) := dk_172 (dk_at dksX2_isOf_1 4 rfl rfl)
abbrev cX2_isLicensed : ByteArray := prog_22_method_51_code
def yX2_isLicensed : MethodName := ⟨RX2, "isLicensed", "(I)Z"⟩
def dkwX2_isLicensed_0 : List UInt8 := [42, 180, 0, 17, 16, 86, 27, 96, 46, 2, 159, 0, 7, 4, 167, 0, 4, 3, 172]
abbrev dktX2_isLicensed_0 : List UInt8 := dkwX2_isLicensed_0 ++ []
theorem dksX2_isLicensed_0 : cX2_isLicensed.data.toList.drop 0 = dktX2_isLicensed_0 := by decide +kernel
theorem dX2_isLicensed_0 : decode cX2_isLicensed 0 = .ok (.aload_n 0, 1) := dk_42 (dk_at dksX2_isLicensed_0 0 rfl rfl)
theorem dX2_isLicensed_1 : decode cX2_isLicensed 1 = .ok (.getfield 17, 3) := dk_180 0 17 (dk_at dksX2_isLicensed_0 1 rfl rfl)
theorem dX2_isLicensed_4 : decode cX2_isLicensed 4 = .ok (.bipush 86, 2) := dk_16 86 (dk_at dksX2_isLicensed_0 4 rfl rfl)
theorem dX2_isLicensed_6 : decode cX2_isLicensed 6 = .ok (.iload_n 1, 1) := dk_27 (dk_at dksX2_isLicensed_0 6 rfl rfl)
theorem dX2_isLicensed_7 : decode cX2_isLicensed 7 = .ok (.iadd, 1) := dk_96 (dk_at dksX2_isLicensed_0 7 rfl rfl)
theorem dX2_isLicensed_8 : decode cX2_isLicensed 8 = .ok (.iaload, 1) := dk_46 (dk_at dksX2_isLicensed_0 8 rfl rfl)
theorem dX2_isLicensed_9 : decode cX2_isLicensed 9 = .ok (.iconst (-1), 1) := dk_2 (dk_at dksX2_isLicensed_0 9 rfl rfl)
theorem dX2_isLicensed_10 : decode cX2_isLicensed 10 = .ok (.if_icmp .eq 7, 3) := dk_159 0 7 (dk_at dksX2_isLicensed_0 10 rfl rfl)
theorem dX2_isLicensed_13 : decode cX2_isLicensed 13 = .ok (.iconst 1, 1) := dk_4 (dk_at dksX2_isLicensed_0 13 rfl rfl)
theorem dX2_isLicensed_14 : decode cX2_isLicensed 14 = .ok (.goto 4, 3) := dk_167 0 4 (dk_at dksX2_isLicensed_0 14 rfl rfl)
theorem dX2_isLicensed_17 : decode cX2_isLicensed 17 = .ok (.iconst 0, 1) := dk_3 (dk_at dksX2_isLicensed_0 17 rfl rfl)
theorem dX2_isLicensed_18 : decode cX2_isLicensed 18 = .ok (.ireturn, 1) := dk_172 (dk_at dksX2_isLicensed_0 18 rfl rfl)
abbrev cX2_counts : ByteArray := prog_22_method_50_code
def yX2_counts : MethodName := ⟨RX2, "counts", "([IIIII)I"⟩
def dkwX2_counts_2 : List UInt8 := [180, 0, 17, 6, 46, 108, 172]
abbrev dktX2_counts_2 : List UInt8 := dkwX2_counts_2 ++ []
def dkwX2_counts_1 : List UInt8 := [42, 43, 28, 29, 21, 4, 182, 1, 66, 54, 7, 21, 6, 154, 0, 8, 21, 7, 167, 0, 12, 21, 7, 42]
abbrev dktX2_counts_1 : List UInt8 := dkwX2_counts_1 ++ dktX2_counts_2
def dkwX2_counts_0 : List UInt8 := [21, 5, 43, 16, 38, 28, 96, 46, 100, 184, 1, 61, 54, 6, 21, 6, 4, 164, 0, 7, 3, 167, 0, 12]
abbrev dktX2_counts_0 : List UInt8 := dkwX2_counts_0 ++ dktX2_counts_1
theorem dksX2_counts_0 : cX2_counts.data.toList.drop 0 = dktX2_counts_0 := by decide +kernel
theorem dksX2_counts_1 : cX2_counts.data.toList.drop 24 = dktX2_counts_1 := dk_seg dksX2_counts_0 24 rfl rfl
theorem dksX2_counts_2 : cX2_counts.data.toList.drop 48 = dktX2_counts_2 := dk_seg dksX2_counts_1 24 rfl rfl
theorem dX2_counts_0 : decode cX2_counts 0 = .ok (.iload 5, 2) := dk_21 5 (dk_at dksX2_counts_0 0 rfl rfl)
theorem dX2_counts_2 : decode cX2_counts 2 = .ok (.aload_n 1, 1) := dk_43 (dk_at dksX2_counts_0 2 rfl rfl)
theorem dX2_counts_3 : decode cX2_counts 3 = .ok (.bipush 38, 2) := dk_16 38 (dk_at dksX2_counts_0 3 rfl rfl)
theorem dX2_counts_5 : decode cX2_counts 5 = .ok (.iload_n 2, 1) := dk_28 (dk_at dksX2_counts_0 5 rfl rfl)
theorem dX2_counts_6 : decode cX2_counts 6 = .ok (.iadd, 1) := dk_96 (dk_at dksX2_counts_0 6 rfl rfl)
theorem dX2_counts_7 : decode cX2_counts 7 = .ok (.iaload, 1) := dk_46 (dk_at dksX2_counts_0 7 rfl rfl)
theorem dX2_counts_8 : decode cX2_counts 8 = .ok (.isub, 1) := dk_100 (dk_at dksX2_counts_0 8 rfl rfl)
theorem dX2_counts_9 : decode cX2_counts 9 = .ok (.invokestatic 317, 3) := dk_184 1 61 (dk_at dksX2_counts_0 9 rfl rfl)
theorem dX2_counts_12 : decode cX2_counts 12 = .ok (.istore 6, 2) := dk_54 6 (dk_at dksX2_counts_0 12 rfl rfl)
theorem dX2_counts_14 : decode cX2_counts 14 = .ok (.iload 6, 2) := dk_21 6 (dk_at dksX2_counts_0 14 rfl rfl)
theorem dX2_counts_16 : decode cX2_counts 16 = .ok (.iconst 1, 1) := dk_4 (dk_at dksX2_counts_0 16 rfl rfl)
theorem dX2_counts_17 : decode cX2_counts 17 = .ok (.if_icmp .le 7, 3) := dk_164 0 7 (dk_at dksX2_counts_0 17 rfl rfl)
theorem dX2_counts_20 : decode cX2_counts 20 = .ok (.iconst 0, 1) := dk_3 (dk_at dksX2_counts_0 20 rfl rfl)
theorem dX2_counts_21 : decode cX2_counts 21 = .ok (.goto 12, 3) := dk_167 0 12 (dk_at dksX2_counts_0 21 rfl rfl)
theorem dX2_counts_24 : decode cX2_counts 24 = .ok (.aload_n 0, 1) := dk_42 (dk_at dksX2_counts_1 0 rfl rfl)
theorem dX2_counts_25 : decode cX2_counts 25 = .ok (.aload_n 1, 1) := dk_43 (dk_at dksX2_counts_1 1 rfl rfl)
theorem dX2_counts_26 : decode cX2_counts 26 = .ok (.iload_n 2, 1) := dk_28 (dk_at dksX2_counts_1 2 rfl rfl)
theorem dX2_counts_27 : decode cX2_counts 27 = .ok (.iload_n 3, 1) := dk_29 (dk_at dksX2_counts_1 3 rfl rfl)
theorem dX2_counts_28 : decode cX2_counts 28 = .ok (.iload 4, 2) := dk_21 4 (dk_at dksX2_counts_1 4 rfl rfl)
theorem dX2_counts_30 : decode cX2_counts 30 = .ok (.invokevirtual 322, 3) := dk_182 1 66 (dk_at dksX2_counts_1 6 rfl rfl)
theorem dX2_counts_33 : decode cX2_counts 33 = .ok (.istore 7, 2) := dk_54 7 (dk_at dksX2_counts_1 9 rfl rfl)
theorem dX2_counts_35 : decode cX2_counts 35 = .ok (.iload 6, 2) := dk_21 6 (dk_at dksX2_counts_1 11 rfl rfl)
theorem dX2_counts_37 : decode cX2_counts 37 = .ok (.ifCond .ne 8, 3) := dk_154 0 8 (dk_at dksX2_counts_1 13 rfl rfl)
theorem dX2_counts_40 : decode cX2_counts 40 = .ok (.iload 7, 2) := dk_21 7 (dk_at dksX2_counts_1 16 rfl rfl)
theorem dX2_counts_42 : decode cX2_counts 42 = .ok (.goto 12, 3) := dk_167 0 12 (dk_at dksX2_counts_1 18 rfl rfl)
theorem dX2_counts_45 : decode cX2_counts 45 = .ok (.iload 7, 2) := dk_21 7 (dk_at dksX2_counts_1 21 rfl rfl)
theorem dX2_counts_47 : decode cX2_counts 47 = .ok (.aload_n 0, 1) := dk_42 (dk_at dksX2_counts_1 23 rfl rfl)
theorem dX2_counts_48 : decode cX2_counts 48 = .ok (.getfield 17, 3) := dk_180 0 17 (dk_at dksX2_counts_2 0 rfl rfl)
theorem dX2_counts_51 : decode cX2_counts 51 = .ok (.iconst 3, 1) := dk_6 (dk_at dksX2_counts_2 3 rfl rfl)
theorem dX2_counts_52 : decode cX2_counts 52 = .ok (.iaload, 1) := dk_46 (dk_at dksX2_counts_2 4 rfl rfl)
theorem dX2_counts_53 : decode cX2_counts 53 = .ok (.idiv, 1) := dk_108 (dk_at dksX2_counts_2 5 rfl rfl)
theorem dX2_counts_54 : decode cX2_counts 54 = .ok (.ireturn, 1) := dk_172 (dk_at dksX2_counts_2 6 rfl rfl)
abbrev cX2_strength : ByteArray := prog_22_method_49_code
def yX2_strength : MethodName := ⟨RX2, "strength", "([IIII)I"⟩
def dkwX2_strength_2 : List UInt8 := [108, 167, 0, 4, 3, 172]
abbrev dktX2_strength_2 : List UInt8 := dkwX2_strength_2 ++ []
def dkwX2_strength_1 : List UInt8 := [180, 0, 17, 16, 54, 28, 96, 46, 42, 180, 0, 17, 16, 70, 28, 96, 46, 29, 21, 4, 184, 1, 57, 96]
abbrev dktX2_strength_1 : List UInt8 := dkwX2_strength_1 ++ dktX2_strength_2
def dkwX2_strength_0 : List UInt8 := [43, 16, 6, 28, 96, 46, 5, 160, 0, 43, 17, 3, 232, 43, 16, 54, 28, 96, 46, 104, 4, 42]
abbrev dktX2_strength_0 : List UInt8 := dkwX2_strength_0 ++ dktX2_strength_1
theorem dksX2_strength_0 : cX2_strength.data.toList.drop 0 = dktX2_strength_0 := by decide +kernel
theorem dksX2_strength_1 : cX2_strength.data.toList.drop 22 = dktX2_strength_1 := dk_seg dksX2_strength_0 22 rfl rfl
theorem dksX2_strength_2 : cX2_strength.data.toList.drop 46 = dktX2_strength_2 := dk_seg dksX2_strength_1 24 rfl rfl
theorem dX2_strength_0 : decode cX2_strength 0 = .ok (.aload_n 1, 1) := dk_43 (dk_at dksX2_strength_0 0 rfl rfl)
theorem dX2_strength_1 : decode cX2_strength 1 = .ok (.bipush 6, 2) := dk_16 6 (dk_at dksX2_strength_0 1 rfl rfl)
theorem dX2_strength_3 : decode cX2_strength 3 = .ok (.iload_n 2, 1) := dk_28 (dk_at dksX2_strength_0 3 rfl rfl)
theorem dX2_strength_4 : decode cX2_strength 4 = .ok (.iadd, 1) := dk_96 (dk_at dksX2_strength_0 4 rfl rfl)
theorem dX2_strength_5 : decode cX2_strength 5 = .ok (.iaload, 1) := dk_46 (dk_at dksX2_strength_0 5 rfl rfl)
theorem dX2_strength_6 : decode cX2_strength 6 = .ok (.iconst 2, 1) := dk_5 (dk_at dksX2_strength_0 6 rfl rfl)
theorem dX2_strength_7 : decode cX2_strength 7 = .ok (.if_icmp .ne 43, 3) := dk_160 0 43 (dk_at dksX2_strength_0 7 rfl rfl)
theorem dX2_strength_10 : decode cX2_strength 10 = .ok (.sipush 1000, 3) := dk_17 3 232 (dk_at dksX2_strength_0 10 rfl rfl)
theorem dX2_strength_13 : decode cX2_strength 13 = .ok (.aload_n 1, 1) := dk_43 (dk_at dksX2_strength_0 13 rfl rfl)
theorem dX2_strength_14 : decode cX2_strength 14 = .ok (.bipush 54, 2) := dk_16 54 (dk_at dksX2_strength_0 14 rfl rfl)
theorem dX2_strength_16 : decode cX2_strength 16 = .ok (.iload_n 2, 1) := dk_28 (dk_at dksX2_strength_0 16 rfl rfl)
theorem dX2_strength_17 : decode cX2_strength 17 = .ok (.iadd, 1) := dk_96 (dk_at dksX2_strength_0 17 rfl rfl)
theorem dX2_strength_18 : decode cX2_strength 18 = .ok (.iaload, 1) := dk_46 (dk_at dksX2_strength_0 18 rfl rfl)
theorem dX2_strength_19 : decode cX2_strength 19 = .ok (.imul, 1) := dk_104 (dk_at dksX2_strength_0 19 rfl rfl)
theorem dX2_strength_20 : decode cX2_strength 20 = .ok (.iconst 1, 1) := dk_4 (dk_at dksX2_strength_0 20 rfl rfl)
theorem dX2_strength_21 : decode cX2_strength 21 = .ok (.aload_n 0, 1) := dk_42 (dk_at dksX2_strength_0 21 rfl rfl)
theorem dX2_strength_22 : decode cX2_strength 22 = .ok (.getfield 17, 3) := dk_180 0 17 (dk_at dksX2_strength_1 0 rfl rfl)
theorem dX2_strength_25 : decode cX2_strength 25 = .ok (.bipush 54, 2) := dk_16 54 (dk_at dksX2_strength_1 3 rfl rfl)
theorem dX2_strength_27 : decode cX2_strength 27 = .ok (.iload_n 2, 1) := dk_28 (dk_at dksX2_strength_1 5 rfl rfl)
theorem dX2_strength_28 : decode cX2_strength 28 = .ok (.iadd, 1) := dk_96 (dk_at dksX2_strength_1 6 rfl rfl)
theorem dX2_strength_29 : decode cX2_strength 29 = .ok (.iaload, 1) := dk_46 (dk_at dksX2_strength_1 7 rfl rfl)
theorem dX2_strength_30 : decode cX2_strength 30 = .ok (.aload_n 0, 1) := dk_42 (dk_at dksX2_strength_1 8 rfl rfl)
theorem dX2_strength_31 : decode cX2_strength 31 = .ok (.getfield 17, 3) := dk_180 0 17 (dk_at dksX2_strength_1 9 rfl rfl)
theorem dX2_strength_34 : decode cX2_strength 34 = .ok (.bipush 70, 2) := dk_16 70 (dk_at dksX2_strength_1 12 rfl rfl)
theorem dX2_strength_36 : decode cX2_strength 36 = .ok (.iload_n 2, 1) := dk_28 (dk_at dksX2_strength_1 14 rfl rfl)
theorem dX2_strength_37 : decode cX2_strength 37 = .ok (.iadd, 1) := dk_96 (dk_at dksX2_strength_1 15 rfl rfl)
theorem dX2_strength_38 : decode cX2_strength 38 = .ok (.iaload, 1) := dk_46 (dk_at dksX2_strength_1 16 rfl rfl)
theorem dX2_strength_39 : decode cX2_strength 39 = .ok (.iload_n 3, 1) := dk_29 (dk_at dksX2_strength_1 17 rfl rfl)
theorem dX2_strength_40 : decode cX2_strength 40 = .ok (.iload 4, 2) := dk_21 4 (dk_at dksX2_strength_1 18 rfl rfl)
theorem dX2_strength_42 : decode cX2_strength 42 = .ok (.invokestatic 313, 3) := dk_184 1 57 (dk_at dksX2_strength_1 20 rfl rfl)
theorem dX2_strength_45 : decode cX2_strength 45 = .ok (.iadd, 1) := dk_96 (dk_at dksX2_strength_1 23 rfl rfl)
theorem dX2_strength_46 : decode cX2_strength 46 = .ok (.idiv, 1) := dk_108 (dk_at dksX2_strength_2 0 rfl rfl)
theorem dX2_strength_47 : decode cX2_strength 47 = .ok (.goto 4, 3) := dk_167 0 4 (dk_at dksX2_strength_2 1 rfl rfl)
theorem dX2_strength_50 : decode cX2_strength 50 = .ok (.iconst 0, 1) := dk_3 (dk_at dksX2_strength_2 4 rfl rfl)
theorem dX2_strength_51 : decode cX2_strength 51 = .ok (.ireturn, 1) := dk_172 (dk_at dksX2_strength_2 5 rfl rfl)
abbrev cX2_licenceChannels : ByteArray := prog_22_method_96_code
def yX2_licenceChannels : MethodName := ⟨RX2, "licenceChannels", "(I)I"⟩
def dkwX2_licenceChannels_1 : List UInt8 := [3, 172]
abbrev dktX2_licenceChannels_1 : List UInt8 := dkwX2_licenceChannels_1 ++ []
def dkwX2_licenceChannels_0 : List UInt8 := [42, 42, 27, 182, 1, 212, 182, 1, 205, 153, 0, 15, 42, 180, 0, 17, 16, 49, 27, 96, 46, 167, 0, 4]
abbrev dktX2_licenceChannels_0 : List UInt8 := dkwX2_licenceChannels_0 ++ dktX2_licenceChannels_1
theorem dksX2_licenceChannels_0 : cX2_licenceChannels.data.toList.drop 0 = dktX2_licenceChannels_0 := by decide +kernel
theorem dksX2_licenceChannels_1 : cX2_licenceChannels.data.toList.drop 24 = dktX2_licenceChannels_1 := dk_seg dksX2_licenceChannels_0 24 rfl rfl
theorem dX2_licenceChannels_0 : decode cX2_licenceChannels 0 = .ok (.aload_n 0, 1) := dk_42 (dk_at dksX2_licenceChannels_0 0 rfl rfl)
theorem dX2_licenceChannels_1 : decode cX2_licenceChannels 1 = .ok (.aload_n 0, 1) := dk_42 (dk_at dksX2_licenceChannels_0 1 rfl rfl)
theorem dX2_licenceChannels_2 : decode cX2_licenceChannels 2 = .ok (.iload_n 1, 1) := dk_27 (dk_at dksX2_licenceChannels_0 2 rfl rfl)
theorem dX2_licenceChannels_3 : decode cX2_licenceChannels 3 = .ok (.invokevirtual 468, 3) := dk_182 1 212 (dk_at dksX2_licenceChannels_0 3 rfl rfl)
theorem dX2_licenceChannels_6 : decode cX2_licenceChannels 6 = .ok (.invokevirtual 461, 3) := dk_182 1 205 (dk_at dksX2_licenceChannels_0 6 rfl rfl)
theorem dX2_licenceChannels_9 : decode cX2_licenceChannels 9 = .ok (.ifCond .eq 15, 3) := dk_153 0 15 (dk_at dksX2_licenceChannels_0 9 rfl rfl)
theorem dX2_licenceChannels_12 : decode cX2_licenceChannels 12 = .ok (.aload_n 0, 1) := dk_42 (dk_at dksX2_licenceChannels_0 12 rfl rfl)
theorem dX2_licenceChannels_13 : decode cX2_licenceChannels 13 = .ok (.getfield 17, 3) := dk_180 0 17 (dk_at dksX2_licenceChannels_0 13 rfl rfl)
theorem dX2_licenceChannels_16 : decode cX2_licenceChannels 16 = .ok (.bipush 49, 2) := dk_16 49 (dk_at dksX2_licenceChannels_0 16 rfl rfl)
theorem dX2_licenceChannels_18 : decode cX2_licenceChannels 18 = .ok (.iload_n 1, 1) := dk_27 (dk_at dksX2_licenceChannels_0 18 rfl rfl)
theorem dX2_licenceChannels_19 : decode cX2_licenceChannels 19 = .ok (.iadd, 1) := dk_96 (dk_at dksX2_licenceChannels_0 19 rfl rfl)
theorem dX2_licenceChannels_20 : decode cX2_licenceChannels 20 = .ok (.iaload, 1) := dk_46 (dk_at dksX2_licenceChannels_0 20 rfl rfl)
theorem dX2_licenceChannels_21 : decode cX2_licenceChannels 21 = .ok (.goto 4, 3) := dk_167 0 4 (dk_at dksX2_licenceChannels_0 21 rfl rfl)
theorem dX2_licenceChannels_24 : decode cX2_licenceChannels 24 = .ok (.iconst 0, 1) := dk_3 (dk_at dksX2_licenceChannels_1 0 rfl rfl)
theorem dX2_licenceChannels_25 : decode cX2_licenceChannels 25 = .ok (.ireturn, 1) := dk_172 (dk_at dksX2_licenceChannels_1 1 rfl rfl)
abbrev cX2_isLicence : ByteArray := prog_22_method_88_code
def yX2_isLicence : MethodName := ⟨RX2, "isLicence", "(I)Z"⟩
def dkwX2_isLicence_0 : List UInt8 := [27, 3, 42, 180, 0, 17, 16, 9, 46, 4, 100, 184, 0, 114, 172]
abbrev dktX2_isLicence_0 : List UInt8 := dkwX2_isLicence_0 ++ []
theorem dksX2_isLicence_0 : cX2_isLicence.data.toList.drop 0 = dktX2_isLicence_0 := by decide +kernel
theorem dX2_isLicence_0 : decode cX2_isLicence 0 = .ok (.iload_n 1, 1) := dk_27 (dk_at dksX2_isLicence_0 0 rfl rfl)
theorem dX2_isLicence_1 : decode cX2_isLicence 1 = .ok (.iconst 0, 1) := dk_3 (dk_at dksX2_isLicence_0 1 rfl rfl)
theorem dX2_isLicence_2 : decode cX2_isLicence 2 = .ok (.aload_n 0, 1) := dk_42 (dk_at dksX2_isLicence_0 2 rfl rfl)
theorem dX2_isLicence_3 : decode cX2_isLicence 3 = .ok (.getfield 17, 3) := dk_180 0 17 (dk_at dksX2_isLicence_0 3 rfl rfl)
theorem dX2_isLicence_6 : decode cX2_isLicence 6 = .ok (.bipush 9, 2) := dk_16 9 (dk_at dksX2_isLicence_0 6 rfl rfl)
theorem dX2_isLicence_8 : decode cX2_isLicence 8 = .ok (.iaload, 1) := dk_46 (dk_at dksX2_isLicence_0 8 rfl rfl)
theorem dX2_isLicence_9 : decode cX2_isLicence 9 = .ok (.iconst 1, 1) := dk_4 (dk_at dksX2_isLicence_0 9 rfl rfl)
theorem dX2_isLicence_10 : decode cX2_isLicence 10 = .ok (.isub, 1) := dk_100 (dk_at dksX2_isLicence_0 10 rfl rfl)
theorem dX2_isLicence_11 : decode cX2_isLicence 11 = .ok (.invokestatic 114, 3) := dk_184 0 114 (dk_at dksX2_isLicence_0 11 rfl rfl)
theorem dX2_isLicence_14 : decode cX2_isLicence 14 = .ok (.ireturn, 1) := dk_172 (dk_at dksX2_isLicence_0 14 rfl rfl)
abbrev cX2_licenceAt : ByteArray := prog_22_method_97_code
def yX2_licenceAt : MethodName := ⟨RX2, "licenceAt", "(III)I"⟩
def dkwX2_licenceAt_3 : List UInt8 := [122, 4, 126, 4, 160, 0, 6, 21, 4, 172, 132, 4, 1, 167, 255, 206, 2, 172]
abbrev dktX2_licenceAt_3 : List UInt8 := dkwX2_licenceAt_3 ++ []
def dkwX2_licenceAt_2 : List UInt8 := [180, 0, 17, 21, 4, 27, 28, 184, 0, 193, 153, 0, 24, 42, 180, 0, 17, 16, 49, 21, 4, 96, 46, 29]
abbrev dktX2_licenceAt_2 : List UInt8 := dkwX2_licenceAt_2 ++ dktX2_licenceAt_3
def dkwX2_licenceAt_1 : List UInt8 := [182, 1, 205, 154, 0, 5, 3, 172, 3, 54, 4, 21, 4, 42, 180, 0, 17, 16, 9, 46, 162, 0, 44, 42]
abbrev dktX2_licenceAt_1 : List UInt8 := dkwX2_licenceAt_1 ++ dktX2_licenceAt_2
def dkwX2_licenceAt_0 : List UInt8 := [42, 42, 27, 28, 182, 1, 215, 153, 0, 15, 42, 29, 182, 1, 218, 153, 0, 7, 4, 167, 0, 4, 3]
abbrev dktX2_licenceAt_0 : List UInt8 := dkwX2_licenceAt_0 ++ dktX2_licenceAt_1
theorem dksX2_licenceAt_0 : cX2_licenceAt.data.toList.drop 0 = dktX2_licenceAt_0 := by decide +kernel
theorem dksX2_licenceAt_1 : cX2_licenceAt.data.toList.drop 23 = dktX2_licenceAt_1 := dk_seg dksX2_licenceAt_0 23 rfl rfl
theorem dksX2_licenceAt_2 : cX2_licenceAt.data.toList.drop 47 = dktX2_licenceAt_2 := dk_seg dksX2_licenceAt_1 24 rfl rfl
theorem dksX2_licenceAt_3 : cX2_licenceAt.data.toList.drop 71 = dktX2_licenceAt_3 := dk_seg dksX2_licenceAt_2 24 rfl rfl
theorem dX2_licenceAt_0 : decode cX2_licenceAt 0 = .ok (.aload_n 0, 1) := dk_42 (dk_at dksX2_licenceAt_0 0 rfl rfl)
theorem dX2_licenceAt_1 : decode cX2_licenceAt 1 = .ok (.aload_n 0, 1) := dk_42 (dk_at dksX2_licenceAt_0 1 rfl rfl)
theorem dX2_licenceAt_2 : decode cX2_licenceAt 2 = .ok (.iload_n 1, 1) := dk_27 (dk_at dksX2_licenceAt_0 2 rfl rfl)
theorem dX2_licenceAt_3 : decode cX2_licenceAt 3 = .ok (.iload_n 2, 1) := dk_28 (dk_at dksX2_licenceAt_0 3 rfl rfl)
theorem dX2_licenceAt_4 : decode cX2_licenceAt 4 = .ok (.invokevirtual 471, 3) := dk_182 1 215 (dk_at dksX2_licenceAt_0 4 rfl rfl)
theorem dX2_licenceAt_7 : decode cX2_licenceAt 7 = .ok (.ifCond .eq 15, 3) := dk_153 0 15 (dk_at dksX2_licenceAt_0 7 rfl rfl)
theorem dX2_licenceAt_10 : decode cX2_licenceAt 10 = .ok (.aload_n 0, 1) := dk_42 (dk_at dksX2_licenceAt_0 10 rfl rfl)
theorem dX2_licenceAt_11 : decode cX2_licenceAt 11 = .ok (.iload_n 3, 1) := dk_29 (dk_at dksX2_licenceAt_0 11 rfl rfl)
theorem dX2_licenceAt_12 : decode cX2_licenceAt 12 = .ok (.invokevirtual 474, 3) := dk_182 1 218 (dk_at dksX2_licenceAt_0 12 rfl rfl)
theorem dX2_licenceAt_15 : decode cX2_licenceAt 15 = .ok (.ifCond .eq 7, 3) := dk_153 0 7 (dk_at dksX2_licenceAt_0 15 rfl rfl)
theorem dX2_licenceAt_18 : decode cX2_licenceAt 18 = .ok (.iconst 1, 1) := dk_4 (dk_at dksX2_licenceAt_0 18 rfl rfl)
theorem dX2_licenceAt_19 : decode cX2_licenceAt 19 = .ok (.goto 4, 3) := dk_167 0 4 (dk_at dksX2_licenceAt_0 19 rfl rfl)
theorem dX2_licenceAt_22 : decode cX2_licenceAt 22 = .ok (.iconst 0, 1) := dk_3 (dk_at dksX2_licenceAt_0 22 rfl rfl)
theorem dX2_licenceAt_23 : decode cX2_licenceAt 23 = .ok (.invokevirtual 461, 3) := dk_182 1 205 (dk_at dksX2_licenceAt_1 0 rfl rfl)
theorem dX2_licenceAt_26 : decode cX2_licenceAt 26 = .ok (.ifCond .ne 5, 3) := dk_154 0 5 (dk_at dksX2_licenceAt_1 3 rfl rfl)
theorem dX2_licenceAt_29 : decode cX2_licenceAt 29 = .ok (.iconst 0, 1) := dk_3 (dk_at dksX2_licenceAt_1 6 rfl rfl)
theorem dX2_licenceAt_30 : decode cX2_licenceAt 30 = .ok (.ireturn, 1) := dk_172 (dk_at dksX2_licenceAt_1 7 rfl rfl)
theorem dX2_licenceAt_31 : decode cX2_licenceAt 31 = .ok (.iconst 0, 1) := dk_3 (dk_at dksX2_licenceAt_1 8 rfl rfl)
theorem dX2_licenceAt_32 : decode cX2_licenceAt 32 = .ok (.istore 4, 2) := dk_54 4 (dk_at dksX2_licenceAt_1 9 rfl rfl)
theorem dX2_licenceAt_34 : decode cX2_licenceAt 34 = .ok (.iload 4, 2) := dk_21 4 (dk_at dksX2_licenceAt_1 11 rfl rfl)
theorem dX2_licenceAt_36 : decode cX2_licenceAt 36 = .ok (.aload_n 0, 1) := dk_42 (dk_at dksX2_licenceAt_1 13 rfl rfl)
theorem dX2_licenceAt_37 : decode cX2_licenceAt 37 = .ok (.getfield 17, 3) := dk_180 0 17 (dk_at dksX2_licenceAt_1 14 rfl rfl)
theorem dX2_licenceAt_40 : decode cX2_licenceAt 40 = .ok (.bipush 9, 2) := dk_16 9 (dk_at dksX2_licenceAt_1 17 rfl rfl)
theorem dX2_licenceAt_42 : decode cX2_licenceAt 42 = .ok (.iaload, 1) := dk_46 (dk_at dksX2_licenceAt_1 19 rfl rfl)
theorem dX2_licenceAt_43 : decode cX2_licenceAt 43 = .ok (.if_icmp .ge 44, 3) := dk_162 0 44 (dk_at dksX2_licenceAt_1 20 rfl rfl)
theorem dX2_licenceAt_46 : decode cX2_licenceAt 46 = .ok (.aload_n 0, 1) := dk_42 (dk_at dksX2_licenceAt_1 23 rfl rfl)
theorem dX2_licenceAt_47 : decode cX2_licenceAt 47 = .ok (.getfield 17, 3) := dk_180 0 17 (dk_at dksX2_licenceAt_2 0 rfl rfl)
theorem dX2_licenceAt_50 : decode cX2_licenceAt 50 = .ok (.iload 4, 2) := dk_21 4 (dk_at dksX2_licenceAt_2 3 rfl rfl)
theorem dX2_licenceAt_52 : decode cX2_licenceAt 52 = .ok (.iload_n 1, 1) := dk_27 (dk_at dksX2_licenceAt_2 5 rfl rfl)
theorem dX2_licenceAt_53 : decode cX2_licenceAt 53 = .ok (.iload_n 2, 1) := dk_28 (dk_at dksX2_licenceAt_2 6 rfl rfl)
theorem dX2_licenceAt_54 : decode cX2_licenceAt 54 = .ok (.invokestatic 193, 3) := dk_184 0 193 (dk_at dksX2_licenceAt_2 7 rfl rfl)
theorem dX2_licenceAt_57 : decode cX2_licenceAt 57 = .ok (.ifCond .eq 24, 3) := dk_153 0 24 (dk_at dksX2_licenceAt_2 10 rfl rfl)
theorem dX2_licenceAt_60 : decode cX2_licenceAt 60 = .ok (.aload_n 0, 1) := dk_42 (dk_at dksX2_licenceAt_2 13 rfl rfl)
theorem dX2_licenceAt_61 : decode cX2_licenceAt 61 = .ok (.getfield 17, 3) := dk_180 0 17 (dk_at dksX2_licenceAt_2 14 rfl rfl)
theorem dX2_licenceAt_64 : decode cX2_licenceAt 64 = .ok (.bipush 49, 2) := dk_16 49 (dk_at dksX2_licenceAt_2 17 rfl rfl)
theorem dX2_licenceAt_66 : decode cX2_licenceAt 66 = .ok (.iload 4, 2) := dk_21 4 (dk_at dksX2_licenceAt_2 19 rfl rfl)
theorem dX2_licenceAt_68 : decode cX2_licenceAt 68 = .ok (.iadd, 1) := dk_96 (dk_at dksX2_licenceAt_2 21 rfl rfl)
theorem dX2_licenceAt_69 : decode cX2_licenceAt 69 = .ok (.iaload, 1) := dk_46 (dk_at dksX2_licenceAt_2 22 rfl rfl)
theorem dX2_licenceAt_70 : decode cX2_licenceAt 70 = .ok (.iload_n 3, 1) := dk_29 (dk_at dksX2_licenceAt_2 23 rfl rfl)
theorem dX2_licenceAt_71 : decode cX2_licenceAt 71 = .ok (.ishr, 1) := dk_122 (dk_at dksX2_licenceAt_3 0 rfl rfl)
theorem dX2_licenceAt_72 : decode cX2_licenceAt 72 = .ok (.iconst 1, 1) := dk_4 (dk_at dksX2_licenceAt_3 1 rfl rfl)
theorem dX2_licenceAt_73 : decode cX2_licenceAt 73 = .ok (.iand, 1) := dk_126 (dk_at dksX2_licenceAt_3 2 rfl rfl)
theorem dX2_licenceAt_74 : decode cX2_licenceAt 74 = .ok (.iconst 1, 1) := dk_4 (dk_at dksX2_licenceAt_3 3 rfl rfl)
theorem dX2_licenceAt_75 : decode cX2_licenceAt 75 = .ok (.if_icmp .ne 6, 3) := dk_160 0 6 (dk_at dksX2_licenceAt_3 4 rfl rfl)
theorem dX2_licenceAt_78 : decode cX2_licenceAt 78 = .ok (.iload 4, 2) := dk_21 4 (dk_at dksX2_licenceAt_3 7 rfl rfl)
theorem dX2_licenceAt_80 : decode cX2_licenceAt 80 = .ok (.ireturn, 1) := dk_172 (dk_at dksX2_licenceAt_3 9 rfl rfl)
theorem dX2_licenceAt_81 : decode cX2_licenceAt 81 = .ok (.iinc 4 1, 3) := dk_132 4 1 (dk_at dksX2_licenceAt_3 10 rfl rfl)
theorem dX2_licenceAt_84 : decode cX2_licenceAt 84 = .ok (.goto (-50), 3) := dk_167 255 206 (dk_at dksX2_licenceAt_3 13 rfl rfl)
theorem dX2_licenceAt_87 : decode cX2_licenceAt 87 = .ok (.iconst (-1), 1) := dk_2 (dk_at dksX2_licenceAt_3 16 rfl rfl)
theorem dX2_licenceAt_88 : decode cX2_licenceAt 88 = .ok (.ireturn, 1) := dk_172 (dk_at dksX2_licenceAt_3 17 rfl rfl)
abbrev cX2_isPosition : ByteArray := prog_22_method_91_code
def yX2_isPosition : MethodName := ⟨RX2, "isPosition", "(II)Z"⟩
def dkwX2_isPosition_1 : List UInt8 := [4, 100, 184, 0, 114, 153, 0, 7, 4, 167, 0, 4, 3, 172]
abbrev dktX2_isPosition_1 : List UInt8 := dkwX2_isPosition_1 ++ []
def dkwX2_isPosition_0 : List UInt8 := [27, 3, 42, 180, 0, 17, 3, 46, 4, 100, 184, 0, 114, 153, 0, 23, 28, 3, 42, 180, 0, 17, 4, 46]
abbrev dktX2_isPosition_0 : List UInt8 := dkwX2_isPosition_0 ++ dktX2_isPosition_1
theorem dksX2_isPosition_0 : cX2_isPosition.data.toList.drop 0 = dktX2_isPosition_0 := by decide +kernel
theorem dksX2_isPosition_1 : cX2_isPosition.data.toList.drop 24 = dktX2_isPosition_1 := dk_seg dksX2_isPosition_0 24 rfl rfl
theorem dX2_isPosition_0 : decode cX2_isPosition 0 = .ok (.iload_n 1, 1) := dk_27 (dk_at dksX2_isPosition_0 0 rfl rfl)
theorem dX2_isPosition_1 : decode cX2_isPosition 1 = .ok (.iconst 0, 1) := dk_3 (dk_at dksX2_isPosition_0 1 rfl rfl)
theorem dX2_isPosition_2 : decode cX2_isPosition 2 = .ok (.aload_n 0, 1) := dk_42 (dk_at dksX2_isPosition_0 2 rfl rfl)
theorem dX2_isPosition_3 : decode cX2_isPosition 3 = .ok (.getfield 17, 3) := dk_180 0 17 (dk_at dksX2_isPosition_0 3 rfl rfl)
theorem dX2_isPosition_6 : decode cX2_isPosition 6 = .ok (.iconst 0, 1) := dk_3 (dk_at dksX2_isPosition_0 6 rfl rfl)
theorem dX2_isPosition_7 : decode cX2_isPosition 7 = .ok (.iaload, 1) := dk_46 (dk_at dksX2_isPosition_0 7 rfl rfl)
theorem dX2_isPosition_8 : decode cX2_isPosition 8 = .ok (.iconst 1, 1) := dk_4 (dk_at dksX2_isPosition_0 8 rfl rfl)
theorem dX2_isPosition_9 : decode cX2_isPosition 9 = .ok (.isub, 1) := dk_100 (dk_at dksX2_isPosition_0 9 rfl rfl)
theorem dX2_isPosition_10 : decode cX2_isPosition 10 = .ok (.invokestatic 114, 3) := dk_184 0 114 (dk_at dksX2_isPosition_0 10 rfl rfl)
theorem dX2_isPosition_13 : decode cX2_isPosition 13 = .ok (.ifCond .eq 23, 3) := dk_153 0 23 (dk_at dksX2_isPosition_0 13 rfl rfl)
theorem dX2_isPosition_16 : decode cX2_isPosition 16 = .ok (.iload_n 2, 1) := dk_28 (dk_at dksX2_isPosition_0 16 rfl rfl)
theorem dX2_isPosition_17 : decode cX2_isPosition 17 = .ok (.iconst 0, 1) := dk_3 (dk_at dksX2_isPosition_0 17 rfl rfl)
theorem dX2_isPosition_18 : decode cX2_isPosition 18 = .ok (.aload_n 0, 1) := dk_42 (dk_at dksX2_isPosition_0 18 rfl rfl)
theorem dX2_isPosition_19 : decode cX2_isPosition 19 = .ok (.getfield 17, 3) := dk_180 0 17 (dk_at dksX2_isPosition_0 19 rfl rfl)
theorem dX2_isPosition_22 : decode cX2_isPosition 22 = .ok (.iconst 1, 1) := dk_4 (dk_at dksX2_isPosition_0 22 rfl rfl)
theorem dX2_isPosition_23 : decode cX2_isPosition 23 = .ok (.iaload, 1) := dk_46 (dk_at dksX2_isPosition_0 23 rfl rfl)
theorem dX2_isPosition_24 : decode cX2_isPosition 24 = .ok (.iconst 1, 1) := dk_4 (dk_at dksX2_isPosition_1 0 rfl rfl)
theorem dX2_isPosition_25 : decode cX2_isPosition 25 = .ok (.isub, 1) := dk_100 (dk_at dksX2_isPosition_1 1 rfl rfl)
theorem dX2_isPosition_26 : decode cX2_isPosition 26 = .ok (.invokestatic 114, 3) := dk_184 0 114 (dk_at dksX2_isPosition_1 2 rfl rfl)
theorem dX2_isPosition_29 : decode cX2_isPosition 29 = .ok (.ifCond .eq 7, 3) := dk_153 0 7 (dk_at dksX2_isPosition_1 5 rfl rfl)
theorem dX2_isPosition_32 : decode cX2_isPosition 32 = .ok (.iconst 1, 1) := dk_4 (dk_at dksX2_isPosition_1 8 rfl rfl)
theorem dX2_isPosition_33 : decode cX2_isPosition 33 = .ok (.goto 4, 3) := dk_167 0 4 (dk_at dksX2_isPosition_1 9 rfl rfl)
theorem dX2_isPosition_36 : decode cX2_isPosition 36 = .ok (.iconst 0, 1) := dk_3 (dk_at dksX2_isPosition_1 12 rfl rfl)
theorem dX2_isPosition_37 : decode cX2_isPosition 37 = .ok (.ireturn, 1) := dk_172 (dk_at dksX2_isPosition_1 13 rfl rfl)
abbrev cX2_isChannel : ByteArray := prog_22_method_90_code
def yX2_isChannel : MethodName := ⟨RX2, "isChannel", "(I)Z"⟩
def dkwX2_isChannel_0 : List UInt8 := [27, 3, 42, 180, 0, 17, 5, 46, 4, 100, 184, 0, 114, 172]
abbrev dktX2_isChannel_0 : List UInt8 := dkwX2_isChannel_0 ++ []
theorem dksX2_isChannel_0 : cX2_isChannel.data.toList.drop 0 = dktX2_isChannel_0 := by decide +kernel
theorem dX2_isChannel_0 : decode cX2_isChannel 0 = .ok (.iload_n 1, 1) := dk_27 (dk_at dksX2_isChannel_0 0 rfl rfl)
theorem dX2_isChannel_1 : decode cX2_isChannel 1 = .ok (.iconst 0, 1) := dk_3 (dk_at dksX2_isChannel_0 1 rfl rfl)
theorem dX2_isChannel_2 : decode cX2_isChannel 2 = .ok (.aload_n 0, 1) := dk_42 (dk_at dksX2_isChannel_0 2 rfl rfl)
theorem dX2_isChannel_3 : decode cX2_isChannel 3 = .ok (.getfield 17, 3) := dk_180 0 17 (dk_at dksX2_isChannel_0 3 rfl rfl)
theorem dX2_isChannel_6 : decode cX2_isChannel 6 = .ok (.iconst 2, 1) := dk_5 (dk_at dksX2_isChannel_0 6 rfl rfl)
theorem dX2_isChannel_7 : decode cX2_isChannel 7 = .ok (.iaload, 1) := dk_46 (dk_at dksX2_isChannel_0 7 rfl rfl)
theorem dX2_isChannel_8 : decode cX2_isChannel 8 = .ok (.iconst 1, 1) := dk_4 (dk_at dksX2_isChannel_0 8 rfl rfl)
theorem dX2_isChannel_9 : decode cX2_isChannel 9 = .ok (.isub, 1) := dk_100 (dk_at dksX2_isChannel_0 9 rfl rfl)
theorem dX2_isChannel_10 : decode cX2_isChannel 10 = .ok (.invokestatic 114, 3) := dk_184 0 114 (dk_at dksX2_isChannel_0 10 rfl rfl)
theorem dX2_isChannel_13 : decode cX2_isChannel 13 = .ok (.ireturn, 1) := dk_172 (dk_at dksX2_isChannel_0 13 rfl rfl)
abbrev cX2_stateOf : ByteArray := prog_22_method_99_code
def yX2_stateOf : MethodName := ⟨RX2, "stateOf", "(I)I"⟩
def dkwX2_stateOf_0 : List UInt8 := [42, 27, 16, 6, 182, 1, 224, 172]
abbrev dktX2_stateOf_0 : List UInt8 := dkwX2_stateOf_0 ++ []
theorem dksX2_stateOf_0 : cX2_stateOf.data.toList.drop 0 = dktX2_stateOf_0 := by decide +kernel
theorem dX2_stateOf_0 : decode cX2_stateOf 0 = .ok (.aload_n 0, 1) := dk_42 (dk_at dksX2_stateOf_0 0 rfl rfl)
theorem dX2_stateOf_1 : decode cX2_stateOf 1 = .ok (.iload_n 1, 1) := dk_27 (dk_at dksX2_stateOf_0 1 rfl rfl)
theorem dX2_stateOf_2 : decode cX2_stateOf 2 = .ok (.bipush 6, 2) := dk_16 6 (dk_at dksX2_stateOf_0 2 rfl rfl)
theorem dX2_stateOf_4 : decode cX2_stateOf 4 = .ok (.invokevirtual 480, 3) := dk_182 1 224 (dk_at dksX2_stateOf_0 4 rfl rfl)
theorem dX2_stateOf_7 : decode cX2_stateOf 7 = .ok (.ireturn, 1) := dk_172 (dk_at dksX2_stateOf_0 7 rfl rfl)
abbrev cX2_ofDevice : ByteArray := prog_22_method_98_code
def yX2_ofDevice : MethodName := ⟨RX2, "ofDevice", "(II)I"⟩
def dkwX2_ofDevice_1 : List UInt8 := [172]
abbrev dktX2_ofDevice_1 : List UInt8 := dkwX2_ofDevice_1 ++ []
def dkwX2_ofDevice_0 : List UInt8 := [42, 42, 27, 182, 1, 221, 182, 1, 205, 153, 0, 14, 42, 180, 0, 23, 28, 27, 96, 46, 167, 0, 4, 3]
abbrev dktX2_ofDevice_0 : List UInt8 := dkwX2_ofDevice_0 ++ dktX2_ofDevice_1
theorem dksX2_ofDevice_0 : cX2_ofDevice.data.toList.drop 0 = dktX2_ofDevice_0 := by decide +kernel
theorem dksX2_ofDevice_1 : cX2_ofDevice.data.toList.drop 24 = dktX2_ofDevice_1 := dk_seg dksX2_ofDevice_0 24 rfl rfl
theorem dX2_ofDevice_0 : decode cX2_ofDevice 0 = .ok (.aload_n 0, 1) := dk_42 (dk_at dksX2_ofDevice_0 0 rfl rfl)
theorem dX2_ofDevice_1 : decode cX2_ofDevice 1 = .ok (.aload_n 0, 1) := dk_42 (dk_at dksX2_ofDevice_0 1 rfl rfl)
theorem dX2_ofDevice_2 : decode cX2_ofDevice 2 = .ok (.iload_n 1, 1) := dk_27 (dk_at dksX2_ofDevice_0 2 rfl rfl)
theorem dX2_ofDevice_3 : decode cX2_ofDevice 3 = .ok (.invokevirtual 477, 3) := dk_182 1 221 (dk_at dksX2_ofDevice_0 3 rfl rfl)
theorem dX2_ofDevice_6 : decode cX2_ofDevice 6 = .ok (.invokevirtual 461, 3) := dk_182 1 205 (dk_at dksX2_ofDevice_0 6 rfl rfl)
theorem dX2_ofDevice_9 : decode cX2_ofDevice 9 = .ok (.ifCond .eq 14, 3) := dk_153 0 14 (dk_at dksX2_ofDevice_0 9 rfl rfl)
theorem dX2_ofDevice_12 : decode cX2_ofDevice 12 = .ok (.aload_n 0, 1) := dk_42 (dk_at dksX2_ofDevice_0 12 rfl rfl)
theorem dX2_ofDevice_13 : decode cX2_ofDevice 13 = .ok (.getfield 23, 3) := dk_180 0 23 (dk_at dksX2_ofDevice_0 13 rfl rfl)
theorem dX2_ofDevice_16 : decode cX2_ofDevice 16 = .ok (.iload_n 2, 1) := dk_28 (dk_at dksX2_ofDevice_0 16 rfl rfl)
theorem dX2_ofDevice_17 : decode cX2_ofDevice 17 = .ok (.iload_n 1, 1) := dk_27 (dk_at dksX2_ofDevice_0 17 rfl rfl)
theorem dX2_ofDevice_18 : decode cX2_ofDevice 18 = .ok (.iadd, 1) := dk_96 (dk_at dksX2_ofDevice_0 18 rfl rfl)
theorem dX2_ofDevice_19 : decode cX2_ofDevice 19 = .ok (.iaload, 1) := dk_46 (dk_at dksX2_ofDevice_0 19 rfl rfl)
theorem dX2_ofDevice_20 : decode cX2_ofDevice 20 = .ok (.goto 4, 3) := dk_167 0 4 (dk_at dksX2_ofDevice_0 20 rfl rfl)
theorem dX2_ofDevice_23 : decode cX2_ofDevice 23 = .ok (.iconst 0, 1) := dk_3 (dk_at dksX2_ofDevice_0 23 rfl rfl)
theorem dX2_ofDevice_24 : decode cX2_ofDevice 24 = .ok (.ireturn, 1) := dk_172 (dk_at dksX2_ofDevice_1 0 rfl rfl)
abbrev cX2_isDevice : ByteArray := prog_22_method_89_code
def yX2_isDevice : MethodName := ⟨RX2, "isDevice", "(I)Z"⟩
def dkwX2_isDevice_0 : List UInt8 := [27, 3, 42, 180, 0, 17, 16, 10, 46, 4, 100, 184, 0, 114, 172]
abbrev dktX2_isDevice_0 : List UInt8 := dkwX2_isDevice_0 ++ []
theorem dksX2_isDevice_0 : cX2_isDevice.data.toList.drop 0 = dktX2_isDevice_0 := by decide +kernel
theorem dX2_isDevice_0 : decode cX2_isDevice 0 = .ok (.iload_n 1, 1) := dk_27 (dk_at dksX2_isDevice_0 0 rfl rfl)
theorem dX2_isDevice_1 : decode cX2_isDevice 1 = .ok (.iconst 0, 1) := dk_3 (dk_at dksX2_isDevice_0 1 rfl rfl)
theorem dX2_isDevice_2 : decode cX2_isDevice 2 = .ok (.aload_n 0, 1) := dk_42 (dk_at dksX2_isDevice_0 2 rfl rfl)
theorem dX2_isDevice_3 : decode cX2_isDevice 3 = .ok (.getfield 17, 3) := dk_180 0 17 (dk_at dksX2_isDevice_0 3 rfl rfl)
theorem dX2_isDevice_6 : decode cX2_isDevice 6 = .ok (.bipush 10, 2) := dk_16 10 (dk_at dksX2_isDevice_0 6 rfl rfl)
theorem dX2_isDevice_8 : decode cX2_isDevice 8 = .ok (.iaload, 1) := dk_46 (dk_at dksX2_isDevice_0 8 rfl rfl)
theorem dX2_isDevice_9 : decode cX2_isDevice 9 = .ok (.iconst 1, 1) := dk_4 (dk_at dksX2_isDevice_0 9 rfl rfl)
theorem dX2_isDevice_10 : decode cX2_isDevice 10 = .ok (.isub, 1) := dk_100 (dk_at dksX2_isDevice_0 10 rfl rfl)
theorem dX2_isDevice_11 : decode cX2_isDevice 11 = .ok (.invokestatic 114, 3) := dk_184 0 114 (dk_at dksX2_isDevice_0 11 rfl rfl)
theorem dX2_isDevice_14 : decode cX2_isDevice 14 = .ok (.ireturn, 1) := dk_172 (dk_at dksX2_isDevice_0 14 rfl rfl)
abbrev cX2_licenceOf : ByteArray := prog_22_method_100_code
def yX2_licenceOf : MethodName := ⟨RX2, "licenceOf", "(I)I"⟩
def dkwX2_licenceOf_1 : List UInt8 := [3, 172]
abbrev dktX2_licenceOf_1 : List UInt8 := dkwX2_licenceOf_1 ++ []
def dkwX2_licenceOf_0 : List UInt8 := [42, 42, 27, 182, 1, 221, 182, 1, 205, 153, 0, 15, 42, 180, 0, 17, 16, 86, 27, 96, 46, 167, 0, 4]
abbrev dktX2_licenceOf_0 : List UInt8 := dkwX2_licenceOf_0 ++ dktX2_licenceOf_1
theorem dksX2_licenceOf_0 : cX2_licenceOf.data.toList.drop 0 = dktX2_licenceOf_0 := by decide +kernel
theorem dksX2_licenceOf_1 : cX2_licenceOf.data.toList.drop 24 = dktX2_licenceOf_1 := dk_seg dksX2_licenceOf_0 24 rfl rfl
theorem dX2_licenceOf_0 : decode cX2_licenceOf 0 = .ok (.aload_n 0, 1) := dk_42 (dk_at dksX2_licenceOf_0 0 rfl rfl)
theorem dX2_licenceOf_1 : decode cX2_licenceOf 1 = .ok (.aload_n 0, 1) := dk_42 (dk_at dksX2_licenceOf_0 1 rfl rfl)
theorem dX2_licenceOf_2 : decode cX2_licenceOf 2 = .ok (.iload_n 1, 1) := dk_27 (dk_at dksX2_licenceOf_0 2 rfl rfl)
theorem dX2_licenceOf_3 : decode cX2_licenceOf 3 = .ok (.invokevirtual 477, 3) := dk_182 1 221 (dk_at dksX2_licenceOf_0 3 rfl rfl)
theorem dX2_licenceOf_6 : decode cX2_licenceOf 6 = .ok (.invokevirtual 461, 3) := dk_182 1 205 (dk_at dksX2_licenceOf_0 6 rfl rfl)
theorem dX2_licenceOf_9 : decode cX2_licenceOf 9 = .ok (.ifCond .eq 15, 3) := dk_153 0 15 (dk_at dksX2_licenceOf_0 9 rfl rfl)
theorem dX2_licenceOf_12 : decode cX2_licenceOf 12 = .ok (.aload_n 0, 1) := dk_42 (dk_at dksX2_licenceOf_0 12 rfl rfl)
theorem dX2_licenceOf_13 : decode cX2_licenceOf 13 = .ok (.getfield 17, 3) := dk_180 0 17 (dk_at dksX2_licenceOf_0 13 rfl rfl)
theorem dX2_licenceOf_16 : decode cX2_licenceOf 16 = .ok (.bipush 86, 2) := dk_16 86 (dk_at dksX2_licenceOf_0 16 rfl rfl)
theorem dX2_licenceOf_18 : decode cX2_licenceOf 18 = .ok (.iload_n 1, 1) := dk_27 (dk_at dksX2_licenceOf_0 18 rfl rfl)
theorem dX2_licenceOf_19 : decode cX2_licenceOf 19 = .ok (.iadd, 1) := dk_96 (dk_at dksX2_licenceOf_0 19 rfl rfl)
theorem dX2_licenceOf_20 : decode cX2_licenceOf 20 = .ok (.iaload, 1) := dk_46 (dk_at dksX2_licenceOf_0 20 rfl rfl)
theorem dX2_licenceOf_21 : decode cX2_licenceOf 21 = .ok (.goto 4, 3) := dk_167 0 4 (dk_at dksX2_licenceOf_0 21 rfl rfl)
theorem dX2_licenceOf_24 : decode cX2_licenceOf 24 = .ok (.iconst 0, 1) := dk_3 (dk_at dksX2_licenceOf_1 0 rfl rfl)
theorem dX2_licenceOf_25 : decode cX2_licenceOf 25 = .ok (.ireturn, 1) := dk_172 (dk_at dksX2_licenceOf_1 1 rfl rfl)
abbrev cX2_channelOf : ByteArray := prog_22_method_101_code
def yX2_channelOf : MethodName := ⟨RX2, "channelOf", "(I)I"⟩
def dkwX2_channelOf_0 : List UInt8 := [42, 27, 16, 38, 182, 1, 224, 172]
abbrev dktX2_channelOf_0 : List UInt8 := dkwX2_channelOf_0 ++ []
theorem dksX2_channelOf_0 : cX2_channelOf.data.toList.drop 0 = dktX2_channelOf_0 := by decide +kernel
theorem dX2_channelOf_0 : decode cX2_channelOf 0 = .ok (.aload_n 0, 1) := dk_42 (dk_at dksX2_channelOf_0 0 rfl rfl)
theorem dX2_channelOf_1 : decode cX2_channelOf 1 = .ok (.iload_n 1, 1) := dk_27 (dk_at dksX2_channelOf_0 1 rfl rfl)
theorem dX2_channelOf_2 : decode cX2_channelOf 2 = .ok (.bipush 38, 2) := dk_16 38 (dk_at dksX2_channelOf_0 2 rfl rfl)
theorem dX2_channelOf_4 : decode cX2_channelOf 4 = .ok (.invokevirtual 480, 3) := dk_182 1 224 (dk_at dksX2_channelOf_0 4 rfl rfl)
theorem dX2_channelOf_7 : decode cX2_channelOf 7 = .ok (.ireturn, 1) := dk_172 (dk_at dksX2_channelOf_0 7 rfl rfl)
abbrev cX2_powerOf : ByteArray := prog_22_method_102_code
def yX2_powerOf : MethodName := ⟨RX2, "powerOf", "(I)I"⟩
def dkwX2_powerOf_0 : List UInt8 := [42, 27, 16, 54, 182, 1, 224, 172]
abbrev dktX2_powerOf_0 : List UInt8 := dkwX2_powerOf_0 ++ []
theorem dksX2_powerOf_0 : cX2_powerOf.data.toList.drop 0 = dktX2_powerOf_0 := by decide +kernel
theorem dX2_powerOf_0 : decode cX2_powerOf 0 = .ok (.aload_n 0, 1) := dk_42 (dk_at dksX2_powerOf_0 0 rfl rfl)
theorem dX2_powerOf_1 : decode cX2_powerOf 1 = .ok (.iload_n 1, 1) := dk_27 (dk_at dksX2_powerOf_0 1 rfl rfl)
theorem dX2_powerOf_2 : decode cX2_powerOf 2 = .ok (.bipush 54, 2) := dk_16 54 (dk_at dksX2_powerOf_0 2 rfl rfl)
theorem dX2_powerOf_4 : decode cX2_powerOf 4 = .ok (.invokevirtual 480, 3) := dk_182 1 224 (dk_at dksX2_powerOf_0 4 rfl rfl)
theorem dX2_powerOf_7 : decode cX2_powerOf 7 = .ok (.ireturn, 1) := dk_172 (dk_at dksX2_powerOf_0 7 rfl rfl)
abbrev cX2_sinceOf : ByteArray := prog_22_method_103_code
def yX2_sinceOf : MethodName := ⟨RX2, "sinceOf", "(I)I"⟩
def dkwX2_sinceOf_0 : List UInt8 := [42, 27, 16, 22, 182, 1, 224, 172]
abbrev dktX2_sinceOf_0 : List UInt8 := dkwX2_sinceOf_0 ++ []
theorem dksX2_sinceOf_0 : cX2_sinceOf.data.toList.drop 0 = dktX2_sinceOf_0 := by decide +kernel
theorem dX2_sinceOf_0 : decode cX2_sinceOf 0 = .ok (.aload_n 0, 1) := dk_42 (dk_at dksX2_sinceOf_0 0 rfl rfl)
theorem dX2_sinceOf_1 : decode cX2_sinceOf 1 = .ok (.iload_n 1, 1) := dk_27 (dk_at dksX2_sinceOf_0 1 rfl rfl)
theorem dX2_sinceOf_2 : decode cX2_sinceOf 2 = .ok (.bipush 22, 2) := dk_16 22 (dk_at dksX2_sinceOf_0 2 rfl rfl)
theorem dX2_sinceOf_4 : decode cX2_sinceOf 4 = .ok (.invokevirtual 480, 3) := dk_182 1 224 (dk_at dksX2_sinceOf_0 4 rfl rfl)
theorem dX2_sinceOf_7 : decode cX2_sinceOf 7 = .ok (.ireturn, 1) := dk_172 (dk_at dksX2_sinceOf_0 7 rfl rfl)
abbrev cX2_movesOf : ByteArray := prog_22_method_104_code
def yX2_movesOf : MethodName := ⟨RX2, "movesOf", "(I)I"⟩
def dkwX2_movesOf_0 : List UInt8 := [42, 27, 16, 86, 182, 1, 224, 172]
abbrev dktX2_movesOf_0 : List UInt8 := dkwX2_movesOf_0 ++ []
theorem dksX2_movesOf_0 : cX2_movesOf.data.toList.drop 0 = dktX2_movesOf_0 := by decide +kernel
theorem dX2_movesOf_0 : decode cX2_movesOf 0 = .ok (.aload_n 0, 1) := dk_42 (dk_at dksX2_movesOf_0 0 rfl rfl)
theorem dX2_movesOf_1 : decode cX2_movesOf 1 = .ok (.iload_n 1, 1) := dk_27 (dk_at dksX2_movesOf_0 1 rfl rfl)
theorem dX2_movesOf_2 : decode cX2_movesOf 2 = .ok (.bipush 86, 2) := dk_16 86 (dk_at dksX2_movesOf_0 2 rfl rfl)
theorem dX2_movesOf_4 : decode cX2_movesOf 4 = .ok (.invokevirtual 480, 3) := dk_182 1 224 (dk_at dksX2_movesOf_0 4 rfl rfl)
theorem dX2_movesOf_7 : decode cX2_movesOf 7 = .ok (.ireturn, 1) := dk_172 (dk_at dksX2_movesOf_0 7 rfl rfl)
abbrev cX2_airtimeOf : ByteArray := prog_22_method_105_code
def yX2_airtimeOf : MethodName := ⟨RX2, "airtimeOf", "(I)I"⟩
def dkwX2_airtimeOf_0 : List UInt8 := [42, 27, 16, 102, 182, 1, 224, 172]
abbrev dktX2_airtimeOf_0 : List UInt8 := dkwX2_airtimeOf_0 ++ []
theorem dksX2_airtimeOf_0 : cX2_airtimeOf.data.toList.drop 0 = dktX2_airtimeOf_0 := by decide +kernel
theorem dX2_airtimeOf_0 : decode cX2_airtimeOf 0 = .ok (.aload_n 0, 1) := dk_42 (dk_at dksX2_airtimeOf_0 0 rfl rfl)
theorem dX2_airtimeOf_1 : decode cX2_airtimeOf 1 = .ok (.iload_n 1, 1) := dk_27 (dk_at dksX2_airtimeOf_0 1 rfl rfl)
theorem dX2_airtimeOf_2 : decode cX2_airtimeOf 2 = .ok (.bipush 102, 2) := dk_16 102 (dk_at dksX2_airtimeOf_0 2 rfl rfl)
theorem dX2_airtimeOf_4 : decode cX2_airtimeOf 4 = .ok (.invokevirtual 480, 3) := dk_182 1 224 (dk_at dksX2_airtimeOf_0 4 rfl rfl)
theorem dX2_airtimeOf_7 : decode cX2_airtimeOf 7 = .ok (.ireturn, 1) := dk_172 (dk_at dksX2_airtimeOf_0 7 rfl rfl)
abbrev cX2_leaseEndOf : ByteArray := prog_22_method_106_code
def yX2_leaseEndOf : MethodName := ⟨RX2, "leaseEndOf", "(I)I"⟩
def dkwX2_leaseEndOf_2 : List UInt8 := [46, 42, 180, 0, 17, 16, 6, 46, 96, 172]
abbrev dktX2_leaseEndOf_2 : List UInt8 := dkwX2_leaseEndOf_2 ++ []
def dkwX2_leaseEndOf_1 : List UInt8 := [180, 0, 23, 16, 6, 27, 96, 46, 5, 159, 0, 7, 2, 167, 0, 20, 42, 180, 0, 23, 16, 22, 27, 96]
abbrev dktX2_leaseEndOf_1 : List UInt8 := dkwX2_leaseEndOf_1 ++ dktX2_leaseEndOf_2
def dkwX2_leaseEndOf_0 : List UInt8 := [42, 42, 27, 182, 1, 221, 182, 1, 205, 154, 0, 5, 3, 172, 42, 27, 182, 1, 4, 154, 0, 16, 42]
abbrev dktX2_leaseEndOf_0 : List UInt8 := dkwX2_leaseEndOf_0 ++ dktX2_leaseEndOf_1
theorem dksX2_leaseEndOf_0 : cX2_leaseEndOf.data.toList.drop 0 = dktX2_leaseEndOf_0 := by decide +kernel
theorem dksX2_leaseEndOf_1 : cX2_leaseEndOf.data.toList.drop 23 = dktX2_leaseEndOf_1 := dk_seg dksX2_leaseEndOf_0 23 rfl rfl
theorem dksX2_leaseEndOf_2 : cX2_leaseEndOf.data.toList.drop 47 = dktX2_leaseEndOf_2 := dk_seg dksX2_leaseEndOf_1 24 rfl rfl
theorem dX2_leaseEndOf_0 : decode cX2_leaseEndOf 0 = .ok (.aload_n 0, 1) := dk_42 (dk_at dksX2_leaseEndOf_0 0 rfl rfl)
theorem dX2_leaseEndOf_1 : decode cX2_leaseEndOf 1 = .ok (.aload_n 0, 1) := dk_42 (dk_at dksX2_leaseEndOf_0 1 rfl rfl)
theorem dX2_leaseEndOf_2 : decode cX2_leaseEndOf 2 = .ok (.iload_n 1, 1) := dk_27 (dk_at dksX2_leaseEndOf_0 2 rfl rfl)
theorem dX2_leaseEndOf_3 : decode cX2_leaseEndOf 3 = .ok (.invokevirtual 477, 3) := dk_182 1 221 (dk_at dksX2_leaseEndOf_0 3 rfl rfl)
theorem dX2_leaseEndOf_6 : decode cX2_leaseEndOf 6 = .ok (.invokevirtual 461, 3) := dk_182 1 205 (dk_at dksX2_leaseEndOf_0 6 rfl rfl)
theorem dX2_leaseEndOf_9 : decode cX2_leaseEndOf 9 = .ok (.ifCond .ne 5, 3) := dk_154 0 5 (dk_at dksX2_leaseEndOf_0 9 rfl rfl)
theorem dX2_leaseEndOf_12 : decode cX2_leaseEndOf 12 = .ok (.iconst 0, 1) := dk_3 (dk_at dksX2_leaseEndOf_0 12 rfl rfl)
theorem dX2_leaseEndOf_13 : decode cX2_leaseEndOf 13 = .ok (.ireturn, 1) := dk_172 (dk_at dksX2_leaseEndOf_0 13 rfl rfl)
theorem dX2_leaseEndOf_14 : decode cX2_leaseEndOf 14 = .ok (.aload_n 0, 1) := dk_42 (dk_at dksX2_leaseEndOf_0 14 rfl rfl)
theorem dX2_leaseEndOf_15 : decode cX2_leaseEndOf 15 = .ok (.iload_n 1, 1) := dk_27 (dk_at dksX2_leaseEndOf_0 15 rfl rfl)
theorem dX2_leaseEndOf_16 : decode cX2_leaseEndOf 16 = .ok (.invokevirtual 260, 3) := dk_182 1 4 (dk_at dksX2_leaseEndOf_0 16 rfl rfl)
theorem dX2_leaseEndOf_19 : decode cX2_leaseEndOf 19 = .ok (.ifCond .ne 16, 3) := dk_154 0 16 (dk_at dksX2_leaseEndOf_0 19 rfl rfl)
theorem dX2_leaseEndOf_22 : decode cX2_leaseEndOf 22 = .ok (.aload_n 0, 1) := dk_42 (dk_at dksX2_leaseEndOf_0 22 rfl rfl)
theorem dX2_leaseEndOf_23 : decode cX2_leaseEndOf 23 = .ok (.getfield 23, 3) := dk_180 0 23 (dk_at dksX2_leaseEndOf_1 0 rfl rfl)
theorem dX2_leaseEndOf_26 : decode cX2_leaseEndOf 26 = .ok (.bipush 6, 2) := dk_16 6 (dk_at dksX2_leaseEndOf_1 3 rfl rfl)
theorem dX2_leaseEndOf_28 : decode cX2_leaseEndOf 28 = .ok (.iload_n 1, 1) := dk_27 (dk_at dksX2_leaseEndOf_1 5 rfl rfl)
theorem dX2_leaseEndOf_29 : decode cX2_leaseEndOf 29 = .ok (.iadd, 1) := dk_96 (dk_at dksX2_leaseEndOf_1 6 rfl rfl)
theorem dX2_leaseEndOf_30 : decode cX2_leaseEndOf 30 = .ok (.iaload, 1) := dk_46 (dk_at dksX2_leaseEndOf_1 7 rfl rfl)
theorem dX2_leaseEndOf_31 : decode cX2_leaseEndOf 31 = .ok (.iconst 2, 1) := dk_5 (dk_at dksX2_leaseEndOf_1 8 rfl rfl)
theorem dX2_leaseEndOf_32 : decode cX2_leaseEndOf 32 = .ok (.if_icmp .eq 7, 3) := dk_159 0 7 (dk_at dksX2_leaseEndOf_1 9 rfl rfl)
theorem dX2_leaseEndOf_35 : decode cX2_leaseEndOf 35 = .ok (.iconst (-1), 1) := dk_2 (dk_at dksX2_leaseEndOf_1 12 rfl rfl)
theorem dX2_leaseEndOf_36 : decode cX2_leaseEndOf 36 = .ok (.goto 20, 3) := dk_167 0 20 (dk_at dksX2_leaseEndOf_1 13 rfl rfl)
theorem dX2_leaseEndOf_39 : decode cX2_leaseEndOf 39 = .ok (.aload_n 0, 1) := dk_42 (dk_at dksX2_leaseEndOf_1 16 rfl rfl)
theorem dX2_leaseEndOf_40 : decode cX2_leaseEndOf 40 = .ok (.getfield 23, 3) := dk_180 0 23 (dk_at dksX2_leaseEndOf_1 17 rfl rfl)
theorem dX2_leaseEndOf_43 : decode cX2_leaseEndOf 43 = .ok (.bipush 22, 2) := dk_16 22 (dk_at dksX2_leaseEndOf_1 20 rfl rfl)
theorem dX2_leaseEndOf_45 : decode cX2_leaseEndOf 45 = .ok (.iload_n 1, 1) := dk_27 (dk_at dksX2_leaseEndOf_1 22 rfl rfl)
theorem dX2_leaseEndOf_46 : decode cX2_leaseEndOf 46 = .ok (.iadd, 1) := dk_96 (dk_at dksX2_leaseEndOf_1 23 rfl rfl)
theorem dX2_leaseEndOf_47 : decode cX2_leaseEndOf 47 = .ok (.iaload, 1) := dk_46 (dk_at dksX2_leaseEndOf_2 0 rfl rfl)
theorem dX2_leaseEndOf_48 : decode cX2_leaseEndOf 48 = .ok (.aload_n 0, 1) := dk_42 (dk_at dksX2_leaseEndOf_2 1 rfl rfl)
theorem dX2_leaseEndOf_49 : decode cX2_leaseEndOf 49 = .ok (.getfield 17, 3) := dk_180 0 17 (dk_at dksX2_leaseEndOf_2 2 rfl rfl)
theorem dX2_leaseEndOf_52 : decode cX2_leaseEndOf 52 = .ok (.bipush 6, 2) := dk_16 6 (dk_at dksX2_leaseEndOf_2 5 rfl rfl)
theorem dX2_leaseEndOf_54 : decode cX2_leaseEndOf 54 = .ok (.iaload, 1) := dk_46 (dk_at dksX2_leaseEndOf_2 7 rfl rfl)
theorem dX2_leaseEndOf_55 : decode cX2_leaseEndOf 55 = .ok (.iadd, 1) := dk_96 (dk_at dksX2_leaseEndOf_2 8 rfl rfl)
theorem dX2_leaseEndOf_56 : decode cX2_leaseEndOf 56 = .ok (.ireturn, 1) := dk_172 (dk_at dksX2_leaseEndOf_2 9 rfl rfl)
abbrev cX2_strengthOf : ByteArray := prog_22_method_107_code
def yX2_strengthOf : MethodName := ⟨RX2, "strengthOf", "(III)I"⟩
def dkwX2_strengthOf_1 : List UInt8 := [182, 1, 205, 153, 0, 17, 42, 42, 180, 0, 23, 27, 28, 29, 182, 1, 66, 167, 0, 4, 3, 172]
abbrev dktX2_strengthOf_1 : List UInt8 := dkwX2_strengthOf_1 ++ []
def dkwX2_strengthOf_0 : List UInt8 := [42, 42, 27, 182, 1, 221, 153, 0, 16, 42, 28, 29, 182, 1, 215, 153, 0, 7, 4, 167, 0, 4, 3]
abbrev dktX2_strengthOf_0 : List UInt8 := dkwX2_strengthOf_0 ++ dktX2_strengthOf_1
theorem dksX2_strengthOf_0 : cX2_strengthOf.data.toList.drop 0 = dktX2_strengthOf_0 := by decide +kernel
theorem dksX2_strengthOf_1 : cX2_strengthOf.data.toList.drop 23 = dktX2_strengthOf_1 := dk_seg dksX2_strengthOf_0 23 rfl rfl
theorem dX2_strengthOf_0 : decode cX2_strengthOf 0 = .ok (.aload_n 0, 1) := dk_42 (dk_at dksX2_strengthOf_0 0 rfl rfl)
theorem dX2_strengthOf_1 : decode cX2_strengthOf 1 = .ok (.aload_n 0, 1) := dk_42 (dk_at dksX2_strengthOf_0 1 rfl rfl)
theorem dX2_strengthOf_2 : decode cX2_strengthOf 2 = .ok (.iload_n 1, 1) := dk_27 (dk_at dksX2_strengthOf_0 2 rfl rfl)
theorem dX2_strengthOf_3 : decode cX2_strengthOf 3 = .ok (.invokevirtual 477, 3) := dk_182 1 221 (dk_at dksX2_strengthOf_0 3 rfl rfl)
theorem dX2_strengthOf_6 : decode cX2_strengthOf 6 = .ok (.ifCond .eq 16, 3) := dk_153 0 16 (dk_at dksX2_strengthOf_0 6 rfl rfl)
theorem dX2_strengthOf_9 : decode cX2_strengthOf 9 = .ok (.aload_n 0, 1) := dk_42 (dk_at dksX2_strengthOf_0 9 rfl rfl)
theorem dX2_strengthOf_10 : decode cX2_strengthOf 10 = .ok (.iload_n 2, 1) := dk_28 (dk_at dksX2_strengthOf_0 10 rfl rfl)
theorem dX2_strengthOf_11 : decode cX2_strengthOf 11 = .ok (.iload_n 3, 1) := dk_29 (dk_at dksX2_strengthOf_0 11 rfl rfl)
theorem dX2_strengthOf_12 : decode cX2_strengthOf 12 = .ok (.invokevirtual 471, 3) := dk_182 1 215 (dk_at dksX2_strengthOf_0 12 rfl rfl)
theorem dX2_strengthOf_15 : decode cX2_strengthOf 15 = .ok (.ifCond .eq 7, 3) := dk_153 0 7 (dk_at dksX2_strengthOf_0 15 rfl rfl)
theorem dX2_strengthOf_18 : decode cX2_strengthOf 18 = .ok (.iconst 1, 1) := dk_4 (dk_at dksX2_strengthOf_0 18 rfl rfl)
theorem dX2_strengthOf_19 : decode cX2_strengthOf 19 = .ok (.goto 4, 3) := dk_167 0 4 (dk_at dksX2_strengthOf_0 19 rfl rfl)
theorem dX2_strengthOf_22 : decode cX2_strengthOf 22 = .ok (.iconst 0, 1) := dk_3 (dk_at dksX2_strengthOf_0 22 rfl rfl)
theorem dX2_strengthOf_23 : decode cX2_strengthOf 23 = .ok (.invokevirtual 461, 3) := dk_182 1 205 (dk_at dksX2_strengthOf_1 0 rfl rfl)
theorem dX2_strengthOf_26 : decode cX2_strengthOf 26 = .ok (.ifCond .eq 17, 3) := dk_153 0 17 (dk_at dksX2_strengthOf_1 3 rfl rfl)
theorem dX2_strengthOf_29 : decode cX2_strengthOf 29 = .ok (.aload_n 0, 1) := dk_42 (dk_at dksX2_strengthOf_1 6 rfl rfl)
theorem dX2_strengthOf_30 : decode cX2_strengthOf 30 = .ok (.aload_n 0, 1) := dk_42 (dk_at dksX2_strengthOf_1 7 rfl rfl)
theorem dX2_strengthOf_31 : decode cX2_strengthOf 31 = .ok (.getfield 23, 3) := dk_180 0 23 (dk_at dksX2_strengthOf_1 8 rfl rfl)
theorem dX2_strengthOf_34 : decode cX2_strengthOf 34 = .ok (.iload_n 1, 1) := dk_27 (dk_at dksX2_strengthOf_1 11 rfl rfl)
theorem dX2_strengthOf_35 : decode cX2_strengthOf 35 = .ok (.iload_n 2, 1) := dk_28 (dk_at dksX2_strengthOf_1 12 rfl rfl)
theorem dX2_strengthOf_36 : decode cX2_strengthOf 36 = .ok (.iload_n 3, 1) := dk_29 (dk_at dksX2_strengthOf_1 13 rfl rfl)
theorem dX2_strengthOf_37 : decode cX2_strengthOf 37 = .ok (.invokevirtual 322, 3) := dk_182 1 66 (dk_at dksX2_strengthOf_1 14 rfl rfl)
theorem dX2_strengthOf_40 : decode cX2_strengthOf 40 = .ok (.goto 4, 3) := dk_167 0 4 (dk_at dksX2_strengthOf_1 17 rfl rfl)
theorem dX2_strengthOf_43 : decode cX2_strengthOf 43 = .ok (.iconst 0, 1) := dk_3 (dk_at dksX2_strengthOf_1 20 rfl rfl)
theorem dX2_strengthOf_44 : decode cX2_strengthOf 44 = .ok (.ireturn, 1) := dk_172 (dk_at dksX2_strengthOf_1 21 rfl rfl)
abbrev cX2_interference : ByteArray := prog_22_method_108_code
def yX2_interference : MethodName := ⟨RX2, "interference", "(IIII)I"⟩
def dkwX2_interference_2 : List UInt8 := [159, 0, 9, 42, 6, 182, 1, 40, 172, 42, 42, 180, 0, 23, 27, 28, 29, 21, 4, 182, 1, 117, 172]
abbrev dktX2_interference_2 : List UInt8 := dkwX2_interference_2 ++ []
def dkwX2_interference_1 : List UInt8 := [182, 1, 205, 154, 0, 5, 3, 172, 21, 4, 153, 0, 21, 21, 4, 5, 159, 0, 15, 21, 4, 6]
abbrev dktX2_interference_1 : List UInt8 := dkwX2_interference_1 ++ dktX2_interference_2
def dkwX2_interference_0 : List UInt8 := [42, 42, 27, 28, 182, 1, 215, 153, 0, 15, 42, 29, 182, 1, 218, 153, 0, 7, 4, 167, 0, 4, 3]
abbrev dktX2_interference_0 : List UInt8 := dkwX2_interference_0 ++ dktX2_interference_1
theorem dksX2_interference_0 : cX2_interference.data.toList.drop 0 = dktX2_interference_0 := by decide +kernel
theorem dksX2_interference_1 : cX2_interference.data.toList.drop 23 = dktX2_interference_1 := dk_seg dksX2_interference_0 23 rfl rfl
theorem dksX2_interference_2 : cX2_interference.data.toList.drop 45 = dktX2_interference_2 := dk_seg dksX2_interference_1 22 rfl rfl
theorem dX2_interference_0 : decode cX2_interference 0 = .ok (.aload_n 0, 1) := dk_42 (dk_at dksX2_interference_0 0 rfl rfl)
theorem dX2_interference_1 : decode cX2_interference 1 = .ok (.aload_n 0, 1) := dk_42 (dk_at dksX2_interference_0 1 rfl rfl)
theorem dX2_interference_2 : decode cX2_interference 2 = .ok (.iload_n 1, 1) := dk_27 (dk_at dksX2_interference_0 2 rfl rfl)
theorem dX2_interference_3 : decode cX2_interference 3 = .ok (.iload_n 2, 1) := dk_28 (dk_at dksX2_interference_0 3 rfl rfl)
theorem dX2_interference_4 : decode cX2_interference 4 = .ok (.invokevirtual 471, 3) := dk_182 1 215 (dk_at dksX2_interference_0 4 rfl rfl)
theorem dX2_interference_7 : decode cX2_interference 7 = .ok (.ifCond .eq 15, 3) := dk_153 0 15 (dk_at dksX2_interference_0 7 rfl rfl)
theorem dX2_interference_10 : decode cX2_interference 10 = .ok (.aload_n 0, 1) := dk_42 (dk_at dksX2_interference_0 10 rfl rfl)
theorem dX2_interference_11 : decode cX2_interference 11 = .ok (.iload_n 3, 1) := dk_29 (dk_at dksX2_interference_0 11 rfl rfl)
theorem dX2_interference_12 : decode cX2_interference 12 = .ok (.invokevirtual 474, 3) := dk_182 1 218 (dk_at dksX2_interference_0 12 rfl rfl)
theorem dX2_interference_15 : decode cX2_interference 15 = .ok (.ifCond .eq 7, 3) := dk_153 0 7 (dk_at dksX2_interference_0 15 rfl rfl)
theorem dX2_interference_18 : decode cX2_interference 18 = .ok (.iconst 1, 1) := dk_4 (dk_at dksX2_interference_0 18 rfl rfl)
theorem dX2_interference_19 : decode cX2_interference 19 = .ok (.goto 4, 3) := dk_167 0 4 (dk_at dksX2_interference_0 19 rfl rfl)
theorem dX2_interference_22 : decode cX2_interference 22 = .ok (.iconst 0, 1) := dk_3 (dk_at dksX2_interference_0 22 rfl rfl)
theorem dX2_interference_23 : decode cX2_interference 23 = .ok (.invokevirtual 461, 3) := dk_182 1 205 (dk_at dksX2_interference_1 0 rfl rfl)
theorem dX2_interference_26 : decode cX2_interference 26 = .ok (.ifCond .ne 5, 3) := dk_154 0 5 (dk_at dksX2_interference_1 3 rfl rfl)
theorem dX2_interference_29 : decode cX2_interference 29 = .ok (.iconst 0, 1) := dk_3 (dk_at dksX2_interference_1 6 rfl rfl)
theorem dX2_interference_30 : decode cX2_interference 30 = .ok (.ireturn, 1) := dk_172 (dk_at dksX2_interference_1 7 rfl rfl)
theorem dX2_interference_31 : decode cX2_interference 31 = .ok (.iload 4, 2) := dk_21 4 (dk_at dksX2_interference_1 8 rfl rfl)
theorem dX2_interference_33 : decode cX2_interference 33 = .ok (.ifCond .eq 21, 3) := dk_153 0 21 (dk_at dksX2_interference_1 10 rfl rfl)
theorem dX2_interference_36 : decode cX2_interference 36 = .ok (.iload 4, 2) := dk_21 4 (dk_at dksX2_interference_1 13 rfl rfl)
theorem dX2_interference_38 : decode cX2_interference 38 = .ok (.iconst 2, 1) := dk_5 (dk_at dksX2_interference_1 15 rfl rfl)
theorem dX2_interference_39 : decode cX2_interference 39 = .ok (.if_icmp .eq 15, 3) := dk_159 0 15 (dk_at dksX2_interference_1 16 rfl rfl)
theorem dX2_interference_42 : decode cX2_interference 42 = .ok (.iload 4, 2) := dk_21 4 (dk_at dksX2_interference_1 19 rfl rfl)
theorem dX2_interference_44 : decode cX2_interference 44 = .ok (.iconst 3, 1) := dk_6 (dk_at dksX2_interference_1 21 rfl rfl)
theorem dX2_interference_45 : decode cX2_interference 45 = .ok (.if_icmp .eq 9, 3) := dk_159 0 9 (dk_at dksX2_interference_2 0 rfl rfl)
theorem dX2_interference_48 : decode cX2_interference 48 = .ok (.aload_n 0, 1) := dk_42 (dk_at dksX2_interference_2 3 rfl rfl)
theorem dX2_interference_49 : decode cX2_interference 49 = .ok (.iconst 3, 1) := dk_6 (dk_at dksX2_interference_2 4 rfl rfl)
theorem dX2_interference_50 : decode cX2_interference 50 = .ok (.invokevirtual 296, 3) := dk_182 1 40 (dk_at dksX2_interference_2 5 rfl rfl)
theorem dX2_interference_53 : decode cX2_interference 53 = .ok (.ireturn, 1) := dk_172 (dk_at dksX2_interference_2 8 rfl rfl)
theorem dX2_interference_54 : decode cX2_interference 54 = .ok (.aload_n 0, 1) := dk_42 (dk_at dksX2_interference_2 9 rfl rfl)
theorem dX2_interference_55 : decode cX2_interference 55 = .ok (.aload_n 0, 1) := dk_42 (dk_at dksX2_interference_2 10 rfl rfl)
theorem dX2_interference_56 : decode cX2_interference 56 = .ok (.getfield 23, 3) := dk_180 0 23 (dk_at dksX2_interference_2 11 rfl rfl)
theorem dX2_interference_59 : decode cX2_interference 59 = .ok (.iload_n 1, 1) := dk_27 (dk_at dksX2_interference_2 14 rfl rfl)
theorem dX2_interference_60 : decode cX2_interference 60 = .ok (.iload_n 2, 1) := dk_28 (dk_at dksX2_interference_2 15 rfl rfl)
theorem dX2_interference_61 : decode cX2_interference 61 = .ok (.iload_n 3, 1) := dk_29 (dk_at dksX2_interference_2 16 rfl rfl)
theorem dX2_interference_62 : decode cX2_interference 62 = .ok (.iload 4, 2) := dk_21 4 (dk_at dksX2_interference_2 17 rfl rfl)
theorem dX2_interference_64 : decode cX2_interference 64 = .ok (.invokevirtual 373, 3) := dk_182 1 117 (dk_at dksX2_interference_2 19 rfl rfl)
theorem dX2_interference_67 : decode cX2_interference 67 = .ok (.ireturn, 1) := dk_172 (dk_at dksX2_interference_2 22 rfl rfl)
abbrev cX2_denials : ByteArray := prog_22_method_109_code
def yX2_denials : MethodName := ⟨RX2, "denials", "()I"⟩
def dkwX2_denials_0 : List UInt8 := [42, 42, 180, 0, 17, 16, 102, 46, 182, 1, 199, 172]
abbrev dktX2_denials_0 : List UInt8 := dkwX2_denials_0 ++ []
theorem dksX2_denials_0 : cX2_denials.data.toList.drop 0 = dktX2_denials_0 := by decide +kernel
theorem dX2_denials_0 : decode cX2_denials 0 = .ok (.aload_n 0, 1) := dk_42 (dk_at dksX2_denials_0 0 rfl rfl)
theorem dX2_denials_1 : decode cX2_denials 1 = .ok (.aload_n 0, 1) := dk_42 (dk_at dksX2_denials_0 1 rfl rfl)
theorem dX2_denials_2 : decode cX2_denials 2 = .ok (.getfield 17, 3) := dk_180 0 17 (dk_at dksX2_denials_0 2 rfl rfl)
theorem dX2_denials_5 : decode cX2_denials 5 = .ok (.bipush 102, 2) := dk_16 102 (dk_at dksX2_denials_0 5 rfl rfl)
theorem dX2_denials_7 : decode cX2_denials 7 = .ok (.iaload, 1) := dk_46 (dk_at dksX2_denials_0 7 rfl rfl)
theorem dX2_denials_8 : decode cX2_denials 8 = .ok (.invokevirtual 455, 3) := dk_182 1 199 (dk_at dksX2_denials_0 8 rfl rfl)
theorem dX2_denials_11 : decode cX2_denials 11 = .ok (.ireturn, 1) := dk_172 (dk_at dksX2_denials_0 11 rfl rfl)
abbrev cX2_isDenied : ByteArray := prog_22_method_110_code
def yX2_isDenied : MethodName := ⟨RX2, "isDenied", "(II)Z"⟩
def dkwX2_isDenied_2 : List UInt8 := [172]
abbrev dktX2_isDenied_2 : List UInt8 := dkwX2_isDenied_2 ++ []
def dkwX2_isDenied_1 : List UInt8 := [182, 1, 205, 153, 0, 20, 42, 42, 180, 0, 23, 27, 28, 182, 1, 159, 153, 0, 7, 4, 167, 0, 4, 3]
abbrev dktX2_isDenied_1 : List UInt8 := dkwX2_isDenied_1 ++ dktX2_isDenied_2
def dkwX2_isDenied_0 : List UInt8 := [42, 42, 27, 182, 1, 221, 153, 0, 15, 42, 28, 182, 1, 218, 153, 0, 7, 4, 167, 0, 4, 3]
abbrev dktX2_isDenied_0 : List UInt8 := dkwX2_isDenied_0 ++ dktX2_isDenied_1
theorem dksX2_isDenied_0 : cX2_isDenied.data.toList.drop 0 = dktX2_isDenied_0 := by decide +kernel
theorem dksX2_isDenied_1 : cX2_isDenied.data.toList.drop 22 = dktX2_isDenied_1 := dk_seg dksX2_isDenied_0 22 rfl rfl
theorem dksX2_isDenied_2 : cX2_isDenied.data.toList.drop 46 = dktX2_isDenied_2 := dk_seg dksX2_isDenied_1 24 rfl rfl
theorem dX2_isDenied_0 : decode cX2_isDenied 0 = .ok (.aload_n 0, 1) := dk_42 (dk_at dksX2_isDenied_0 0 rfl rfl)
theorem dX2_isDenied_1 : decode cX2_isDenied 1 = .ok (.aload_n 0, 1) := dk_42 (dk_at dksX2_isDenied_0 1 rfl rfl)
theorem dX2_isDenied_2 : decode cX2_isDenied 2 = .ok (.iload_n 1, 1) := dk_27 (dk_at dksX2_isDenied_0 2 rfl rfl)
theorem dX2_isDenied_3 : decode cX2_isDenied 3 = .ok (.invokevirtual 477, 3) := dk_182 1 221 (dk_at dksX2_isDenied_0 3 rfl rfl)
theorem dX2_isDenied_6 : decode cX2_isDenied 6 = .ok (.ifCond .eq 15, 3) := dk_153 0 15 (dk_at dksX2_isDenied_0 6 rfl rfl)
theorem dX2_isDenied_9 : decode cX2_isDenied 9 = .ok (.aload_n 0, 1) := dk_42 (dk_at dksX2_isDenied_0 9 rfl rfl)
theorem dX2_isDenied_10 : decode cX2_isDenied 10 = .ok (.iload_n 2, 1) := dk_28 (dk_at dksX2_isDenied_0 10 rfl rfl)
theorem dX2_isDenied_11 : decode cX2_isDenied 11 = .ok (.invokevirtual 474, 3) := dk_182 1 218 (dk_at dksX2_isDenied_0 11 rfl rfl)
theorem dX2_isDenied_14 : decode cX2_isDenied 14 = .ok (.ifCond .eq 7, 3) := dk_153 0 7 (dk_at dksX2_isDenied_0 14 rfl rfl)
theorem dX2_isDenied_17 : decode cX2_isDenied 17 = .ok (.iconst 1, 1) := dk_4 (dk_at dksX2_isDenied_0 17 rfl rfl)
theorem dX2_isDenied_18 : decode cX2_isDenied 18 = .ok (.goto 4, 3) := dk_167 0 4 (dk_at dksX2_isDenied_0 18 rfl rfl)
theorem dX2_isDenied_21 : decode cX2_isDenied 21 = .ok (.iconst 0, 1) := dk_3 (dk_at dksX2_isDenied_0 21 rfl rfl)
theorem dX2_isDenied_22 : decode cX2_isDenied 22 = .ok (.invokevirtual 461, 3) := dk_182 1 205 (dk_at dksX2_isDenied_1 0 rfl rfl)
theorem dX2_isDenied_25 : decode cX2_isDenied 25 = .ok (.ifCond .eq 20, 3) := dk_153 0 20 (dk_at dksX2_isDenied_1 3 rfl rfl)
theorem dX2_isDenied_28 : decode cX2_isDenied 28 = .ok (.aload_n 0, 1) := dk_42 (dk_at dksX2_isDenied_1 6 rfl rfl)
theorem dX2_isDenied_29 : decode cX2_isDenied 29 = .ok (.aload_n 0, 1) := dk_42 (dk_at dksX2_isDenied_1 7 rfl rfl)
theorem dX2_isDenied_30 : decode cX2_isDenied 30 = .ok (.getfield 23, 3) := dk_180 0 23 (dk_at dksX2_isDenied_1 8 rfl rfl)
theorem dX2_isDenied_33 : decode cX2_isDenied 33 = .ok (.iload_n 1, 1) := dk_27 (dk_at dksX2_isDenied_1 11 rfl rfl)
theorem dX2_isDenied_34 : decode cX2_isDenied 34 = .ok (.iload_n 2, 1) := dk_28 (dk_at dksX2_isDenied_1 12 rfl rfl)
theorem dX2_isDenied_35 : decode cX2_isDenied 35 = .ok (.invokevirtual 415, 3) := dk_182 1 159 (dk_at dksX2_isDenied_1 13 rfl rfl)
theorem dX2_isDenied_38 : decode cX2_isDenied 38 = .ok (.ifCond .eq 7, 3) := dk_153 0 7 (dk_at dksX2_isDenied_1 16 rfl rfl)
theorem dX2_isDenied_41 : decode cX2_isDenied 41 = .ok (.iconst 1, 1) := dk_4 (dk_at dksX2_isDenied_1 19 rfl rfl)
theorem dX2_isDenied_42 : decode cX2_isDenied 42 = .ok (.goto 4, 3) := dk_167 0 4 (dk_at dksX2_isDenied_1 20 rfl rfl)
theorem dX2_isDenied_45 : decode cX2_isDenied 45 = .ok (.iconst 0, 1) := dk_3 (dk_at dksX2_isDenied_1 23 rfl rfl)
theorem dX2_isDenied_46 : decode cX2_isDenied 46 = .ok (.ireturn, 1) := dk_172 (dk_at dksX2_isDenied_2 0 rfl rfl)
abbrev cX2_deniesDevice : ByteArray := prog_22_method_42_code
def yX2_deniesDevice : MethodName := ⟨RX2, "deniesDevice", "([III)Z"⟩
def dkwX2_deniesDevice_1 : List UInt8 := [16, 70, 28, 96, 46, 29, 43, 16, 86, 28, 96, 46, 182, 1, 7, 153, 0, 7, 4, 167, 0, 4, 3, 172]
abbrev dktX2_deniesDevice_1 : List UInt8 := dkwX2_deniesDevice_1 ++ []
def dkwX2_deniesDevice_0 : List UInt8 := [42, 28, 182, 1, 4, 154, 0, 40, 42, 43, 42, 180, 0, 17, 16, 54, 28, 96, 46, 42, 180, 0, 17]
abbrev dktX2_deniesDevice_0 : List UInt8 := dkwX2_deniesDevice_0 ++ dktX2_deniesDevice_1
theorem dksX2_deniesDevice_0 : cX2_deniesDevice.data.toList.drop 0 = dktX2_deniesDevice_0 := by decide +kernel
theorem dksX2_deniesDevice_1 : cX2_deniesDevice.data.toList.drop 23 = dktX2_deniesDevice_1 := dk_seg dksX2_deniesDevice_0 23 rfl rfl
theorem dX2_deniesDevice_0 : decode cX2_deniesDevice 0 = .ok (.aload_n 0, 1) := dk_42 (dk_at dksX2_deniesDevice_0 0 rfl rfl)
theorem dX2_deniesDevice_1 : decode cX2_deniesDevice 1 = .ok (.iload_n 2, 1) := dk_28 (dk_at dksX2_deniesDevice_0 1 rfl rfl)
theorem dX2_deniesDevice_2 : decode cX2_deniesDevice 2 = .ok (.invokevirtual 260, 3) := dk_182 1 4 (dk_at dksX2_deniesDevice_0 2 rfl rfl)
theorem dX2_deniesDevice_5 : decode cX2_deniesDevice 5 = .ok (.ifCond .ne 40, 3) := dk_154 0 40 (dk_at dksX2_deniesDevice_0 5 rfl rfl)
theorem dX2_deniesDevice_8 : decode cX2_deniesDevice 8 = .ok (.aload_n 0, 1) := dk_42 (dk_at dksX2_deniesDevice_0 8 rfl rfl)
theorem dX2_deniesDevice_9 : decode cX2_deniesDevice 9 = .ok (.aload_n 1, 1) := dk_43 (dk_at dksX2_deniesDevice_0 9 rfl rfl)
theorem dX2_deniesDevice_10 : decode cX2_deniesDevice 10 = .ok (.aload_n 0, 1) := dk_42 (dk_at dksX2_deniesDevice_0 10 rfl rfl)
theorem dX2_deniesDevice_11 : decode cX2_deniesDevice 11 = .ok (.getfield 17, 3) := dk_180 0 17 (dk_at dksX2_deniesDevice_0 11 rfl rfl)
theorem dX2_deniesDevice_14 : decode cX2_deniesDevice 14 = .ok (.bipush 54, 2) := dk_16 54 (dk_at dksX2_deniesDevice_0 14 rfl rfl)
theorem dX2_deniesDevice_16 : decode cX2_deniesDevice 16 = .ok (.iload_n 2, 1) := dk_28 (dk_at dksX2_deniesDevice_0 16 rfl rfl)
theorem dX2_deniesDevice_17 : decode cX2_deniesDevice 17 = .ok (.iadd, 1) := dk_96 (dk_at dksX2_deniesDevice_0 17 rfl rfl)
theorem dX2_deniesDevice_18 : decode cX2_deniesDevice 18 = .ok (.iaload, 1) := dk_46 (dk_at dksX2_deniesDevice_0 18 rfl rfl)
theorem dX2_deniesDevice_19 : decode cX2_deniesDevice 19 = .ok (.aload_n 0, 1) := dk_42 (dk_at dksX2_deniesDevice_0 19 rfl rfl)
theorem dX2_deniesDevice_20 : decode cX2_deniesDevice 20 = .ok (.getfield 17, 3) := dk_180 0 17 (dk_at dksX2_deniesDevice_0 20 rfl rfl)
theorem dX2_deniesDevice_23 : decode cX2_deniesDevice 23 = .ok (.bipush 70, 2) := dk_16 70 (dk_at dksX2_deniesDevice_1 0 rfl rfl)
theorem dX2_deniesDevice_25 : decode cX2_deniesDevice 25 = .ok (.iload_n 2, 1) := dk_28 (dk_at dksX2_deniesDevice_1 2 rfl rfl)
theorem dX2_deniesDevice_26 : decode cX2_deniesDevice 26 = .ok (.iadd, 1) := dk_96 (dk_at dksX2_deniesDevice_1 3 rfl rfl)
theorem dX2_deniesDevice_27 : decode cX2_deniesDevice 27 = .ok (.iaload, 1) := dk_46 (dk_at dksX2_deniesDevice_1 4 rfl rfl)
theorem dX2_deniesDevice_28 : decode cX2_deniesDevice 28 = .ok (.iload_n 3, 1) := dk_29 (dk_at dksX2_deniesDevice_1 5 rfl rfl)
theorem dX2_deniesDevice_29 : decode cX2_deniesDevice 29 = .ok (.aload_n 1, 1) := dk_43 (dk_at dksX2_deniesDevice_1 6 rfl rfl)
theorem dX2_deniesDevice_30 : decode cX2_deniesDevice 30 = .ok (.bipush 86, 2) := dk_16 86 (dk_at dksX2_deniesDevice_1 7 rfl rfl)
theorem dX2_deniesDevice_32 : decode cX2_deniesDevice 32 = .ok (.iload_n 2, 1) := dk_28 (dk_at dksX2_deniesDevice_1 9 rfl rfl)
theorem dX2_deniesDevice_33 : decode cX2_deniesDevice 33 = .ok (.iadd, 1) := dk_96 (dk_at dksX2_deniesDevice_1 10 rfl rfl)
theorem dX2_deniesDevice_34 : decode cX2_deniesDevice 34 = .ok (.iaload, 1) := dk_46 (dk_at dksX2_deniesDevice_1 11 rfl rfl)
theorem dX2_deniesDevice_35 : decode cX2_deniesDevice 35 = .ok (.invokevirtual 263, 3) := dk_182 1 7 (dk_at dksX2_deniesDevice_1 12 rfl rfl)
theorem dX2_deniesDevice_38 : decode cX2_deniesDevice 38 = .ok (.ifCond .eq 7, 3) := dk_153 0 7 (dk_at dksX2_deniesDevice_1 15 rfl rfl)
theorem dX2_deniesDevice_41 : decode cX2_deniesDevice 41 = .ok (.iconst 1, 1) := dk_4 (dk_at dksX2_deniesDevice_1 18 rfl rfl)
theorem dX2_deniesDevice_42 : decode cX2_deniesDevice 42 = .ok (.goto 4, 3) := dk_167 0 4 (dk_at dksX2_deniesDevice_1 19 rfl rfl)
theorem dX2_deniesDevice_45 : decode cX2_deniesDevice 45 = .ok (.iconst 0, 1) := dk_3 (dk_at dksX2_deniesDevice_1 22 rfl rfl)
theorem dX2_deniesDevice_46 : decode cX2_deniesDevice 46 = .ok (.ireturn, 1) := dk_172 (dk_at dksX2_deniesDevice_1 23 rfl rfl)
abbrev cX2_denies : ByteArray := prog_22_method_41_code
def yX2_denies : MethodName := ⟨RX2, "denies", "([IIIII)Z"⟩
def dkwX2_denies_3 : List UInt8 := [172]
abbrev dktX2_denies_3 : List UInt8 := dkwX2_denies_3 ++ []
def dkwX2_denies_2 : List UInt8 := [180, 0, 17, 16, 103, 21, 6, 96, 46, 182, 0, 254, 153, 0, 5, 4, 172, 132, 6, 1, 167, 255, 222, 3]
abbrev dktX2_denies_2 : List UInt8 := dkwX2_denies_2 ++ dktX2_denies_3
def dkwX2_denies_1 : List UInt8 := [21, 5, 181, 0, 248, 3, 54, 6, 21, 6, 42, 180, 0, 17, 16, 102, 46, 162, 0, 28, 42, 42]
abbrev dktX2_denies_1 : List UInt8 := dkwX2_denies_1 ++ dktX2_denies_2
def dkwX2_denies_0 : List UInt8 := [42, 28, 181, 0, 236, 42, 29, 181, 0, 239, 42, 21, 4, 181, 0, 242, 42, 43, 3, 46, 181, 0, 245, 42]
abbrev dktX2_denies_0 : List UInt8 := dkwX2_denies_0 ++ dktX2_denies_1
theorem dksX2_denies_0 : cX2_denies.data.toList.drop 0 = dktX2_denies_0 := by decide +kernel
theorem dksX2_denies_1 : cX2_denies.data.toList.drop 24 = dktX2_denies_1 := dk_seg dksX2_denies_0 24 rfl rfl
theorem dksX2_denies_2 : cX2_denies.data.toList.drop 46 = dktX2_denies_2 := dk_seg dksX2_denies_1 22 rfl rfl
theorem dksX2_denies_3 : cX2_denies.data.toList.drop 70 = dktX2_denies_3 := dk_seg dksX2_denies_2 24 rfl rfl
theorem dX2_denies_0 : decode cX2_denies 0 = .ok (.aload_n 0, 1) := dk_42 (dk_at dksX2_denies_0 0 rfl rfl)
theorem dX2_denies_1 : decode cX2_denies 1 = .ok (.iload_n 2, 1) := dk_28 (dk_at dksX2_denies_0 1 rfl rfl)
theorem dX2_denies_2 : decode cX2_denies 2 = .ok (.putfield 236, 3) := dk_181 0 236 (dk_at dksX2_denies_0 2 rfl rfl)
theorem dX2_denies_5 : decode cX2_denies 5 = .ok (.aload_n 0, 1) := dk_42 (dk_at dksX2_denies_0 5 rfl rfl)
theorem dX2_denies_6 : decode cX2_denies 6 = .ok (.iload_n 3, 1) := dk_29 (dk_at dksX2_denies_0 6 rfl rfl)
theorem dX2_denies_7 : decode cX2_denies 7 = .ok (.putfield 239, 3) := dk_181 0 239 (dk_at dksX2_denies_0 7 rfl rfl)
theorem dX2_denies_10 : decode cX2_denies 10 = .ok (.aload_n 0, 1) := dk_42 (dk_at dksX2_denies_0 10 rfl rfl)
theorem dX2_denies_11 : decode cX2_denies 11 = .ok (.iload 4, 2) := dk_21 4 (dk_at dksX2_denies_0 11 rfl rfl)
theorem dX2_denies_13 : decode cX2_denies 13 = .ok (.putfield 242, 3) := dk_181 0 242 (dk_at dksX2_denies_0 13 rfl rfl)
theorem dX2_denies_16 : decode cX2_denies 16 = .ok (.aload_n 0, 1) := dk_42 (dk_at dksX2_denies_0 16 rfl rfl)
theorem dX2_denies_17 : decode cX2_denies 17 = .ok (.aload_n 1, 1) := dk_43 (dk_at dksX2_denies_0 17 rfl rfl)
theorem dX2_denies_18 : decode cX2_denies 18 = .ok (.iconst 0, 1) := dk_3 (dk_at dksX2_denies_0 18 rfl rfl)
theorem dX2_denies_19 : decode cX2_denies 19 = .ok (.iaload, 1) := dk_46 (dk_at dksX2_denies_0 19 rfl rfl)
theorem dX2_denies_20 : decode cX2_denies 20 = .ok (.putfield 245, 3) := dk_181 0 245 (dk_at dksX2_denies_0 20 rfl rfl)
theorem dX2_denies_23 : decode cX2_denies 23 = .ok (.aload_n 0, 1) := dk_42 (dk_at dksX2_denies_0 23 rfl rfl)
theorem dX2_denies_24 : decode cX2_denies 24 = .ok (.iload 5, 2) := dk_21 5 (dk_at dksX2_denies_1 0 rfl rfl)
theorem dX2_denies_26 : decode cX2_denies 26 = .ok (.putfield 248, 3) := dk_181 0 248 (dk_at dksX2_denies_1 2 rfl rfl)
theorem dX2_denies_29 : decode cX2_denies 29 = .ok (.iconst 0, 1) := dk_3 (dk_at dksX2_denies_1 5 rfl rfl)
theorem dX2_denies_30 : decode cX2_denies 30 = .ok (.istore 6, 2) := dk_54 6 (dk_at dksX2_denies_1 6 rfl rfl)
theorem dX2_denies_32 : decode cX2_denies 32 = .ok (.iload 6, 2) := dk_21 6 (dk_at dksX2_denies_1 8 rfl rfl)
theorem dX2_denies_34 : decode cX2_denies 34 = .ok (.aload_n 0, 1) := dk_42 (dk_at dksX2_denies_1 10 rfl rfl)
theorem dX2_denies_35 : decode cX2_denies 35 = .ok (.getfield 17, 3) := dk_180 0 17 (dk_at dksX2_denies_1 11 rfl rfl)
theorem dX2_denies_38 : decode cX2_denies 38 = .ok (.bipush 102, 2) := dk_16 102 (dk_at dksX2_denies_1 14 rfl rfl)
theorem dX2_denies_40 : decode cX2_denies 40 = .ok (.iaload, 1) := dk_46 (dk_at dksX2_denies_1 16 rfl rfl)
theorem dX2_denies_41 : decode cX2_denies 41 = .ok (.if_icmp .ge 28, 3) := dk_162 0 28 (dk_at dksX2_denies_1 17 rfl rfl)
theorem dX2_denies_44 : decode cX2_denies 44 = .ok (.aload_n 0, 1) := dk_42 (dk_at dksX2_denies_1 20 rfl rfl)
theorem dX2_denies_45 : decode cX2_denies 45 = .ok (.aload_n 0, 1) := dk_42 (dk_at dksX2_denies_1 21 rfl rfl)
theorem dX2_denies_46 : decode cX2_denies 46 = .ok (.getfield 17, 3) := dk_180 0 17 (dk_at dksX2_denies_2 0 rfl rfl)
theorem dX2_denies_49 : decode cX2_denies 49 = .ok (.bipush 103, 2) := dk_16 103 (dk_at dksX2_denies_2 3 rfl rfl)
theorem dX2_denies_51 : decode cX2_denies 51 = .ok (.iload 6, 2) := dk_21 6 (dk_at dksX2_denies_2 5 rfl rfl)
theorem dX2_denies_53 : decode cX2_denies 53 = .ok (.iadd, 1) := dk_96 (dk_at dksX2_denies_2 7 rfl rfl)
theorem dX2_denies_54 : decode cX2_denies 54 = .ok (.iaload, 1) := dk_46 (dk_at dksX2_denies_2 8 rfl rfl)
theorem dX2_denies_55 : decode cX2_denies 55 = .ok (.invokevirtual 254, 3) := dk_182 0 254 (dk_at dksX2_denies_2 9 rfl rfl)
theorem dX2_denies_58 : decode cX2_denies 58 = .ok (.ifCond .eq 5, 3) := dk_153 0 5 (dk_at dksX2_denies_2 12 rfl rfl)
theorem dX2_denies_61 : decode cX2_denies 61 = .ok (.iconst 1, 1) := dk_4 (dk_at dksX2_denies_2 15 rfl rfl)
theorem dX2_denies_62 : decode cX2_denies 62 = .ok (.ireturn, 1) := dk_172 (dk_at dksX2_denies_2 16 rfl rfl)
theorem dX2_denies_63 : decode cX2_denies 63 = .ok (.iinc 6 1, 3) := dk_132 6 1 (dk_at dksX2_denies_2 17 rfl rfl)
theorem dX2_denies_66 : decode cX2_denies 66 = .ok (.goto (-34), 3) := dk_167 255 222 (dk_at dksX2_denies_2 20 rfl rfl)
theorem dX2_denies_69 : decode cX2_denies 69 = .ok (.iconst 0, 1) := dk_3 (dk_at dksX2_denies_2 23 rfl rfl)
theorem dX2_denies_70 : decode cX2_denies 70 = .ok (.ireturn, 1) := dk_172 (dk_at dksX2_denies_3 0 rfl rfl)
abbrev cX2_holds : ByteArray := prog_22_method_39_code
def yX2_holds : MethodName := ⟨RX2, "holds", "(I)Z"⟩
def dkwX2_holds_4 : List UInt8 := [46, 182, 0, 254, 153, 0, 7, 4, 167, 0, 4, 3, 62, 167, 255, 187, 29, 172]
abbrev dktX2_holds_4 : List UInt8 := dkwX2_holds_4 ++ []
def dkwX2_holds_3 : List UInt8 := [182, 0, 254, 153, 0, 7, 4, 167, 0, 29, 3, 167, 0, 25, 29, 154, 0, 16, 42, 42, 180, 0, 64, 28]
abbrev dktX2_holds_3 : List UInt8 := dkwX2_holds_3 ++ dktX2_holds_4
def dkwX2_holds_2 : List UInt8 := [28, 46, 61, 42, 180, 0, 58, 28, 46, 154, 0, 28, 29, 153, 0, 20, 42, 42, 180, 0, 64, 28, 46]
abbrev dktX2_holds_2 : List UInt8 := dkwX2_holds_2 ++ dktX2_holds_3
def dkwX2_holds_1 : List UInt8 := [180, 0, 61, 28, 46, 61, 167, 255, 230, 42, 28, 182, 0, 251, 62, 28, 27, 159, 0, 70, 42, 180, 0, 67]
abbrev dktX2_holds_1 : List UInt8 := dkwX2_holds_1 ++ dktX2_holds_2
def dkwX2_holds_0 : List UInt8 := [27, 61, 42, 180, 0, 58, 28, 46, 153, 0, 13, 42, 180, 0, 58, 28, 46, 4, 160, 0, 13, 42]
abbrev dktX2_holds_0 : List UInt8 := dkwX2_holds_0 ++ dktX2_holds_1
theorem dksX2_holds_0 : cX2_holds.data.toList.drop 0 = dktX2_holds_0 := by decide +kernel
theorem dksX2_holds_1 : cX2_holds.data.toList.drop 22 = dktX2_holds_1 := dk_seg dksX2_holds_0 22 rfl rfl
theorem dksX2_holds_2 : cX2_holds.data.toList.drop 46 = dktX2_holds_2 := dk_seg dksX2_holds_1 24 rfl rfl
theorem dksX2_holds_3 : cX2_holds.data.toList.drop 69 = dktX2_holds_3 := dk_seg dksX2_holds_2 23 rfl rfl
theorem dksX2_holds_4 : cX2_holds.data.toList.drop 93 = dktX2_holds_4 := dk_seg dksX2_holds_3 24 rfl rfl
theorem dX2_holds_0 : decode cX2_holds 0 = .ok (.iload_n 1, 1) := dk_27 (dk_at dksX2_holds_0 0 rfl rfl)
theorem dX2_holds_1 : decode cX2_holds 1 = .ok (.istore_n 2, 1) := dk_61 (dk_at dksX2_holds_0 1 rfl rfl)
theorem dX2_holds_2 : decode cX2_holds 2 = .ok (.aload_n 0, 1) := dk_42 (dk_at dksX2_holds_0 2 rfl rfl)
theorem dX2_holds_3 : decode cX2_holds 3 = .ok (.getfield 58, 3) := dk_180 0 58 (dk_at dksX2_holds_0 3 rfl rfl)
theorem dX2_holds_6 : decode cX2_holds 6 = .ok (.iload_n 2, 1) := dk_28 (dk_at dksX2_holds_0 6 rfl rfl)
theorem dX2_holds_7 : decode cX2_holds 7 = .ok (.iaload, 1) := dk_46 (dk_at dksX2_holds_0 7 rfl rfl)
theorem dX2_holds_8 : decode cX2_holds 8 = .ok (.ifCond .eq 13, 3) := dk_153 0 13 (dk_at dksX2_holds_0 8 rfl rfl)
theorem dX2_holds_11 : decode cX2_holds 11 = .ok (.aload_n 0, 1) := dk_42 (dk_at dksX2_holds_0 11 rfl rfl)
theorem dX2_holds_12 : decode cX2_holds 12 = .ok (.getfield 58, 3) := dk_180 0 58 (dk_at dksX2_holds_0 12 rfl rfl)
theorem dX2_holds_15 : decode cX2_holds 15 = .ok (.iload_n 2, 1) := dk_28 (dk_at dksX2_holds_0 15 rfl rfl)
theorem dX2_holds_16 : decode cX2_holds 16 = .ok (.iaload, 1) := dk_46 (dk_at dksX2_holds_0 16 rfl rfl)
theorem dX2_holds_17 : decode cX2_holds 17 = .ok (.iconst 1, 1) := dk_4 (dk_at dksX2_holds_0 17 rfl rfl)
theorem dX2_holds_18 : decode cX2_holds 18 = .ok (.if_icmp .ne 13, 3) := dk_160 0 13 (dk_at dksX2_holds_0 18 rfl rfl)
theorem dX2_holds_21 : decode cX2_holds 21 = .ok (.aload_n 0, 1) := dk_42 (dk_at dksX2_holds_0 21 rfl rfl)
theorem dX2_holds_22 : decode cX2_holds 22 = .ok (.getfield 61, 3) := dk_180 0 61 (dk_at dksX2_holds_1 0 rfl rfl)
theorem dX2_holds_25 : decode cX2_holds 25 = .ok (.iload_n 2, 1) := dk_28 (dk_at dksX2_holds_1 3 rfl rfl)
theorem dX2_holds_26 : decode cX2_holds 26 = .ok (.iaload, 1) := dk_46 (dk_at dksX2_holds_1 4 rfl rfl)
theorem dX2_holds_27 : decode cX2_holds 27 = .ok (.istore_n 2, 1) := dk_61 (dk_at dksX2_holds_1 5 rfl rfl)
theorem dX2_holds_28 : decode cX2_holds 28 = .ok (.goto (-26), 3) := dk_167 255 230 (dk_at dksX2_holds_1 6 rfl rfl)
theorem dX2_holds_31 : decode cX2_holds 31 = .ok (.aload_n 0, 1) := dk_42 (dk_at dksX2_holds_1 9 rfl rfl)
theorem dX2_holds_32 : decode cX2_holds 32 = .ok (.iload_n 2, 1) := dk_28 (dk_at dksX2_holds_1 10 rfl rfl)
theorem dX2_holds_33 : decode cX2_holds 33 = .ok (.invokevirtual 251, 3) := dk_182 0 251 (dk_at dksX2_holds_1 11 rfl rfl)
theorem dX2_holds_36 : decode cX2_holds 36 = .ok (.istore_n 3, 1) := dk_62 (dk_at dksX2_holds_1 14 rfl rfl)
theorem dX2_holds_37 : decode cX2_holds 37 = .ok (.iload_n 2, 1) := dk_28 (dk_at dksX2_holds_1 15 rfl rfl)
theorem dX2_holds_38 : decode cX2_holds 38 = .ok (.iload_n 1, 1) := dk_27 (dk_at dksX2_holds_1 16 rfl rfl)
theorem dX2_holds_39 : decode cX2_holds 39 = .ok (.if_icmp .eq 70, 3) := dk_159 0 70 (dk_at dksX2_holds_1 17 rfl rfl)
theorem dX2_holds_42 : decode cX2_holds 42 = .ok (.aload_n 0, 1) := dk_42 (dk_at dksX2_holds_1 20 rfl rfl)
theorem dX2_holds_43 : decode cX2_holds 43 = .ok (.getfield 67, 3) := dk_180 0 67 (dk_at dksX2_holds_1 21 rfl rfl)
theorem dX2_holds_46 : decode cX2_holds 46 = .ok (.iload_n 2, 1) := dk_28 (dk_at dksX2_holds_2 0 rfl rfl)
theorem dX2_holds_47 : decode cX2_holds 47 = .ok (.iaload, 1) := dk_46 (dk_at dksX2_holds_2 1 rfl rfl)
theorem dX2_holds_48 : decode cX2_holds 48 = .ok (.istore_n 2, 1) := dk_61 (dk_at dksX2_holds_2 2 rfl rfl)
theorem dX2_holds_49 : decode cX2_holds 49 = .ok (.aload_n 0, 1) := dk_42 (dk_at dksX2_holds_2 3 rfl rfl)
theorem dX2_holds_50 : decode cX2_holds 50 = .ok (.getfield 58, 3) := dk_180 0 58 (dk_at dksX2_holds_2 4 rfl rfl)
theorem dX2_holds_53 : decode cX2_holds 53 = .ok (.iload_n 2, 1) := dk_28 (dk_at dksX2_holds_2 7 rfl rfl)
theorem dX2_holds_54 : decode cX2_holds 54 = .ok (.iaload, 1) := dk_46 (dk_at dksX2_holds_2 8 rfl rfl)
theorem dX2_holds_55 : decode cX2_holds 55 = .ok (.ifCond .ne 28, 3) := dk_154 0 28 (dk_at dksX2_holds_2 9 rfl rfl)
theorem dX2_holds_58 : decode cX2_holds 58 = .ok (.iload_n 3, 1) := dk_29 (dk_at dksX2_holds_2 12 rfl rfl)
theorem dX2_holds_59 : decode cX2_holds 59 = .ok (.ifCond .eq 20, 3) := dk_153 0 20 (dk_at dksX2_holds_2 13 rfl rfl)
theorem dX2_holds_62 : decode cX2_holds 62 = .ok (.aload_n 0, 1) := dk_42 (dk_at dksX2_holds_2 16 rfl rfl)
theorem dX2_holds_63 : decode cX2_holds 63 = .ok (.aload_n 0, 1) := dk_42 (dk_at dksX2_holds_2 17 rfl rfl)
theorem dX2_holds_64 : decode cX2_holds 64 = .ok (.getfield 64, 3) := dk_180 0 64 (dk_at dksX2_holds_2 18 rfl rfl)
theorem dX2_holds_67 : decode cX2_holds 67 = .ok (.iload_n 2, 1) := dk_28 (dk_at dksX2_holds_2 21 rfl rfl)
theorem dX2_holds_68 : decode cX2_holds 68 = .ok (.iaload, 1) := dk_46 (dk_at dksX2_holds_2 22 rfl rfl)
theorem dX2_holds_69 : decode cX2_holds 69 = .ok (.invokevirtual 254, 3) := dk_182 0 254 (dk_at dksX2_holds_3 0 rfl rfl)
theorem dX2_holds_72 : decode cX2_holds 72 = .ok (.ifCond .eq 7, 3) := dk_153 0 7 (dk_at dksX2_holds_3 3 rfl rfl)
theorem dX2_holds_75 : decode cX2_holds 75 = .ok (.iconst 1, 1) := dk_4 (dk_at dksX2_holds_3 6 rfl rfl)
theorem dX2_holds_76 : decode cX2_holds 76 = .ok (.goto 29, 3) := dk_167 0 29 (dk_at dksX2_holds_3 7 rfl rfl)
theorem dX2_holds_79 : decode cX2_holds 79 = .ok (.iconst 0, 1) := dk_3 (dk_at dksX2_holds_3 10 rfl rfl)
theorem dX2_holds_80 : decode cX2_holds 80 = .ok (.goto 25, 3) := dk_167 0 25 (dk_at dksX2_holds_3 11 rfl rfl)
theorem dX2_holds_83 : decode cX2_holds 83 = .ok (.iload_n 3, 1) := dk_29 (dk_at dksX2_holds_3 14 rfl rfl)
theorem dX2_holds_84 : decode cX2_holds 84 = .ok (.ifCond .ne 16, 3) := dk_154 0 16 (dk_at dksX2_holds_3 15 rfl rfl)
theorem dX2_holds_87 : decode cX2_holds 87 = .ok (.aload_n 0, 1) := dk_42 (dk_at dksX2_holds_3 18 rfl rfl)
theorem dX2_holds_88 : decode cX2_holds 88 = .ok (.aload_n 0, 1) := dk_42 (dk_at dksX2_holds_3 19 rfl rfl)
theorem dX2_holds_89 : decode cX2_holds 89 = .ok (.getfield 64, 3) := dk_180 0 64 (dk_at dksX2_holds_3 20 rfl rfl)
theorem dX2_holds_92 : decode cX2_holds 92 = .ok (.iload_n 2, 1) := dk_28 (dk_at dksX2_holds_3 23 rfl rfl)
theorem dX2_holds_93 : decode cX2_holds 93 = .ok (.iaload, 1) := dk_46 (dk_at dksX2_holds_4 0 rfl rfl)
theorem dX2_holds_94 : decode cX2_holds 94 = .ok (.invokevirtual 254, 3) := dk_182 0 254 (dk_at dksX2_holds_4 1 rfl rfl)
theorem dX2_holds_97 : decode cX2_holds 97 = .ok (.ifCond .eq 7, 3) := dk_153 0 7 (dk_at dksX2_holds_4 4 rfl rfl)
theorem dX2_holds_100 : decode cX2_holds 100 = .ok (.iconst 1, 1) := dk_4 (dk_at dksX2_holds_4 7 rfl rfl)
theorem dX2_holds_101 : decode cX2_holds 101 = .ok (.goto 4, 3) := dk_167 0 4 (dk_at dksX2_holds_4 8 rfl rfl)
theorem dX2_holds_104 : decode cX2_holds 104 = .ok (.iconst 0, 1) := dk_3 (dk_at dksX2_holds_4 11 rfl rfl)
theorem dX2_holds_105 : decode cX2_holds 105 = .ok (.istore_n 3, 1) := dk_62 (dk_at dksX2_holds_4 12 rfl rfl)
theorem dX2_holds_106 : decode cX2_holds 106 = .ok (.goto (-69), 3) := dk_167 255 187 (dk_at dksX2_holds_4 13 rfl rfl)
theorem dX2_holds_109 : decode cX2_holds 109 = .ok (.iload_n 3, 1) := dk_29 (dk_at dksX2_holds_4 16 rfl rfl)
theorem dX2_holds_110 : decode cX2_holds 110 = .ok (.ireturn, 1) := dk_172 (dk_at dksX2_holds_4 17 rfl rfl)
abbrev cX2_holdsOne : ByteArray := prog_22_method_40_code
def yX2_holdsOne : MethodName := ⟨RX2, "holdsOne", "(I)Z"⟩
def dkwX2_holdsOne_5 : List UInt8 := [42, 180, 0, 61, 27, 46, 182, 1, 1, 42, 180, 0, 64, 27, 46, 160, 0, 7, 4, 167, 0, 4, 3, 172]
abbrev dktX2_holdsOne_5 : List UInt8 := dkwX2_holdsOne_5 ++ []
def dkwX2_holdsOne_4 : List UInt8 := [180, 0, 61, 27, 46, 182, 1, 1, 42, 180, 0, 64, 27, 46, 164, 0, 7, 4, 167, 0, 4, 3, 172, 42]
abbrev dktX2_holdsOne_4 : List UInt8 := dkwX2_holdsOne_4 ++ dktX2_holdsOne_5
def dkwX2_holdsOne_3 : List UInt8 := [27, 46, 182, 1, 1, 42, 180, 0, 64, 27, 46, 162, 0, 7, 4, 167, 0, 4, 3, 172, 42, 42]
abbrev dktX2_holdsOne_3 : List UInt8 := dkwX2_holdsOne_3 ++ dktX2_holdsOne_4
def dkwX2_holdsOne_2 : List UInt8 := [42, 42, 180, 0, 61, 27, 46, 182, 0, 254, 154, 0, 7, 4, 167, 0, 4, 3, 172, 42, 42, 180, 0, 61]
abbrev dktX2_holdsOne_2 : List UInt8 := dkwX2_holdsOne_2 ++ dktX2_holdsOne_3
def dkwX2_holdsOne_1 : List UInt8 := [170, 0, 0, 0, 0, 95, 0, 0, 0, 2, 0, 0, 0, 4, 0, 0, 0, 26, 0, 0, 0, 45, 0, 0, 0, 70]
abbrev dktX2_holdsOne_1 : List UInt8 := dkwX2_holdsOne_1 ++ dktX2_holdsOne_2
def dkwX2_holdsOne_0 : List UInt8 := [42, 180, 0, 58, 27, 46]
abbrev dktX2_holdsOne_0 : List UInt8 := dkwX2_holdsOne_0 ++ dktX2_holdsOne_1
theorem dksX2_holdsOne_0 : cX2_holdsOne.data.toList.drop 0 = dktX2_holdsOne_0 := by decide +kernel
theorem dksX2_holdsOne_1 : cX2_holdsOne.data.toList.drop 6 = dktX2_holdsOne_1 := dk_seg dksX2_holdsOne_0 6 rfl rfl
theorem dksX2_holdsOne_2 : cX2_holdsOne.data.toList.drop 32 = dktX2_holdsOne_2 := dk_seg dksX2_holdsOne_1 26 rfl rfl
theorem dksX2_holdsOne_3 : cX2_holdsOne.data.toList.drop 56 = dktX2_holdsOne_3 := dk_seg dksX2_holdsOne_2 24 rfl rfl
theorem dksX2_holdsOne_4 : cX2_holdsOne.data.toList.drop 78 = dktX2_holdsOne_4 := dk_seg dksX2_holdsOne_3 22 rfl rfl
theorem dksX2_holdsOne_5 : cX2_holdsOne.data.toList.drop 102 = dktX2_holdsOne_5 := dk_seg dksX2_holdsOne_4 24 rfl rfl
theorem dX2_holdsOne_0 : decode cX2_holdsOne 0 = .ok (.aload_n 0, 1) := dk_42 (dk_at dksX2_holdsOne_0 0 rfl rfl)
theorem dX2_holdsOne_1 : decode cX2_holdsOne 1 = .ok (.getfield 58, 3) := dk_180 0 58 (dk_at dksX2_holdsOne_0 1 rfl rfl)
theorem dX2_holdsOne_4 : decode cX2_holdsOne 4 = .ok (.iload_n 1, 1) := dk_27 (dk_at dksX2_holdsOne_0 4 rfl rfl)
theorem dX2_holdsOne_5 : decode cX2_holdsOne 5 = .ok (.iaload, 1) := dk_46 (dk_at dksX2_holdsOne_0 5 rfl rfl)
theorem dX2_holdsOne_6 : decode cX2_holdsOne 6 = .ok (.tableswitch 95 2 4 #[26, 45, 70], 26) := by decide +kernel
theorem dX2_holdsOne_32 : decode cX2_holdsOne 32 = .ok (.aload_n 0, 1) := dk_42 (dk_at dksX2_holdsOne_2 0 rfl rfl)
theorem dX2_holdsOne_33 : decode cX2_holdsOne 33 = .ok (.aload_n 0, 1) := dk_42 (dk_at dksX2_holdsOne_2 1 rfl rfl)
theorem dX2_holdsOne_34 : decode cX2_holdsOne 34 = .ok (.getfield 61, 3) := dk_180 0 61 (dk_at dksX2_holdsOne_2 2 rfl rfl)
theorem dX2_holdsOne_37 : decode cX2_holdsOne 37 = .ok (.iload_n 1, 1) := dk_27 (dk_at dksX2_holdsOne_2 5 rfl rfl)
theorem dX2_holdsOne_38 : decode cX2_holdsOne 38 = .ok (.iaload, 1) := dk_46 (dk_at dksX2_holdsOne_2 6 rfl rfl)
theorem dX2_holdsOne_39 : decode cX2_holdsOne 39 = .ok (.invokevirtual 254, 3) := dk_182 0 254 (dk_at dksX2_holdsOne_2 7 rfl rfl)
theorem dX2_holdsOne_42 : decode cX2_holdsOne 42 = .ok (.ifCond .ne 7, 3) := dk_154 0 7 (dk_at dksX2_holdsOne_2 10 rfl rfl)
theorem dX2_holdsOne_45 : decode cX2_holdsOne 45 = .ok (.iconst 1, 1) := dk_4 (dk_at dksX2_holdsOne_2 13 rfl rfl)
theorem dX2_holdsOne_46 : decode cX2_holdsOne 46 = .ok (.goto 4, 3) := dk_167 0 4 (dk_at dksX2_holdsOne_2 14 rfl rfl)
theorem dX2_holdsOne_49 : decode cX2_holdsOne 49 = .ok (.iconst 0, 1) := dk_3 (dk_at dksX2_holdsOne_2 17 rfl rfl)
theorem dX2_holdsOne_50 : decode cX2_holdsOne 50 = .ok (.ireturn, 1) := dk_172 (dk_at dksX2_holdsOne_2 18 rfl rfl)
theorem dX2_holdsOne_51 : decode cX2_holdsOne 51 = .ok (.aload_n 0, 1) := dk_42 (dk_at dksX2_holdsOne_2 19 rfl rfl)
theorem dX2_holdsOne_52 : decode cX2_holdsOne 52 = .ok (.aload_n 0, 1) := dk_42 (dk_at dksX2_holdsOne_2 20 rfl rfl)
theorem dX2_holdsOne_53 : decode cX2_holdsOne 53 = .ok (.getfield 61, 3) := dk_180 0 61 (dk_at dksX2_holdsOne_2 21 rfl rfl)
theorem dX2_holdsOne_56 : decode cX2_holdsOne 56 = .ok (.iload_n 1, 1) := dk_27 (dk_at dksX2_holdsOne_3 0 rfl rfl)
theorem dX2_holdsOne_57 : decode cX2_holdsOne 57 = .ok (.iaload, 1) := dk_46 (dk_at dksX2_holdsOne_3 1 rfl rfl)
theorem dX2_holdsOne_58 : decode cX2_holdsOne 58 = .ok (.invokevirtual 257, 3) := dk_182 1 1 (dk_at dksX2_holdsOne_3 2 rfl rfl)
theorem dX2_holdsOne_61 : decode cX2_holdsOne 61 = .ok (.aload_n 0, 1) := dk_42 (dk_at dksX2_holdsOne_3 5 rfl rfl)
theorem dX2_holdsOne_62 : decode cX2_holdsOne 62 = .ok (.getfield 64, 3) := dk_180 0 64 (dk_at dksX2_holdsOne_3 6 rfl rfl)
theorem dX2_holdsOne_65 : decode cX2_holdsOne 65 = .ok (.iload_n 1, 1) := dk_27 (dk_at dksX2_holdsOne_3 9 rfl rfl)
theorem dX2_holdsOne_66 : decode cX2_holdsOne 66 = .ok (.iaload, 1) := dk_46 (dk_at dksX2_holdsOne_3 10 rfl rfl)
theorem dX2_holdsOne_67 : decode cX2_holdsOne 67 = .ok (.if_icmp .ge 7, 3) := dk_162 0 7 (dk_at dksX2_holdsOne_3 11 rfl rfl)
theorem dX2_holdsOne_70 : decode cX2_holdsOne 70 = .ok (.iconst 1, 1) := dk_4 (dk_at dksX2_holdsOne_3 14 rfl rfl)
theorem dX2_holdsOne_71 : decode cX2_holdsOne 71 = .ok (.goto 4, 3) := dk_167 0 4 (dk_at dksX2_holdsOne_3 15 rfl rfl)
theorem dX2_holdsOne_74 : decode cX2_holdsOne 74 = .ok (.iconst 0, 1) := dk_3 (dk_at dksX2_holdsOne_3 18 rfl rfl)
theorem dX2_holdsOne_75 : decode cX2_holdsOne 75 = .ok (.ireturn, 1) := dk_172 (dk_at dksX2_holdsOne_3 19 rfl rfl)
theorem dX2_holdsOne_76 : decode cX2_holdsOne 76 = .ok (.aload_n 0, 1) := dk_42 (dk_at dksX2_holdsOne_3 20 rfl rfl)
theorem dX2_holdsOne_77 : decode cX2_holdsOne 77 = .ok (.aload_n 0, 1) := dk_42 (dk_at dksX2_holdsOne_3 21 rfl rfl)
theorem dX2_holdsOne_78 : decode cX2_holdsOne 78 = .ok (.getfield 61, 3) := dk_180 0 61 (dk_at dksX2_holdsOne_4 0 rfl rfl)
theorem dX2_holdsOne_81 : decode cX2_holdsOne 81 = .ok (.iload_n 1, 1) := dk_27 (dk_at dksX2_holdsOne_4 3 rfl rfl)
theorem dX2_holdsOne_82 : decode cX2_holdsOne 82 = .ok (.iaload, 1) := dk_46 (dk_at dksX2_holdsOne_4 4 rfl rfl)
theorem dX2_holdsOne_83 : decode cX2_holdsOne 83 = .ok (.invokevirtual 257, 3) := dk_182 1 1 (dk_at dksX2_holdsOne_4 5 rfl rfl)
theorem dX2_holdsOne_86 : decode cX2_holdsOne 86 = .ok (.aload_n 0, 1) := dk_42 (dk_at dksX2_holdsOne_4 8 rfl rfl)
theorem dX2_holdsOne_87 : decode cX2_holdsOne 87 = .ok (.getfield 64, 3) := dk_180 0 64 (dk_at dksX2_holdsOne_4 9 rfl rfl)
theorem dX2_holdsOne_90 : decode cX2_holdsOne 90 = .ok (.iload_n 1, 1) := dk_27 (dk_at dksX2_holdsOne_4 12 rfl rfl)
theorem dX2_holdsOne_91 : decode cX2_holdsOne 91 = .ok (.iaload, 1) := dk_46 (dk_at dksX2_holdsOne_4 13 rfl rfl)
theorem dX2_holdsOne_92 : decode cX2_holdsOne 92 = .ok (.if_icmp .le 7, 3) := dk_164 0 7 (dk_at dksX2_holdsOne_4 14 rfl rfl)
theorem dX2_holdsOne_95 : decode cX2_holdsOne 95 = .ok (.iconst 1, 1) := dk_4 (dk_at dksX2_holdsOne_4 17 rfl rfl)
theorem dX2_holdsOne_96 : decode cX2_holdsOne 96 = .ok (.goto 4, 3) := dk_167 0 4 (dk_at dksX2_holdsOne_4 18 rfl rfl)
theorem dX2_holdsOne_99 : decode cX2_holdsOne 99 = .ok (.iconst 0, 1) := dk_3 (dk_at dksX2_holdsOne_4 21 rfl rfl)
theorem dX2_holdsOne_100 : decode cX2_holdsOne 100 = .ok (.ireturn, 1) := dk_172 (dk_at dksX2_holdsOne_4 22 rfl rfl)
theorem dX2_holdsOne_101 : decode cX2_holdsOne 101 = .ok (.aload_n 0, 1) := dk_42 (dk_at dksX2_holdsOne_4 23 rfl rfl)
theorem dX2_holdsOne_102 : decode cX2_holdsOne 102 = .ok (.aload_n 0, 1) := dk_42 (dk_at dksX2_holdsOne_5 0 rfl rfl)
theorem dX2_holdsOne_103 : decode cX2_holdsOne 103 = .ok (.getfield 61, 3) := dk_180 0 61 (dk_at dksX2_holdsOne_5 1 rfl rfl)
theorem dX2_holdsOne_106 : decode cX2_holdsOne 106 = .ok (.iload_n 1, 1) := dk_27 (dk_at dksX2_holdsOne_5 4 rfl rfl)
theorem dX2_holdsOne_107 : decode cX2_holdsOne 107 = .ok (.iaload, 1) := dk_46 (dk_at dksX2_holdsOne_5 5 rfl rfl)
theorem dX2_holdsOne_108 : decode cX2_holdsOne 108 = .ok (.invokevirtual 257, 3) := dk_182 1 1 (dk_at dksX2_holdsOne_5 6 rfl rfl)
theorem dX2_holdsOne_111 : decode cX2_holdsOne 111 = .ok (.aload_n 0, 1) := dk_42 (dk_at dksX2_holdsOne_5 9 rfl rfl)
theorem dX2_holdsOne_112 : decode cX2_holdsOne 112 = .ok (.getfield 64, 3) := dk_180 0 64 (dk_at dksX2_holdsOne_5 10 rfl rfl)
theorem dX2_holdsOne_115 : decode cX2_holdsOne 115 = .ok (.iload_n 1, 1) := dk_27 (dk_at dksX2_holdsOne_5 13 rfl rfl)
theorem dX2_holdsOne_116 : decode cX2_holdsOne 116 = .ok (.iaload, 1) := dk_46 (dk_at dksX2_holdsOne_5 14 rfl rfl)
theorem dX2_holdsOne_117 : decode cX2_holdsOne 117 = .ok (.if_icmp .ne 7, 3) := dk_160 0 7 (dk_at dksX2_holdsOne_5 15 rfl rfl)
theorem dX2_holdsOne_120 : decode cX2_holdsOne 120 = .ok (.iconst 1, 1) := dk_4 (dk_at dksX2_holdsOne_5 18 rfl rfl)
theorem dX2_holdsOne_121 : decode cX2_holdsOne 121 = .ok (.goto 4, 3) := dk_167 0 4 (dk_at dksX2_holdsOne_5 19 rfl rfl)
theorem dX2_holdsOne_124 : decode cX2_holdsOne 124 = .ok (.iconst 0, 1) := dk_3 (dk_at dksX2_holdsOne_5 22 rfl rfl)
theorem dX2_holdsOne_125 : decode cX2_holdsOne 125 = .ok (.ireturn, 1) := dk_172 (dk_at dksX2_holdsOne_5 23 rfl rfl)
abbrev cX2_asked : ByteArray := prog_22_method_38_code
def yX2_asked : MethodName := ⟨RX2, "asked", "(I)I"⟩
def dkwX2_asked_3 : List UInt8 := [172]
abbrev dktX2_asked_3 : List UInt8 := dkwX2_asked_3 ++ []
def dkwX2_asked_2 : List UInt8 := [42, 180, 0, 236, 172, 42, 180, 0, 239, 172, 42, 180, 0, 242, 172, 42, 180, 0, 245, 172, 42, 180, 0, 248]
abbrev dktX2_asked_2 : List UInt8 := dkwX2_asked_2 ++ dktX2_asked_3
def dkwX2_asked_1 : List UInt8 := [170, 0, 0, 0, 0, 0, 51, 0, 0, 0, 0, 0, 0, 0, 3, 0, 0, 0, 31, 0, 0, 0, 36, 0, 0, 0, 41, 0, 0, 0, 46]
abbrev dktX2_asked_1 : List UInt8 := dkwX2_asked_1 ++ dktX2_asked_2
def dkwX2_asked_0 : List UInt8 := [27]
abbrev dktX2_asked_0 : List UInt8 := dkwX2_asked_0 ++ dktX2_asked_1
theorem dksX2_asked_0 : cX2_asked.data.toList.drop 0 = dktX2_asked_0 := by decide +kernel
theorem dksX2_asked_1 : cX2_asked.data.toList.drop 1 = dktX2_asked_1 := dk_seg dksX2_asked_0 1 rfl rfl
theorem dksX2_asked_2 : cX2_asked.data.toList.drop 32 = dktX2_asked_2 := dk_seg dksX2_asked_1 31 rfl rfl
theorem dksX2_asked_3 : cX2_asked.data.toList.drop 56 = dktX2_asked_3 := dk_seg dksX2_asked_2 24 rfl rfl
theorem dX2_asked_0 : decode cX2_asked 0 = .ok (.iload_n 1, 1) := dk_27 (dk_at dksX2_asked_0 0 rfl rfl)
theorem dX2_asked_1 : decode cX2_asked 1 = .ok (.tableswitch 51 0 3 #[31, 36, 41, 46], 31) := by decide +kernel
theorem dX2_asked_32 : decode cX2_asked 32 = .ok (.aload_n 0, 1) := dk_42 (dk_at dksX2_asked_2 0 rfl rfl)
theorem dX2_asked_33 : decode cX2_asked 33 = .ok (.getfield 236, 3) := dk_180 0 236 (dk_at dksX2_asked_2 1 rfl rfl)
theorem dX2_asked_36 : decode cX2_asked 36 = .ok (.ireturn, 1) := dk_172 (dk_at dksX2_asked_2 4 rfl rfl)
theorem dX2_asked_37 : decode cX2_asked 37 = .ok (.aload_n 0, 1) := dk_42 (dk_at dksX2_asked_2 5 rfl rfl)
theorem dX2_asked_38 : decode cX2_asked 38 = .ok (.getfield 239, 3) := dk_180 0 239 (dk_at dksX2_asked_2 6 rfl rfl)
theorem dX2_asked_41 : decode cX2_asked 41 = .ok (.ireturn, 1) := dk_172 (dk_at dksX2_asked_2 9 rfl rfl)
theorem dX2_asked_42 : decode cX2_asked 42 = .ok (.aload_n 0, 1) := dk_42 (dk_at dksX2_asked_2 10 rfl rfl)
theorem dX2_asked_43 : decode cX2_asked 43 = .ok (.getfield 242, 3) := dk_180 0 242 (dk_at dksX2_asked_2 11 rfl rfl)
theorem dX2_asked_46 : decode cX2_asked 46 = .ok (.ireturn, 1) := dk_172 (dk_at dksX2_asked_2 14 rfl rfl)
theorem dX2_asked_47 : decode cX2_asked 47 = .ok (.aload_n 0, 1) := dk_42 (dk_at dksX2_asked_2 15 rfl rfl)
theorem dX2_asked_48 : decode cX2_asked 48 = .ok (.getfield 245, 3) := dk_180 0 245 (dk_at dksX2_asked_2 16 rfl rfl)
theorem dX2_asked_51 : decode cX2_asked 51 = .ok (.ireturn, 1) := dk_172 (dk_at dksX2_asked_2 19 rfl rfl)
theorem dX2_asked_52 : decode cX2_asked 52 = .ok (.aload_n 0, 1) := dk_42 (dk_at dksX2_asked_2 20 rfl rfl)
theorem dX2_asked_53 : decode cX2_asked 53 = .ok (.getfield 248, 3) := dk_180 0 248 (dk_at dksX2_asked_2 21 rfl rfl)
theorem dX2_asked_56 : decode cX2_asked 56 = .ok (.ireturn, 1) := dk_172 (dk_at dksX2_asked_3 0 rfl rfl)
abbrev cX2_quietest : ByteArray := prog_22_method_111_code
def yX2_quietest : MethodName := ⟨RX2, "quietest", "(II)I"⟩
def dkwX2_quietest_2 : List UInt8 := [180, 0, 23, 27, 28, 29, 3, 182, 1, 117, 162, 0, 6, 21, 4, 62, 132, 4, 1, 167, 255, 211, 29, 172]
abbrev dktX2_quietest_2 : List UInt8 := dkwX2_quietest_2 ++ []
def dkwX2_quietest_1 : List UInt8 := [180, 0, 17, 5, 46, 162, 0, 40, 42, 42, 180, 0, 23, 27, 28, 21, 4, 3, 182, 1, 117, 42, 42]
abbrev dktX2_quietest_1 : List UInt8 := dkwX2_quietest_1 ++ dktX2_quietest_2
def dkwX2_quietest_0 : List UInt8 := [42, 42, 27, 28, 182, 1, 215, 182, 1, 205, 154, 0, 5, 3, 172, 3, 62, 4, 54, 4, 21, 4, 42]
abbrev dktX2_quietest_0 : List UInt8 := dkwX2_quietest_0 ++ dktX2_quietest_1
theorem dksX2_quietest_0 : cX2_quietest.data.toList.drop 0 = dktX2_quietest_0 := by decide +kernel
theorem dksX2_quietest_1 : cX2_quietest.data.toList.drop 23 = dktX2_quietest_1 := dk_seg dksX2_quietest_0 23 rfl rfl
theorem dksX2_quietest_2 : cX2_quietest.data.toList.drop 46 = dktX2_quietest_2 := dk_seg dksX2_quietest_1 23 rfl rfl
theorem dX2_quietest_0 : decode cX2_quietest 0 = .ok (.aload_n 0, 1) := dk_42 (dk_at dksX2_quietest_0 0 rfl rfl)
theorem dX2_quietest_1 : decode cX2_quietest 1 = .ok (.aload_n 0, 1) := dk_42 (dk_at dksX2_quietest_0 1 rfl rfl)
theorem dX2_quietest_2 : decode cX2_quietest 2 = .ok (.iload_n 1, 1) := dk_27 (dk_at dksX2_quietest_0 2 rfl rfl)
theorem dX2_quietest_3 : decode cX2_quietest 3 = .ok (.iload_n 2, 1) := dk_28 (dk_at dksX2_quietest_0 3 rfl rfl)
theorem dX2_quietest_4 : decode cX2_quietest 4 = .ok (.invokevirtual 471, 3) := dk_182 1 215 (dk_at dksX2_quietest_0 4 rfl rfl)
theorem dX2_quietest_7 : decode cX2_quietest 7 = .ok (.invokevirtual 461, 3) := dk_182 1 205 (dk_at dksX2_quietest_0 7 rfl rfl)
theorem dX2_quietest_10 : decode cX2_quietest 10 = .ok (.ifCond .ne 5, 3) := dk_154 0 5 (dk_at dksX2_quietest_0 10 rfl rfl)
theorem dX2_quietest_13 : decode cX2_quietest 13 = .ok (.iconst 0, 1) := dk_3 (dk_at dksX2_quietest_0 13 rfl rfl)
theorem dX2_quietest_14 : decode cX2_quietest 14 = .ok (.ireturn, 1) := dk_172 (dk_at dksX2_quietest_0 14 rfl rfl)
theorem dX2_quietest_15 : decode cX2_quietest 15 = .ok (.iconst 0, 1) := dk_3 (dk_at dksX2_quietest_0 15 rfl rfl)
theorem dX2_quietest_16 : decode cX2_quietest 16 = .ok (.istore_n 3, 1) := dk_62 (dk_at dksX2_quietest_0 16 rfl rfl)
theorem dX2_quietest_17 : decode cX2_quietest 17 = .ok (.iconst 1, 1) := dk_4 (dk_at dksX2_quietest_0 17 rfl rfl)
theorem dX2_quietest_18 : decode cX2_quietest 18 = .ok (.istore 4, 2) := dk_54 4 (dk_at dksX2_quietest_0 18 rfl rfl)
theorem dX2_quietest_20 : decode cX2_quietest 20 = .ok (.iload 4, 2) := dk_21 4 (dk_at dksX2_quietest_0 20 rfl rfl)
theorem dX2_quietest_22 : decode cX2_quietest 22 = .ok (.aload_n 0, 1) := dk_42 (dk_at dksX2_quietest_0 22 rfl rfl)
theorem dX2_quietest_23 : decode cX2_quietest 23 = .ok (.getfield 17, 3) := dk_180 0 17 (dk_at dksX2_quietest_1 0 rfl rfl)
theorem dX2_quietest_26 : decode cX2_quietest 26 = .ok (.iconst 2, 1) := dk_5 (dk_at dksX2_quietest_1 3 rfl rfl)
theorem dX2_quietest_27 : decode cX2_quietest 27 = .ok (.iaload, 1) := dk_46 (dk_at dksX2_quietest_1 4 rfl rfl)
theorem dX2_quietest_28 : decode cX2_quietest 28 = .ok (.if_icmp .ge 40, 3) := dk_162 0 40 (dk_at dksX2_quietest_1 5 rfl rfl)
theorem dX2_quietest_31 : decode cX2_quietest 31 = .ok (.aload_n 0, 1) := dk_42 (dk_at dksX2_quietest_1 8 rfl rfl)
theorem dX2_quietest_32 : decode cX2_quietest 32 = .ok (.aload_n 0, 1) := dk_42 (dk_at dksX2_quietest_1 9 rfl rfl)
theorem dX2_quietest_33 : decode cX2_quietest 33 = .ok (.getfield 23, 3) := dk_180 0 23 (dk_at dksX2_quietest_1 10 rfl rfl)
theorem dX2_quietest_36 : decode cX2_quietest 36 = .ok (.iload_n 1, 1) := dk_27 (dk_at dksX2_quietest_1 13 rfl rfl)
theorem dX2_quietest_37 : decode cX2_quietest 37 = .ok (.iload_n 2, 1) := dk_28 (dk_at dksX2_quietest_1 14 rfl rfl)
theorem dX2_quietest_38 : decode cX2_quietest 38 = .ok (.iload 4, 2) := dk_21 4 (dk_at dksX2_quietest_1 15 rfl rfl)
theorem dX2_quietest_40 : decode cX2_quietest 40 = .ok (.iconst 0, 1) := dk_3 (dk_at dksX2_quietest_1 17 rfl rfl)
theorem dX2_quietest_41 : decode cX2_quietest 41 = .ok (.invokevirtual 373, 3) := dk_182 1 117 (dk_at dksX2_quietest_1 18 rfl rfl)
theorem dX2_quietest_44 : decode cX2_quietest 44 = .ok (.aload_n 0, 1) := dk_42 (dk_at dksX2_quietest_1 21 rfl rfl)
theorem dX2_quietest_45 : decode cX2_quietest 45 = .ok (.aload_n 0, 1) := dk_42 (dk_at dksX2_quietest_1 22 rfl rfl)
theorem dX2_quietest_46 : decode cX2_quietest 46 = .ok (.getfield 23, 3) := dk_180 0 23 (dk_at dksX2_quietest_2 0 rfl rfl)
theorem dX2_quietest_49 : decode cX2_quietest 49 = .ok (.iload_n 1, 1) := dk_27 (dk_at dksX2_quietest_2 3 rfl rfl)
theorem dX2_quietest_50 : decode cX2_quietest 50 = .ok (.iload_n 2, 1) := dk_28 (dk_at dksX2_quietest_2 4 rfl rfl)
theorem dX2_quietest_51 : decode cX2_quietest 51 = .ok (.iload_n 3, 1) := dk_29 (dk_at dksX2_quietest_2 5 rfl rfl)
theorem dX2_quietest_52 : decode cX2_quietest 52 = .ok (.iconst 0, 1) := dk_3 (dk_at dksX2_quietest_2 6 rfl rfl)
theorem dX2_quietest_53 : decode cX2_quietest 53 = .ok (.invokevirtual 373, 3) := dk_182 1 117 (dk_at dksX2_quietest_2 7 rfl rfl)
theorem dX2_quietest_56 : decode cX2_quietest 56 = .ok (.if_icmp .ge 6, 3) := dk_162 0 6 (dk_at dksX2_quietest_2 10 rfl rfl)
theorem dX2_quietest_59 : decode cX2_quietest 59 = .ok (.iload 4, 2) := dk_21 4 (dk_at dksX2_quietest_2 13 rfl rfl)
theorem dX2_quietest_61 : decode cX2_quietest 61 = .ok (.istore_n 3, 1) := dk_62 (dk_at dksX2_quietest_2 15 rfl rfl)
theorem dX2_quietest_62 : decode cX2_quietest 62 = .ok (.iinc 4 1, 3) := dk_132 4 1 (dk_at dksX2_quietest_2 16 rfl rfl)
theorem dX2_quietest_65 : decode cX2_quietest 65 = .ok (.goto (-45), 3) := dk_167 255 211 (dk_at dksX2_quietest_2 19 rfl rfl)
theorem dX2_quietest_68 : decode cX2_quietest 68 = .ok (.iload_n 3, 1) := dk_29 (dk_at dksX2_quietest_2 22 rfl rfl)
theorem dX2_quietest_69 : decode cX2_quietest 69 = .ok (.ireturn, 1) := dk_172 (dk_at dksX2_quietest_2 23 rfl rfl)
abbrev cX2_mostMoved : ByteArray := prog_22_method_113_code
def yX2_mostMoved : MethodName := ⟨RX2, "mostMoved", "(I)I"⟩
def dkwX2_mostMoved_3 : List UInt8 := [167, 255, 217, 29, 27, 160, 0, 5, 28, 172, 132, 2, 1, 167, 255, 188, 2, 172]
abbrev dktX2_mostMoved_3 : List UInt8 := dkwX2_mostMoved_3 ++ []
def dkwX2_mostMoved_2 : List UInt8 := [159, 0, 17, 42, 21, 4, 28, 182, 1, 227, 153, 0, 7, 4, 167, 0, 4, 3, 96, 62, 132, 4, 1]
abbrev dktX2_mostMoved_2 : List UInt8 := dkwX2_mostMoved_2 ++ dktX2_mostMoved_3
def dkwX2_mostMoved_1 : List UInt8 := [162, 0, 63, 3, 62, 3, 54, 4, 21, 4, 42, 180, 0, 17, 16, 10, 46, 162, 0, 33, 29, 21, 4, 28]
abbrev dktX2_mostMoved_1 : List UInt8 := dkwX2_mostMoved_1 ++ dktX2_mostMoved_2
def dkwX2_mostMoved_0 : List UInt8 := [42, 42, 27, 182, 1, 221, 182, 1, 205, 154, 0, 5, 3, 172, 3, 61, 28, 42, 180, 0, 17, 16, 10, 46]
abbrev dktX2_mostMoved_0 : List UInt8 := dkwX2_mostMoved_0 ++ dktX2_mostMoved_1
theorem dksX2_mostMoved_0 : cX2_mostMoved.data.toList.drop 0 = dktX2_mostMoved_0 := by decide +kernel
theorem dksX2_mostMoved_1 : cX2_mostMoved.data.toList.drop 24 = dktX2_mostMoved_1 := dk_seg dksX2_mostMoved_0 24 rfl rfl
theorem dksX2_mostMoved_2 : cX2_mostMoved.data.toList.drop 48 = dktX2_mostMoved_2 := dk_seg dksX2_mostMoved_1 24 rfl rfl
theorem dksX2_mostMoved_3 : cX2_mostMoved.data.toList.drop 71 = dktX2_mostMoved_3 := dk_seg dksX2_mostMoved_2 23 rfl rfl
theorem dX2_mostMoved_0 : decode cX2_mostMoved 0 = .ok (.aload_n 0, 1) := dk_42 (dk_at dksX2_mostMoved_0 0 rfl rfl)
theorem dX2_mostMoved_1 : decode cX2_mostMoved 1 = .ok (.aload_n 0, 1) := dk_42 (dk_at dksX2_mostMoved_0 1 rfl rfl)
theorem dX2_mostMoved_2 : decode cX2_mostMoved 2 = .ok (.iload_n 1, 1) := dk_27 (dk_at dksX2_mostMoved_0 2 rfl rfl)
theorem dX2_mostMoved_3 : decode cX2_mostMoved 3 = .ok (.invokevirtual 477, 3) := dk_182 1 221 (dk_at dksX2_mostMoved_0 3 rfl rfl)
theorem dX2_mostMoved_6 : decode cX2_mostMoved 6 = .ok (.invokevirtual 461, 3) := dk_182 1 205 (dk_at dksX2_mostMoved_0 6 rfl rfl)
theorem dX2_mostMoved_9 : decode cX2_mostMoved 9 = .ok (.ifCond .ne 5, 3) := dk_154 0 5 (dk_at dksX2_mostMoved_0 9 rfl rfl)
theorem dX2_mostMoved_12 : decode cX2_mostMoved 12 = .ok (.iconst 0, 1) := dk_3 (dk_at dksX2_mostMoved_0 12 rfl rfl)
theorem dX2_mostMoved_13 : decode cX2_mostMoved 13 = .ok (.ireturn, 1) := dk_172 (dk_at dksX2_mostMoved_0 13 rfl rfl)
theorem dX2_mostMoved_14 : decode cX2_mostMoved 14 = .ok (.iconst 0, 1) := dk_3 (dk_at dksX2_mostMoved_0 14 rfl rfl)
theorem dX2_mostMoved_15 : decode cX2_mostMoved 15 = .ok (.istore_n 2, 1) := dk_61 (dk_at dksX2_mostMoved_0 15 rfl rfl)
theorem dX2_mostMoved_16 : decode cX2_mostMoved 16 = .ok (.iload_n 2, 1) := dk_28 (dk_at dksX2_mostMoved_0 16 rfl rfl)
theorem dX2_mostMoved_17 : decode cX2_mostMoved 17 = .ok (.aload_n 0, 1) := dk_42 (dk_at dksX2_mostMoved_0 17 rfl rfl)
theorem dX2_mostMoved_18 : decode cX2_mostMoved 18 = .ok (.getfield 17, 3) := dk_180 0 17 (dk_at dksX2_mostMoved_0 18 rfl rfl)
theorem dX2_mostMoved_21 : decode cX2_mostMoved 21 = .ok (.bipush 10, 2) := dk_16 10 (dk_at dksX2_mostMoved_0 21 rfl rfl)
theorem dX2_mostMoved_23 : decode cX2_mostMoved 23 = .ok (.iaload, 1) := dk_46 (dk_at dksX2_mostMoved_0 23 rfl rfl)
theorem dX2_mostMoved_24 : decode cX2_mostMoved 24 = .ok (.if_icmp .ge 63, 3) := dk_162 0 63 (dk_at dksX2_mostMoved_1 0 rfl rfl)
theorem dX2_mostMoved_27 : decode cX2_mostMoved 27 = .ok (.iconst 0, 1) := dk_3 (dk_at dksX2_mostMoved_1 3 rfl rfl)
theorem dX2_mostMoved_28 : decode cX2_mostMoved 28 = .ok (.istore_n 3, 1) := dk_62 (dk_at dksX2_mostMoved_1 4 rfl rfl)
theorem dX2_mostMoved_29 : decode cX2_mostMoved 29 = .ok (.iconst 0, 1) := dk_3 (dk_at dksX2_mostMoved_1 5 rfl rfl)
theorem dX2_mostMoved_30 : decode cX2_mostMoved 30 = .ok (.istore 4, 2) := dk_54 4 (dk_at dksX2_mostMoved_1 6 rfl rfl)
theorem dX2_mostMoved_32 : decode cX2_mostMoved 32 = .ok (.iload 4, 2) := dk_21 4 (dk_at dksX2_mostMoved_1 8 rfl rfl)
theorem dX2_mostMoved_34 : decode cX2_mostMoved 34 = .ok (.aload_n 0, 1) := dk_42 (dk_at dksX2_mostMoved_1 10 rfl rfl)
theorem dX2_mostMoved_35 : decode cX2_mostMoved 35 = .ok (.getfield 17, 3) := dk_180 0 17 (dk_at dksX2_mostMoved_1 11 rfl rfl)
theorem dX2_mostMoved_38 : decode cX2_mostMoved 38 = .ok (.bipush 10, 2) := dk_16 10 (dk_at dksX2_mostMoved_1 14 rfl rfl)
theorem dX2_mostMoved_40 : decode cX2_mostMoved 40 = .ok (.iaload, 1) := dk_46 (dk_at dksX2_mostMoved_1 16 rfl rfl)
theorem dX2_mostMoved_41 : decode cX2_mostMoved 41 = .ok (.if_icmp .ge 33, 3) := dk_162 0 33 (dk_at dksX2_mostMoved_1 17 rfl rfl)
theorem dX2_mostMoved_44 : decode cX2_mostMoved 44 = .ok (.iload_n 3, 1) := dk_29 (dk_at dksX2_mostMoved_1 20 rfl rfl)
theorem dX2_mostMoved_45 : decode cX2_mostMoved 45 = .ok (.iload 4, 2) := dk_21 4 (dk_at dksX2_mostMoved_1 21 rfl rfl)
theorem dX2_mostMoved_47 : decode cX2_mostMoved 47 = .ok (.iload_n 2, 1) := dk_28 (dk_at dksX2_mostMoved_1 23 rfl rfl)
theorem dX2_mostMoved_48 : decode cX2_mostMoved 48 = .ok (.if_icmp .eq 17, 3) := dk_159 0 17 (dk_at dksX2_mostMoved_2 0 rfl rfl)
theorem dX2_mostMoved_51 : decode cX2_mostMoved 51 = .ok (.aload_n 0, 1) := dk_42 (dk_at dksX2_mostMoved_2 3 rfl rfl)
theorem dX2_mostMoved_52 : decode cX2_mostMoved 52 = .ok (.iload 4, 2) := dk_21 4 (dk_at dksX2_mostMoved_2 4 rfl rfl)
theorem dX2_mostMoved_54 : decode cX2_mostMoved 54 = .ok (.iload_n 2, 1) := dk_28 (dk_at dksX2_mostMoved_2 6 rfl rfl)
theorem dX2_mostMoved_55 : decode cX2_mostMoved 55 = .ok (.invokevirtual 483, 3) := dk_182 1 227 (dk_at dksX2_mostMoved_2 7 rfl rfl)
theorem dX2_mostMoved_58 : decode cX2_mostMoved 58 = .ok (.ifCond .eq 7, 3) := dk_153 0 7 (dk_at dksX2_mostMoved_2 10 rfl rfl)
theorem dX2_mostMoved_61 : decode cX2_mostMoved 61 = .ok (.iconst 1, 1) := dk_4 (dk_at dksX2_mostMoved_2 13 rfl rfl)
theorem dX2_mostMoved_62 : decode cX2_mostMoved 62 = .ok (.goto 4, 3) := dk_167 0 4 (dk_at dksX2_mostMoved_2 14 rfl rfl)
theorem dX2_mostMoved_65 : decode cX2_mostMoved 65 = .ok (.iconst 0, 1) := dk_3 (dk_at dksX2_mostMoved_2 17 rfl rfl)
theorem dX2_mostMoved_66 : decode cX2_mostMoved 66 = .ok (.iadd, 1) := dk_96 (dk_at dksX2_mostMoved_2 18 rfl rfl)
theorem dX2_mostMoved_67 : decode cX2_mostMoved 67 = .ok (.istore_n 3, 1) := dk_62 (dk_at dksX2_mostMoved_2 19 rfl rfl)
theorem dX2_mostMoved_68 : decode cX2_mostMoved 68 = .ok (.iinc 4 1, 3) := dk_132 4 1 (dk_at dksX2_mostMoved_2 20 rfl rfl)
theorem dX2_mostMoved_71 : decode cX2_mostMoved 71 = .ok (.goto (-39), 3) := dk_167 255 217 (dk_at dksX2_mostMoved_3 0 rfl rfl)
theorem dX2_mostMoved_74 : decode cX2_mostMoved 74 = .ok (.iload_n 3, 1) := dk_29 (dk_at dksX2_mostMoved_3 3 rfl rfl)
theorem dX2_mostMoved_75 : decode cX2_mostMoved 75 = .ok (.iload_n 1, 1) := dk_27 (dk_at dksX2_mostMoved_3 4 rfl rfl)
theorem dX2_mostMoved_76 : decode cX2_mostMoved 76 = .ok (.if_icmp .ne 5, 3) := dk_160 0 5 (dk_at dksX2_mostMoved_3 5 rfl rfl)
theorem dX2_mostMoved_79 : decode cX2_mostMoved 79 = .ok (.iload_n 2, 1) := dk_28 (dk_at dksX2_mostMoved_3 8 rfl rfl)
theorem dX2_mostMoved_80 : decode cX2_mostMoved 80 = .ok (.ireturn, 1) := dk_172 (dk_at dksX2_mostMoved_3 9 rfl rfl)
theorem dX2_mostMoved_81 : decode cX2_mostMoved 81 = .ok (.iinc 2 1, 3) := dk_132 2 1 (dk_at dksX2_mostMoved_3 10 rfl rfl)
theorem dX2_mostMoved_84 : decode cX2_mostMoved 84 = .ok (.goto (-68), 3) := dk_167 255 188 (dk_at dksX2_mostMoved_3 13 rfl rfl)
theorem dX2_mostMoved_87 : decode cX2_mostMoved 87 = .ok (.iconst (-1), 1) := dk_2 (dk_at dksX2_mostMoved_3 16 rfl rfl)
theorem dX2_mostMoved_88 : decode cX2_mostMoved 88 = .ok (.ireturn, 1) := dk_172 (dk_at dksX2_mostMoved_3 17 rfl rfl)
abbrev cX2_isMovedMore : ByteArray := prog_22_method_112_code
def yX2_isMovedMore : MethodName := ⟨RX2, "isMovedMore", "(II)Z"⟩
def dkwX2_isMovedMore_4 : List UInt8 := [3, 167, 0, 13, 27, 28, 162, 0, 7, 4, 167, 0, 4, 3, 172]
abbrev dktX2_isMovedMore_4 : List UInt8 := dkwX2_isMovedMore_4 ++ []
def dkwX2_isMovedMore_3 : List UInt8 := [180, 0, 23, 16, 102, 27, 96, 46, 42, 180, 0, 23, 16, 102, 28, 96, 46, 162, 0, 7, 4, 167, 0, 17]
abbrev dktX2_isMovedMore_3 : List UInt8 := dkwX2_isMovedMore_3 ++ dktX2_isMovedMore_4
def dkwX2_isMovedMore_2 : List UInt8 := [3, 172, 42, 180, 0, 23, 16, 102, 27, 96, 46, 42, 180, 0, 23, 16, 102, 28, 96, 46, 159, 0, 32, 42]
abbrev dktX2_isMovedMore_2 : List UInt8 := dkwX2_isMovedMore_2 ++ dktX2_isMovedMore_3
def dkwX2_isMovedMore_1 : List UInt8 := [180, 0, 23, 16, 86, 27, 96, 46, 42, 180, 0, 23, 16, 86, 28, 96, 46, 164, 0, 7, 4, 167, 0, 4]
abbrev dktX2_isMovedMore_1 : List UInt8 := dkwX2_isMovedMore_1 ++ dktX2_isMovedMore_2
def dkwX2_isMovedMore_0 : List UInt8 := [42, 180, 0, 23, 16, 86, 27, 96, 46, 42, 180, 0, 23, 16, 86, 28, 96, 46, 159, 0, 30, 42]
abbrev dktX2_isMovedMore_0 : List UInt8 := dkwX2_isMovedMore_0 ++ dktX2_isMovedMore_1
theorem dksX2_isMovedMore_0 : cX2_isMovedMore.data.toList.drop 0 = dktX2_isMovedMore_0 := by decide +kernel
theorem dksX2_isMovedMore_1 : cX2_isMovedMore.data.toList.drop 22 = dktX2_isMovedMore_1 := dk_seg dksX2_isMovedMore_0 22 rfl rfl
theorem dksX2_isMovedMore_2 : cX2_isMovedMore.data.toList.drop 46 = dktX2_isMovedMore_2 := dk_seg dksX2_isMovedMore_1 24 rfl rfl
theorem dksX2_isMovedMore_3 : cX2_isMovedMore.data.toList.drop 70 = dktX2_isMovedMore_3 := dk_seg dksX2_isMovedMore_2 24 rfl rfl
theorem dksX2_isMovedMore_4 : cX2_isMovedMore.data.toList.drop 94 = dktX2_isMovedMore_4 := dk_seg dksX2_isMovedMore_3 24 rfl rfl
theorem dX2_isMovedMore_0 : decode cX2_isMovedMore 0 = .ok (.aload_n 0, 1) := dk_42 (dk_at dksX2_isMovedMore_0 0 rfl rfl)
theorem dX2_isMovedMore_1 : decode cX2_isMovedMore 1 = .ok (.getfield 23, 3) := dk_180 0 23 (dk_at dksX2_isMovedMore_0 1 rfl rfl)
theorem dX2_isMovedMore_4 : decode cX2_isMovedMore 4 = .ok (.bipush 86, 2) := dk_16 86 (dk_at dksX2_isMovedMore_0 4 rfl rfl)
theorem dX2_isMovedMore_6 : decode cX2_isMovedMore 6 = .ok (.iload_n 1, 1) := dk_27 (dk_at dksX2_isMovedMore_0 6 rfl rfl)
theorem dX2_isMovedMore_7 : decode cX2_isMovedMore 7 = .ok (.iadd, 1) := dk_96 (dk_at dksX2_isMovedMore_0 7 rfl rfl)
theorem dX2_isMovedMore_8 : decode cX2_isMovedMore 8 = .ok (.iaload, 1) := dk_46 (dk_at dksX2_isMovedMore_0 8 rfl rfl)
theorem dX2_isMovedMore_9 : decode cX2_isMovedMore 9 = .ok (.aload_n 0, 1) := dk_42 (dk_at dksX2_isMovedMore_0 9 rfl rfl)
theorem dX2_isMovedMore_10 : decode cX2_isMovedMore 10 = .ok (.getfield 23, 3) := dk_180 0 23 (dk_at dksX2_isMovedMore_0 10 rfl rfl)
theorem dX2_isMovedMore_13 : decode cX2_isMovedMore 13 = .ok (.bipush 86, 2) := dk_16 86 (dk_at dksX2_isMovedMore_0 13 rfl rfl)
theorem dX2_isMovedMore_15 : decode cX2_isMovedMore 15 = .ok (.iload_n 2, 1) := dk_28 (dk_at dksX2_isMovedMore_0 15 rfl rfl)
theorem dX2_isMovedMore_16 : decode cX2_isMovedMore 16 = .ok (.iadd, 1) := dk_96 (dk_at dksX2_isMovedMore_0 16 rfl rfl)
theorem dX2_isMovedMore_17 : decode cX2_isMovedMore 17 = .ok (.iaload, 1) := dk_46 (dk_at dksX2_isMovedMore_0 17 rfl rfl)
theorem dX2_isMovedMore_18 : decode cX2_isMovedMore 18 = .ok (.if_icmp .eq 30, 3) := dk_159 0 30 (dk_at dksX2_isMovedMore_0 18 rfl rfl)
theorem dX2_isMovedMore_21 : decode cX2_isMovedMore 21 = .ok (.aload_n 0, 1) := dk_42 (dk_at dksX2_isMovedMore_0 21 rfl rfl)
theorem dX2_isMovedMore_22 : decode cX2_isMovedMore 22 = .ok (.getfield 23, 3) := dk_180 0 23 (dk_at dksX2_isMovedMore_1 0 rfl rfl)
theorem dX2_isMovedMore_25 : decode cX2_isMovedMore 25 = .ok (.bipush 86, 2) := dk_16 86 (dk_at dksX2_isMovedMore_1 3 rfl rfl)
theorem dX2_isMovedMore_27 : decode cX2_isMovedMore 27 = .ok (.iload_n 1, 1) := dk_27 (dk_at dksX2_isMovedMore_1 5 rfl rfl)
theorem dX2_isMovedMore_28 : decode cX2_isMovedMore 28 = .ok (.iadd, 1) := dk_96 (dk_at dksX2_isMovedMore_1 6 rfl rfl)
theorem dX2_isMovedMore_29 : decode cX2_isMovedMore 29 = .ok (.iaload, 1) := dk_46 (dk_at dksX2_isMovedMore_1 7 rfl rfl)
theorem dX2_isMovedMore_30 : decode cX2_isMovedMore 30 = .ok (.aload_n 0, 1) := dk_42 (dk_at dksX2_isMovedMore_1 8 rfl rfl)
theorem dX2_isMovedMore_31 : decode cX2_isMovedMore 31 = .ok (.getfield 23, 3) := dk_180 0 23 (dk_at dksX2_isMovedMore_1 9 rfl rfl)
theorem dX2_isMovedMore_34 : decode cX2_isMovedMore 34 = .ok (.bipush 86, 2) := dk_16 86 (dk_at dksX2_isMovedMore_1 12 rfl rfl)
theorem dX2_isMovedMore_36 : decode cX2_isMovedMore 36 = .ok (.iload_n 2, 1) := dk_28 (dk_at dksX2_isMovedMore_1 14 rfl rfl)
theorem dX2_isMovedMore_37 : decode cX2_isMovedMore 37 = .ok (.iadd, 1) := dk_96 (dk_at dksX2_isMovedMore_1 15 rfl rfl)
theorem dX2_isMovedMore_38 : decode cX2_isMovedMore 38 = .ok (.iaload, 1) := dk_46 (dk_at dksX2_isMovedMore_1 16 rfl rfl)
theorem dX2_isMovedMore_39 : decode cX2_isMovedMore 39 = .ok (.if_icmp .le 7, 3) := dk_164 0 7 (dk_at dksX2_isMovedMore_1 17 rfl rfl)
theorem dX2_isMovedMore_42 : decode cX2_isMovedMore 42 = .ok (.iconst 1, 1) := dk_4 (dk_at dksX2_isMovedMore_1 20 rfl rfl)
theorem dX2_isMovedMore_43 : decode cX2_isMovedMore 43 = .ok (.goto 4, 3) := dk_167 0 4 (dk_at dksX2_isMovedMore_1 21 rfl rfl)
theorem dX2_isMovedMore_46 : decode cX2_isMovedMore 46 = .ok (.iconst 0, 1) := dk_3 (dk_at dksX2_isMovedMore_2 0 rfl rfl)
theorem dX2_isMovedMore_47 : decode cX2_isMovedMore 47 = .ok (.ireturn, 1) := dk_172 (dk_at dksX2_isMovedMore_2 1 rfl rfl)
theorem dX2_isMovedMore_48 : decode cX2_isMovedMore 48 = .ok (.aload_n 0, 1) := dk_42 (dk_at dksX2_isMovedMore_2 2 rfl rfl)
theorem dX2_isMovedMore_49 : decode cX2_isMovedMore 49 = .ok (.getfield 23, 3) := dk_180 0 23 (dk_at dksX2_isMovedMore_2 3 rfl rfl)
theorem dX2_isMovedMore_52 : decode cX2_isMovedMore 52 = .ok (.bipush 102, 2) := dk_16 102 (dk_at dksX2_isMovedMore_2 6 rfl rfl)
theorem dX2_isMovedMore_54 : decode cX2_isMovedMore 54 = .ok (.iload_n 1, 1) := dk_27 (dk_at dksX2_isMovedMore_2 8 rfl rfl)
theorem dX2_isMovedMore_55 : decode cX2_isMovedMore 55 = .ok (.iadd, 1) := dk_96 (dk_at dksX2_isMovedMore_2 9 rfl rfl)
theorem dX2_isMovedMore_56 : decode cX2_isMovedMore 56 = .ok (.iaload, 1) := dk_46 (dk_at dksX2_isMovedMore_2 10 rfl rfl)
theorem dX2_isMovedMore_57 : decode cX2_isMovedMore 57 = .ok (.aload_n 0, 1) := dk_42 (dk_at dksX2_isMovedMore_2 11 rfl rfl)
theorem dX2_isMovedMore_58 : decode cX2_isMovedMore 58 = .ok (.getfield 23, 3) := dk_180 0 23 (dk_at dksX2_isMovedMore_2 12 rfl rfl)
theorem dX2_isMovedMore_61 : decode cX2_isMovedMore 61 = .ok (.bipush 102, 2) := dk_16 102 (dk_at dksX2_isMovedMore_2 15 rfl rfl)
theorem dX2_isMovedMore_63 : decode cX2_isMovedMore 63 = .ok (.iload_n 2, 1) := dk_28 (dk_at dksX2_isMovedMore_2 17 rfl rfl)
theorem dX2_isMovedMore_64 : decode cX2_isMovedMore 64 = .ok (.iadd, 1) := dk_96 (dk_at dksX2_isMovedMore_2 18 rfl rfl)
theorem dX2_isMovedMore_65 : decode cX2_isMovedMore 65 = .ok (.iaload, 1) := dk_46 (dk_at dksX2_isMovedMore_2 19 rfl rfl)
theorem dX2_isMovedMore_66 : decode cX2_isMovedMore 66 = .ok (.if_icmp .eq 32, 3) := dk_159 0 32 (dk_at dksX2_isMovedMore_2 20 rfl rfl)
theorem dX2_isMovedMore_69 : decode cX2_isMovedMore 69 = .ok (.aload_n 0, 1) := dk_42 (dk_at dksX2_isMovedMore_2 23 rfl rfl)
theorem dX2_isMovedMore_70 : decode cX2_isMovedMore 70 = .ok (.getfield 23, 3) := dk_180 0 23 (dk_at dksX2_isMovedMore_3 0 rfl rfl)
theorem dX2_isMovedMore_73 : decode cX2_isMovedMore 73 = .ok (.bipush 102, 2) := dk_16 102 (dk_at dksX2_isMovedMore_3 3 rfl rfl)
theorem dX2_isMovedMore_75 : decode cX2_isMovedMore 75 = .ok (.iload_n 1, 1) := dk_27 (dk_at dksX2_isMovedMore_3 5 rfl rfl)
theorem dX2_isMovedMore_76 : decode cX2_isMovedMore 76 = .ok (.iadd, 1) := dk_96 (dk_at dksX2_isMovedMore_3 6 rfl rfl)
theorem dX2_isMovedMore_77 : decode cX2_isMovedMore 77 = .ok (.iaload, 1) := dk_46 (dk_at dksX2_isMovedMore_3 7 rfl rfl)
theorem dX2_isMovedMore_78 : decode cX2_isMovedMore 78 = .ok (.aload_n 0, 1) := dk_42 (dk_at dksX2_isMovedMore_3 8 rfl rfl)
theorem dX2_isMovedMore_79 : decode cX2_isMovedMore 79 = .ok (.getfield 23, 3) := dk_180 0 23 (dk_at dksX2_isMovedMore_3 9 rfl rfl)
theorem dX2_isMovedMore_82 : decode cX2_isMovedMore 82 = .ok (.bipush 102, 2) := dk_16 102 (dk_at dksX2_isMovedMore_3 12 rfl rfl)
theorem dX2_isMovedMore_84 : decode cX2_isMovedMore 84 = .ok (.iload_n 2, 1) := dk_28 (dk_at dksX2_isMovedMore_3 14 rfl rfl)
theorem dX2_isMovedMore_85 : decode cX2_isMovedMore 85 = .ok (.iadd, 1) := dk_96 (dk_at dksX2_isMovedMore_3 15 rfl rfl)
theorem dX2_isMovedMore_86 : decode cX2_isMovedMore 86 = .ok (.iaload, 1) := dk_46 (dk_at dksX2_isMovedMore_3 16 rfl rfl)
theorem dX2_isMovedMore_87 : decode cX2_isMovedMore 87 = .ok (.if_icmp .ge 7, 3) := dk_162 0 7 (dk_at dksX2_isMovedMore_3 17 rfl rfl)
theorem dX2_isMovedMore_90 : decode cX2_isMovedMore 90 = .ok (.iconst 1, 1) := dk_4 (dk_at dksX2_isMovedMore_3 20 rfl rfl)
theorem dX2_isMovedMore_91 : decode cX2_isMovedMore 91 = .ok (.goto 17, 3) := dk_167 0 17 (dk_at dksX2_isMovedMore_3 21 rfl rfl)
theorem dX2_isMovedMore_94 : decode cX2_isMovedMore 94 = .ok (.iconst 0, 1) := dk_3 (dk_at dksX2_isMovedMore_4 0 rfl rfl)
theorem dX2_isMovedMore_95 : decode cX2_isMovedMore 95 = .ok (.goto 13, 3) := dk_167 0 13 (dk_at dksX2_isMovedMore_4 1 rfl rfl)
theorem dX2_isMovedMore_98 : decode cX2_isMovedMore 98 = .ok (.iload_n 1, 1) := dk_27 (dk_at dksX2_isMovedMore_4 4 rfl rfl)
theorem dX2_isMovedMore_99 : decode cX2_isMovedMore 99 = .ok (.iload_n 2, 1) := dk_28 (dk_at dksX2_isMovedMore_4 5 rfl rfl)
theorem dX2_isMovedMore_100 : decode cX2_isMovedMore 100 = .ok (.if_icmp .ge 7, 3) := dk_162 0 7 (dk_at dksX2_isMovedMore_4 6 rfl rfl)
theorem dX2_isMovedMore_103 : decode cX2_isMovedMore 103 = .ok (.iconst 1, 1) := dk_4 (dk_at dksX2_isMovedMore_4 9 rfl rfl)
theorem dX2_isMovedMore_104 : decode cX2_isMovedMore 104 = .ok (.goto 4, 3) := dk_167 0 4 (dk_at dksX2_isMovedMore_4 10 rfl rfl)
theorem dX2_isMovedMore_107 : decode cX2_isMovedMore 107 = .ok (.iconst 0, 1) := dk_3 (dk_at dksX2_isMovedMore_4 13 rfl rfl)
theorem dX2_isMovedMore_108 : decode cX2_isMovedMore 108 = .ok (.ireturn, 1) := dk_172 (dk_at dksX2_isMovedMore_4 14 rfl rfl)
abbrev cX2_report : ByteArray := prog_22_method_116_code
def yX2_report : MethodName := ⟨RX2, "report", "()I"⟩
def dkwX2_report_5 : List UInt8 := [167, 255, 189, 132, 1, 1, 167, 255, 148, 42, 180, 1, 230, 172]
abbrev dktX2_report_5 : List UInt8 := dkwX2_report_5 ++ []
def dkwX2_report_4 : List UInt8 := [16, 64, 182, 1, 233, 42, 42, 180, 0, 23, 16, 54, 29, 96, 46, 182, 1, 236, 132, 2, 1, 132, 3, 1]
abbrev dktX2_report_4 : List UInt8 := dkwX2_report_4 ++ dktX2_report_5
def dkwX2_report_3 : List UInt8 := [27, 159, 0, 6, 167, 0, 40, 28, 158, 0, 9, 42, 16, 44, 182, 1, 233, 42, 29, 182, 1, 236, 42]
abbrev dktX2_report_3 : List UInt8 := dkwX2_report_3 ++ dktX2_report_4
def dkwX2_report_2 : List UInt8 := [3, 61, 3, 62, 29, 42, 180, 0, 17, 16, 10, 46, 162, 0, 62, 42, 180, 0, 23, 16, 38, 29, 96, 46]
abbrev dktX2_report_2 : List UInt8 := dkwX2_report_2 ++ dktX2_report_3
def dkwX2_report_1 : List UInt8 := [162, 0, 104, 27, 158, 0, 9, 42, 16, 59, 182, 1, 233, 42, 27, 182, 1, 236, 42, 16, 58, 182, 1, 233]
abbrev dktX2_report_1 : List UInt8 := dkwX2_report_1 ++ dktX2_report_2
def dkwX2_report_0 : List UInt8 := [42, 4, 182, 1, 205, 154, 0, 5, 3, 172, 42, 3, 181, 1, 230, 3, 60, 27, 42, 180, 0, 17, 5, 46]
abbrev dktX2_report_0 : List UInt8 := dkwX2_report_0 ++ dktX2_report_1
theorem dksX2_report_0 : cX2_report.data.toList.drop 0 = dktX2_report_0 := by decide +kernel
theorem dksX2_report_1 : cX2_report.data.toList.drop 24 = dktX2_report_1 := dk_seg dksX2_report_0 24 rfl rfl
theorem dksX2_report_2 : cX2_report.data.toList.drop 48 = dktX2_report_2 := dk_seg dksX2_report_1 24 rfl rfl
theorem dksX2_report_3 : cX2_report.data.toList.drop 72 = dktX2_report_3 := dk_seg dksX2_report_2 24 rfl rfl
theorem dksX2_report_4 : cX2_report.data.toList.drop 95 = dktX2_report_4 := dk_seg dksX2_report_3 23 rfl rfl
theorem dksX2_report_5 : cX2_report.data.toList.drop 119 = dktX2_report_5 := dk_seg dksX2_report_4 24 rfl rfl
theorem dX2_report_0 : decode cX2_report 0 = .ok (.aload_n 0, 1) := dk_42 (dk_at dksX2_report_0 0 rfl rfl)
theorem dX2_report_1 : decode cX2_report 1 = .ok (.iconst 1, 1) := dk_4 (dk_at dksX2_report_0 1 rfl rfl)
theorem dX2_report_2 : decode cX2_report 2 = .ok (.invokevirtual 461, 3) := dk_182 1 205 (dk_at dksX2_report_0 2 rfl rfl)
theorem dX2_report_5 : decode cX2_report 5 = .ok (.ifCond .ne 5, 3) := dk_154 0 5 (dk_at dksX2_report_0 5 rfl rfl)
theorem dX2_report_8 : decode cX2_report 8 = .ok (.iconst 0, 1) := dk_3 (dk_at dksX2_report_0 8 rfl rfl)
theorem dX2_report_9 : decode cX2_report 9 = .ok (.ireturn, 1) := dk_172 (dk_at dksX2_report_0 9 rfl rfl)
theorem dX2_report_10 : decode cX2_report 10 = .ok (.aload_n 0, 1) := dk_42 (dk_at dksX2_report_0 10 rfl rfl)
theorem dX2_report_11 : decode cX2_report 11 = .ok (.iconst 0, 1) := dk_3 (dk_at dksX2_report_0 11 rfl rfl)
theorem dX2_report_12 : decode cX2_report 12 = .ok (.putfield 486, 3) := dk_181 1 230 (dk_at dksX2_report_0 12 rfl rfl)
theorem dX2_report_15 : decode cX2_report 15 = .ok (.iconst 0, 1) := dk_3 (dk_at dksX2_report_0 15 rfl rfl)
theorem dX2_report_16 : decode cX2_report 16 = .ok (.istore_n 1, 1) := dk_60 (dk_at dksX2_report_0 16 rfl rfl)
theorem dX2_report_17 : decode cX2_report 17 = .ok (.iload_n 1, 1) := dk_27 (dk_at dksX2_report_0 17 rfl rfl)
theorem dX2_report_18 : decode cX2_report 18 = .ok (.aload_n 0, 1) := dk_42 (dk_at dksX2_report_0 18 rfl rfl)
theorem dX2_report_19 : decode cX2_report 19 = .ok (.getfield 17, 3) := dk_180 0 17 (dk_at dksX2_report_0 19 rfl rfl)
theorem dX2_report_22 : decode cX2_report 22 = .ok (.iconst 2, 1) := dk_5 (dk_at dksX2_report_0 22 rfl rfl)
theorem dX2_report_23 : decode cX2_report 23 = .ok (.iaload, 1) := dk_46 (dk_at dksX2_report_0 23 rfl rfl)
theorem dX2_report_24 : decode cX2_report 24 = .ok (.if_icmp .ge 104, 3) := dk_162 0 104 (dk_at dksX2_report_1 0 rfl rfl)
theorem dX2_report_27 : decode cX2_report 27 = .ok (.iload_n 1, 1) := dk_27 (dk_at dksX2_report_1 3 rfl rfl)
theorem dX2_report_28 : decode cX2_report 28 = .ok (.ifCond .le 9, 3) := dk_158 0 9 (dk_at dksX2_report_1 4 rfl rfl)
theorem dX2_report_31 : decode cX2_report 31 = .ok (.aload_n 0, 1) := dk_42 (dk_at dksX2_report_1 7 rfl rfl)
theorem dX2_report_32 : decode cX2_report 32 = .ok (.bipush 59, 2) := dk_16 59 (dk_at dksX2_report_1 8 rfl rfl)
theorem dX2_report_34 : decode cX2_report 34 = .ok (.invokevirtual 489, 3) := dk_182 1 233 (dk_at dksX2_report_1 10 rfl rfl)
theorem dX2_report_37 : decode cX2_report 37 = .ok (.aload_n 0, 1) := dk_42 (dk_at dksX2_report_1 13 rfl rfl)
theorem dX2_report_38 : decode cX2_report 38 = .ok (.iload_n 1, 1) := dk_27 (dk_at dksX2_report_1 14 rfl rfl)
theorem dX2_report_39 : decode cX2_report 39 = .ok (.invokevirtual 492, 3) := dk_182 1 236 (dk_at dksX2_report_1 15 rfl rfl)
theorem dX2_report_42 : decode cX2_report 42 = .ok (.aload_n 0, 1) := dk_42 (dk_at dksX2_report_1 18 rfl rfl)
theorem dX2_report_43 : decode cX2_report 43 = .ok (.bipush 58, 2) := dk_16 58 (dk_at dksX2_report_1 19 rfl rfl)
theorem dX2_report_45 : decode cX2_report 45 = .ok (.invokevirtual 489, 3) := dk_182 1 233 (dk_at dksX2_report_1 21 rfl rfl)
theorem dX2_report_48 : decode cX2_report 48 = .ok (.iconst 0, 1) := dk_3 (dk_at dksX2_report_2 0 rfl rfl)
theorem dX2_report_49 : decode cX2_report 49 = .ok (.istore_n 2, 1) := dk_61 (dk_at dksX2_report_2 1 rfl rfl)
theorem dX2_report_50 : decode cX2_report 50 = .ok (.iconst 0, 1) := dk_3 (dk_at dksX2_report_2 2 rfl rfl)
theorem dX2_report_51 : decode cX2_report 51 = .ok (.istore_n 3, 1) := dk_62 (dk_at dksX2_report_2 3 rfl rfl)
theorem dX2_report_52 : decode cX2_report 52 = .ok (.iload_n 3, 1) := dk_29 (dk_at dksX2_report_2 4 rfl rfl)
theorem dX2_report_53 : decode cX2_report 53 = .ok (.aload_n 0, 1) := dk_42 (dk_at dksX2_report_2 5 rfl rfl)
theorem dX2_report_54 : decode cX2_report 54 = .ok (.getfield 17, 3) := dk_180 0 17 (dk_at dksX2_report_2 6 rfl rfl)
theorem dX2_report_57 : decode cX2_report 57 = .ok (.bipush 10, 2) := dk_16 10 (dk_at dksX2_report_2 9 rfl rfl)
theorem dX2_report_59 : decode cX2_report 59 = .ok (.iaload, 1) := dk_46 (dk_at dksX2_report_2 11 rfl rfl)
theorem dX2_report_60 : decode cX2_report 60 = .ok (.if_icmp .ge 62, 3) := dk_162 0 62 (dk_at dksX2_report_2 12 rfl rfl)
theorem dX2_report_63 : decode cX2_report 63 = .ok (.aload_n 0, 1) := dk_42 (dk_at dksX2_report_2 15 rfl rfl)
theorem dX2_report_64 : decode cX2_report 64 = .ok (.getfield 23, 3) := dk_180 0 23 (dk_at dksX2_report_2 16 rfl rfl)
theorem dX2_report_67 : decode cX2_report 67 = .ok (.bipush 38, 2) := dk_16 38 (dk_at dksX2_report_2 19 rfl rfl)
theorem dX2_report_69 : decode cX2_report 69 = .ok (.iload_n 3, 1) := dk_29 (dk_at dksX2_report_2 21 rfl rfl)
theorem dX2_report_70 : decode cX2_report 70 = .ok (.iadd, 1) := dk_96 (dk_at dksX2_report_2 22 rfl rfl)
theorem dX2_report_71 : decode cX2_report 71 = .ok (.iaload, 1) := dk_46 (dk_at dksX2_report_2 23 rfl rfl)
theorem dX2_report_72 : decode cX2_report 72 = .ok (.iload_n 1, 1) := dk_27 (dk_at dksX2_report_3 0 rfl rfl)
theorem dX2_report_73 : decode cX2_report 73 = .ok (.if_icmp .eq 6, 3) := dk_159 0 6 (dk_at dksX2_report_3 1 rfl rfl)
theorem dX2_report_76 : decode cX2_report 76 = .ok (.goto 40, 3) := dk_167 0 40 (dk_at dksX2_report_3 4 rfl rfl)
theorem dX2_report_79 : decode cX2_report 79 = .ok (.iload_n 2, 1) := dk_28 (dk_at dksX2_report_3 7 rfl rfl)
theorem dX2_report_80 : decode cX2_report 80 = .ok (.ifCond .le 9, 3) := dk_158 0 9 (dk_at dksX2_report_3 8 rfl rfl)
theorem dX2_report_83 : decode cX2_report 83 = .ok (.aload_n 0, 1) := dk_42 (dk_at dksX2_report_3 11 rfl rfl)
theorem dX2_report_84 : decode cX2_report 84 = .ok (.bipush 44, 2) := dk_16 44 (dk_at dksX2_report_3 12 rfl rfl)
theorem dX2_report_86 : decode cX2_report 86 = .ok (.invokevirtual 489, 3) := dk_182 1 233 (dk_at dksX2_report_3 14 rfl rfl)
theorem dX2_report_89 : decode cX2_report 89 = .ok (.aload_n 0, 1) := dk_42 (dk_at dksX2_report_3 17 rfl rfl)
theorem dX2_report_90 : decode cX2_report 90 = .ok (.iload_n 3, 1) := dk_29 (dk_at dksX2_report_3 18 rfl rfl)
theorem dX2_report_91 : decode cX2_report 91 = .ok (.invokevirtual 492, 3) := dk_182 1 236 (dk_at dksX2_report_3 19 rfl rfl)
theorem dX2_report_94 : decode cX2_report 94 = .ok (.aload_n 0, 1) := dk_42 (dk_at dksX2_report_3 22 rfl rfl)
theorem dX2_report_95 : decode cX2_report 95 = .ok (.bipush 64, 2) := dk_16 64 (dk_at dksX2_report_4 0 rfl rfl)
theorem dX2_report_97 : decode cX2_report 97 = .ok (.invokevirtual 489, 3) := dk_182 1 233 (dk_at dksX2_report_4 2 rfl rfl)
theorem dX2_report_100 : decode cX2_report 100 = .ok (.aload_n 0, 1) := dk_42 (dk_at dksX2_report_4 5 rfl rfl)
theorem dX2_report_101 : decode cX2_report 101 = .ok (.aload_n 0, 1) := dk_42 (dk_at dksX2_report_4 6 rfl rfl)
theorem dX2_report_102 : decode cX2_report 102 = .ok (.getfield 23, 3) := dk_180 0 23 (dk_at dksX2_report_4 7 rfl rfl)
theorem dX2_report_105 : decode cX2_report 105 = .ok (.bipush 54, 2) := dk_16 54 (dk_at dksX2_report_4 10 rfl rfl)
theorem dX2_report_107 : decode cX2_report 107 = .ok (.iload_n 3, 1) := dk_29 (dk_at dksX2_report_4 12 rfl rfl)
theorem dX2_report_108 : decode cX2_report 108 = .ok (.iadd, 1) := dk_96 (dk_at dksX2_report_4 13 rfl rfl)
theorem dX2_report_109 : decode cX2_report 109 = .ok (.iaload, 1) := dk_46 (dk_at dksX2_report_4 14 rfl rfl)
theorem dX2_report_110 : decode cX2_report 110 = .ok (.invokevirtual 492, 3) := dk_182 1 236 (dk_at dksX2_report_4 15 rfl rfl)
theorem dX2_report_113 : decode cX2_report 113 = .ok (.iinc 2 1, 3) := dk_132 2 1 (dk_at dksX2_report_4 18 rfl rfl)
theorem dX2_report_116 : decode cX2_report 116 = .ok (.iinc 3 1, 3) := dk_132 3 1 (dk_at dksX2_report_4 21 rfl rfl)
theorem dX2_report_119 : decode cX2_report 119 = .ok (.goto (-67), 3) := dk_167 255 189 (dk_at dksX2_report_5 0 rfl rfl)
theorem dX2_report_122 : decode cX2_report 122 = .ok (.iinc 1 1, 3) := dk_132 1 1 (dk_at dksX2_report_5 3 rfl rfl)
theorem dX2_report_125 : decode cX2_report 125 = .ok (.goto (-108), 3) := dk_167 255 148 (dk_at dksX2_report_5 6 rfl rfl)
theorem dX2_report_128 : decode cX2_report 128 = .ok (.aload_n 0, 1) := dk_42 (dk_at dksX2_report_5 9 rfl rfl)
theorem dX2_report_129 : decode cX2_report 129 = .ok (.getfield 486, 3) := dk_180 1 230 (dk_at dksX2_report_5 10 rfl rfl)
theorem dX2_report_132 : decode cX2_report 132 = .ok (.ireturn, 1) := dk_172 (dk_at dksX2_report_5 13 rfl rfl)
abbrev cX2_writes : ByteArray := prog_22_method_114_code
def yX2_writes : MethodName := ⟨RX2, "writes", "(I)V"⟩
def dkwX2_writes_0 : List UInt8 := [42, 180, 0, 82, 42, 180, 1, 230, 27, 79, 42, 89, 180, 1, 230, 4, 96, 181, 1, 230, 177]
abbrev dktX2_writes_0 : List UInt8 := dkwX2_writes_0 ++ []
theorem dksX2_writes_0 : cX2_writes.data.toList.drop 0 = dktX2_writes_0 := by decide +kernel
theorem dX2_writes_0 : decode cX2_writes 0 = .ok (.aload_n 0, 1) := dk_42 (dk_at dksX2_writes_0 0 rfl rfl)
theorem dX2_writes_1 : decode cX2_writes 1 = .ok (.getfield 82, 3) := dk_180 0 82 (dk_at dksX2_writes_0 1 rfl rfl)
theorem dX2_writes_4 : decode cX2_writes 4 = .ok (.aload_n 0, 1) := dk_42 (dk_at dksX2_writes_0 4 rfl rfl)
theorem dX2_writes_5 : decode cX2_writes 5 = .ok (.getfield 486, 3) := dk_180 1 230 (dk_at dksX2_writes_0 5 rfl rfl)
theorem dX2_writes_8 : decode cX2_writes 8 = .ok (.iload_n 1, 1) := dk_27 (dk_at dksX2_writes_0 8 rfl rfl)
theorem dX2_writes_9 : decode cX2_writes 9 = .ok (.iastore, 1) := dk_79 (dk_at dksX2_writes_0 9 rfl rfl)
theorem dX2_writes_10 : decode cX2_writes 10 = .ok (.aload_n 0, 1) := dk_42 (dk_at dksX2_writes_0 10 rfl rfl)
theorem dX2_writes_11 : decode cX2_writes 11 = .ok (.dup, 1) := dk_89 (dk_at dksX2_writes_0 11 rfl rfl)
theorem dX2_writes_12 : decode cX2_writes 12 = .ok (.getfield 486, 3) := dk_180 1 230 (dk_at dksX2_writes_0 12 rfl rfl)
theorem dX2_writes_15 : decode cX2_writes 15 = .ok (.iconst 1, 1) := dk_4 (dk_at dksX2_writes_0 15 rfl rfl)
theorem dX2_writes_16 : decode cX2_writes 16 = .ok (.iadd, 1) := dk_96 (dk_at dksX2_writes_0 16 rfl rfl)
theorem dX2_writes_17 : decode cX2_writes 17 = .ok (.putfield 486, 3) := dk_181 1 230 (dk_at dksX2_writes_0 17 rfl rfl)
theorem dX2_writes_20 : decode cX2_writes 20 = .ok (.return_, 1) := dk_177 (dk_at dksX2_writes_0 20 rfl rfl)
abbrev cX2_writesNumber : ByteArray := prog_22_method_115_code
def yX2_writesNumber : MethodName := ⟨RX2, "writesNumber", "(I)V"⟩
def dkwX2_writesNumber_1 : List UInt8 := [16, 48, 27, 28, 108, 16, 10, 112, 96, 182, 1, 233, 28, 16, 10, 108, 61, 167, 255, 234, 177]
abbrev dktX2_writesNumber_1 : List UInt8 := dkwX2_writesNumber_1 ++ []
def dkwX2_writesNumber_0 : List UInt8 := [4, 61, 27, 28, 108, 16, 10, 161, 0, 11, 28, 16, 10, 104, 61, 167, 255, 243, 28, 158, 0, 24, 42]
abbrev dktX2_writesNumber_0 : List UInt8 := dkwX2_writesNumber_0 ++ dktX2_writesNumber_1
theorem dksX2_writesNumber_0 : cX2_writesNumber.data.toList.drop 0 = dktX2_writesNumber_0 := by decide +kernel
theorem dksX2_writesNumber_1 : cX2_writesNumber.data.toList.drop 23 = dktX2_writesNumber_1 := dk_seg dksX2_writesNumber_0 23 rfl rfl
theorem dX2_writesNumber_0 : decode cX2_writesNumber 0 = .ok (.iconst 1, 1) := dk_4 (dk_at dksX2_writesNumber_0 0 rfl rfl)
theorem dX2_writesNumber_1 : decode cX2_writesNumber 1 = .ok (.istore_n 2, 1) := dk_61 (dk_at dksX2_writesNumber_0 1 rfl rfl)
theorem dX2_writesNumber_2 : decode cX2_writesNumber 2 = .ok (.iload_n 1, 1) := dk_27 (dk_at dksX2_writesNumber_0 2 rfl rfl)
theorem dX2_writesNumber_3 : decode cX2_writesNumber 3 = .ok (.iload_n 2, 1) := dk_28 (dk_at dksX2_writesNumber_0 3 rfl rfl)
theorem dX2_writesNumber_4 : decode cX2_writesNumber 4 = .ok (.idiv, 1) := dk_108 (dk_at dksX2_writesNumber_0 4 rfl rfl)
theorem dX2_writesNumber_5 : decode cX2_writesNumber 5 = .ok (.bipush 10, 2) := dk_16 10 (dk_at dksX2_writesNumber_0 5 rfl rfl)
theorem dX2_writesNumber_7 : decode cX2_writesNumber 7 = .ok (.if_icmp .lt 11, 3) := dk_161 0 11 (dk_at dksX2_writesNumber_0 7 rfl rfl)
theorem dX2_writesNumber_10 : decode cX2_writesNumber 10 = .ok (.iload_n 2, 1) := dk_28 (dk_at dksX2_writesNumber_0 10 rfl rfl)
theorem dX2_writesNumber_11 : decode cX2_writesNumber 11 = .ok (.bipush 10, 2) := dk_16 10 (dk_at dksX2_writesNumber_0 11 rfl rfl)
theorem dX2_writesNumber_13 : decode cX2_writesNumber 13 = .ok (.imul, 1) := dk_104 (dk_at dksX2_writesNumber_0 13 rfl rfl)
theorem dX2_writesNumber_14 : decode cX2_writesNumber 14 = .ok (.istore_n 2, 1) := dk_61 (dk_at dksX2_writesNumber_0 14 rfl rfl)
theorem dX2_writesNumber_15 : decode cX2_writesNumber 15 = .ok (.goto (-13), 3) := dk_167 255 243 (dk_at dksX2_writesNumber_0 15 rfl rfl)
theorem dX2_writesNumber_18 : decode cX2_writesNumber 18 = .ok (.iload_n 2, 1) := dk_28 (dk_at dksX2_writesNumber_0 18 rfl rfl)
theorem dX2_writesNumber_19 : decode cX2_writesNumber 19 = .ok (.ifCond .le 24, 3) := dk_158 0 24 (dk_at dksX2_writesNumber_0 19 rfl rfl)
theorem dX2_writesNumber_22 : decode cX2_writesNumber 22 = .ok (.aload_n 0, 1) := dk_42 (dk_at dksX2_writesNumber_0 22 rfl rfl)
theorem dX2_writesNumber_23 : decode cX2_writesNumber 23 = .ok (.bipush 48, 2) := dk_16 48 (dk_at dksX2_writesNumber_1 0 rfl rfl)
theorem dX2_writesNumber_25 : decode cX2_writesNumber 25 = .ok (.iload_n 1, 1) := dk_27 (dk_at dksX2_writesNumber_1 2 rfl rfl)
theorem dX2_writesNumber_26 : decode cX2_writesNumber 26 = .ok (.iload_n 2, 1) := dk_28 (dk_at dksX2_writesNumber_1 3 rfl rfl)
theorem dX2_writesNumber_27 : decode cX2_writesNumber 27 = .ok (.idiv, 1) := dk_108 (dk_at dksX2_writesNumber_1 4 rfl rfl)
theorem dX2_writesNumber_28 : decode cX2_writesNumber 28 = .ok (.bipush 10, 2) := dk_16 10 (dk_at dksX2_writesNumber_1 5 rfl rfl)
theorem dX2_writesNumber_30 : decode cX2_writesNumber 30 = .ok (.irem, 1) := dk_112 (dk_at dksX2_writesNumber_1 7 rfl rfl)
theorem dX2_writesNumber_31 : decode cX2_writesNumber 31 = .ok (.iadd, 1) := dk_96 (dk_at dksX2_writesNumber_1 8 rfl rfl)
theorem dX2_writesNumber_32 : decode cX2_writesNumber 32 = .ok (.invokevirtual 489, 3) := dk_182 1 233 (dk_at dksX2_writesNumber_1 9 rfl rfl)
theorem dX2_writesNumber_35 : decode cX2_writesNumber 35 = .ok (.iload_n 2, 1) := dk_28 (dk_at dksX2_writesNumber_1 12 rfl rfl)
theorem dX2_writesNumber_36 : decode cX2_writesNumber 36 = .ok (.bipush 10, 2) := dk_16 10 (dk_at dksX2_writesNumber_1 13 rfl rfl)
theorem dX2_writesNumber_38 : decode cX2_writesNumber 38 = .ok (.idiv, 1) := dk_108 (dk_at dksX2_writesNumber_1 15 rfl rfl)
theorem dX2_writesNumber_39 : decode cX2_writesNumber 39 = .ok (.istore_n 2, 1) := dk_61 (dk_at dksX2_writesNumber_1 16 rfl rfl)
theorem dX2_writesNumber_40 : decode cX2_writesNumber 40 = .ok (.goto (-22), 3) := dk_167 255 234 (dk_at dksX2_writesNumber_1 17 rfl rfl)
theorem dX2_writesNumber_43 : decode cX2_writesNumber 43 = .ok (.return_, 1) := dk_177 (dk_at dksX2_writesNumber_1 20 rfl rfl)
abbrev cX2_reportByte : ByteArray := prog_22_method_117_code
def yX2_reportByte : MethodName := ⟨RX2, "reportByte", "(I)I"⟩
def dkwX2_reportByte_1 : List UInt8 := [180, 0, 85, 154, 0, 12, 42, 180, 0, 82, 27, 46, 167, 0, 4, 3, 172]
abbrev dktX2_reportByte_1 : List UInt8 := dkwX2_reportByte_1 ++ []
def dkwX2_reportByte_0 : List UInt8 := [42, 27, 3, 42, 180, 1, 230, 4, 100, 184, 0, 114, 153, 0, 7, 3, 167, 0, 4, 4, 181, 0, 85, 42]
abbrev dktX2_reportByte_0 : List UInt8 := dkwX2_reportByte_0 ++ dktX2_reportByte_1
theorem dksX2_reportByte_0 : cX2_reportByte.data.toList.drop 0 = dktX2_reportByte_0 := by decide +kernel
theorem dksX2_reportByte_1 : cX2_reportByte.data.toList.drop 24 = dktX2_reportByte_1 := dk_seg dksX2_reportByte_0 24 rfl rfl
theorem dX2_reportByte_0 : decode cX2_reportByte 0 = .ok (.aload_n 0, 1) := dk_42 (dk_at dksX2_reportByte_0 0 rfl rfl)
theorem dX2_reportByte_1 : decode cX2_reportByte 1 = .ok (.iload_n 1, 1) := dk_27 (dk_at dksX2_reportByte_0 1 rfl rfl)
theorem dX2_reportByte_2 : decode cX2_reportByte 2 = .ok (.iconst 0, 1) := dk_3 (dk_at dksX2_reportByte_0 2 rfl rfl)
theorem dX2_reportByte_3 : decode cX2_reportByte 3 = .ok (.aload_n 0, 1) := dk_42 (dk_at dksX2_reportByte_0 3 rfl rfl)
theorem dX2_reportByte_4 : decode cX2_reportByte 4 = .ok (.getfield 486, 3) := dk_180 1 230 (dk_at dksX2_reportByte_0 4 rfl rfl)
theorem dX2_reportByte_7 : decode cX2_reportByte 7 = .ok (.iconst 1, 1) := dk_4 (dk_at dksX2_reportByte_0 7 rfl rfl)
theorem dX2_reportByte_8 : decode cX2_reportByte 8 = .ok (.isub, 1) := dk_100 (dk_at dksX2_reportByte_0 8 rfl rfl)
theorem dX2_reportByte_9 : decode cX2_reportByte 9 = .ok (.invokestatic 114, 3) := dk_184 0 114 (dk_at dksX2_reportByte_0 9 rfl rfl)
theorem dX2_reportByte_12 : decode cX2_reportByte 12 = .ok (.ifCond .eq 7, 3) := dk_153 0 7 (dk_at dksX2_reportByte_0 12 rfl rfl)
theorem dX2_reportByte_15 : decode cX2_reportByte 15 = .ok (.iconst 0, 1) := dk_3 (dk_at dksX2_reportByte_0 15 rfl rfl)
theorem dX2_reportByte_16 : decode cX2_reportByte 16 = .ok (.goto 4, 3) := dk_167 0 4 (dk_at dksX2_reportByte_0 16 rfl rfl)
theorem dX2_reportByte_19 : decode cX2_reportByte 19 = .ok (.iconst 1, 1) := dk_4 (dk_at dksX2_reportByte_0 19 rfl rfl)
theorem dX2_reportByte_20 : decode cX2_reportByte 20 = .ok (.putfield 85, 3) := dk_181 0 85 (dk_at dksX2_reportByte_0 20 rfl rfl)
theorem dX2_reportByte_23 : decode cX2_reportByte 23 = .ok (.aload_n 0, 1) := dk_42 (dk_at dksX2_reportByte_0 23 rfl rfl)
theorem dX2_reportByte_24 : decode cX2_reportByte 24 = .ok (.getfield 85, 3) := dk_180 0 85 (dk_at dksX2_reportByte_1 0 rfl rfl)
theorem dX2_reportByte_27 : decode cX2_reportByte 27 = .ok (.ifCond .ne 12, 3) := dk_154 0 12 (dk_at dksX2_reportByte_1 3 rfl rfl)
theorem dX2_reportByte_30 : decode cX2_reportByte 30 = .ok (.aload_n 0, 1) := dk_42 (dk_at dksX2_reportByte_1 6 rfl rfl)
theorem dX2_reportByte_31 : decode cX2_reportByte 31 = .ok (.getfield 82, 3) := dk_180 0 82 (dk_at dksX2_reportByte_1 7 rfl rfl)
theorem dX2_reportByte_34 : decode cX2_reportByte 34 = .ok (.iload_n 1, 1) := dk_27 (dk_at dksX2_reportByte_1 10 rfl rfl)
theorem dX2_reportByte_35 : decode cX2_reportByte 35 = .ok (.iaload, 1) := dk_46 (dk_at dksX2_reportByte_1 11 rfl rfl)
theorem dX2_reportByte_36 : decode cX2_reportByte 36 = .ok (.goto 4, 3) := dk_167 0 4 (dk_at dksX2_reportByte_1 12 rfl rfl)
theorem dX2_reportByte_39 : decode cX2_reportByte 39 = .ok (.iconst 0, 1) := dk_3 (dk_at dksX2_reportByte_1 15 rfl rfl)
theorem dX2_reportByte_40 : decode cX2_reportByte 40 = .ok (.ireturn, 1) := dk_172 (dk_at dksX2_reportByte_1 16 rfl rfl)
abbrev cX2_offeredChannel : ByteArray := prog_22_method_120_code
def yX2_offeredChannel : MethodName := ⟨RX2, "offeredChannel", "(I)I"⟩
def dkwX2_offeredChannel_0 : List UInt8 := [42, 27, 182, 1, 242, 153, 0, 10, 42, 180, 1, 132, 167, 0, 4, 3, 172]
abbrev dktX2_offeredChannel_0 : List UInt8 := dkwX2_offeredChannel_0 ++ []
theorem dksX2_offeredChannel_0 : cX2_offeredChannel.data.toList.drop 0 = dktX2_offeredChannel_0 := by decide +kernel
theorem dX2_offeredChannel_0 : decode cX2_offeredChannel 0 = .ok (.aload_n 0, 1) := dk_42 (dk_at dksX2_offeredChannel_0 0 rfl rfl)
theorem dX2_offeredChannel_1 : decode cX2_offeredChannel 1 = .ok (.iload_n 1, 1) := dk_27 (dk_at dksX2_offeredChannel_0 1 rfl rfl)
theorem dX2_offeredChannel_2 : decode cX2_offeredChannel 2 = .ok (.invokevirtual 498, 3) := dk_182 1 242 (dk_at dksX2_offeredChannel_0 2 rfl rfl)
theorem dX2_offeredChannel_5 : decode cX2_offeredChannel 5 = .ok (.ifCond .eq 10, 3) := dk_153 0 10 (dk_at dksX2_offeredChannel_0 5 rfl rfl)
theorem dX2_offeredChannel_8 : decode cX2_offeredChannel 8 = .ok (.aload_n 0, 1) := dk_42 (dk_at dksX2_offeredChannel_0 8 rfl rfl)
theorem dX2_offeredChannel_9 : decode cX2_offeredChannel 9 = .ok (.getfield 388, 3) := dk_180 1 132 (dk_at dksX2_offeredChannel_0 9 rfl rfl)
theorem dX2_offeredChannel_12 : decode cX2_offeredChannel 12 = .ok (.goto 4, 3) := dk_167 0 4 (dk_at dksX2_offeredChannel_0 12 rfl rfl)
theorem dX2_offeredChannel_15 : decode cX2_offeredChannel 15 = .ok (.iconst 0, 1) := dk_3 (dk_at dksX2_offeredChannel_0 15 rfl rfl)
theorem dX2_offeredChannel_16 : decode cX2_offeredChannel 16 = .ok (.ireturn, 1) := dk_172 (dk_at dksX2_offeredChannel_0 16 rfl rfl)
abbrev cX2_offersTo : ByteArray := prog_22_method_119_code
def yX2_offersTo : MethodName := ⟨RX2, "offersTo", "(I)Z"⟩
def dkwX2_offersTo_1 : List UInt8 := [184, 1, 150, 42, 42, 180, 0, 29, 27, 182, 1, 180, 4, 172]
abbrev dktX2_offersTo_1 : List UInt8 := dkwX2_offersTo_1 ++ []
def dkwX2_offersTo_0 : List UInt8 := [42, 42, 27, 182, 1, 221, 182, 1, 205, 154, 0, 5, 3, 172, 42, 182, 1, 239, 42, 180, 0, 29, 27, 4]
abbrev dktX2_offersTo_0 : List UInt8 := dkwX2_offersTo_0 ++ dktX2_offersTo_1
theorem dksX2_offersTo_0 : cX2_offersTo.data.toList.drop 0 = dktX2_offersTo_0 := by decide +kernel
theorem dksX2_offersTo_1 : cX2_offersTo.data.toList.drop 24 = dktX2_offersTo_1 := dk_seg dksX2_offersTo_0 24 rfl rfl
theorem dX2_offersTo_0 : decode cX2_offersTo 0 = .ok (.aload_n 0, 1) := dk_42 (dk_at dksX2_offersTo_0 0 rfl rfl)
theorem dX2_offersTo_1 : decode cX2_offersTo 1 = .ok (.aload_n 0, 1) := dk_42 (dk_at dksX2_offersTo_0 1 rfl rfl)
theorem dX2_offersTo_2 : decode cX2_offersTo 2 = .ok (.iload_n 1, 1) := dk_27 (dk_at dksX2_offersTo_0 2 rfl rfl)
theorem dX2_offersTo_3 : decode cX2_offersTo 3 = .ok (.invokevirtual 477, 3) := dk_182 1 221 (dk_at dksX2_offersTo_0 3 rfl rfl)
theorem dX2_offersTo_6 : decode cX2_offersTo 6 = .ok (.invokevirtual 461, 3) := dk_182 1 205 (dk_at dksX2_offersTo_0 6 rfl rfl)
theorem dX2_offersTo_9 : decode cX2_offersTo 9 = .ok (.ifCond .ne 5, 3) := dk_154 0 5 (dk_at dksX2_offersTo_0 9 rfl rfl)
theorem dX2_offersTo_12 : decode cX2_offersTo 12 = .ok (.iconst 0, 1) := dk_3 (dk_at dksX2_offersTo_0 12 rfl rfl)
theorem dX2_offersTo_13 : decode cX2_offersTo 13 = .ok (.ireturn, 1) := dk_172 (dk_at dksX2_offersTo_0 13 rfl rfl)
theorem dX2_offersTo_14 : decode cX2_offersTo 14 = .ok (.aload_n 0, 1) := dk_42 (dk_at dksX2_offersTo_0 14 rfl rfl)
theorem dX2_offersTo_15 : decode cX2_offersTo 15 = .ok (.invokevirtual 495, 3) := dk_182 1 239 (dk_at dksX2_offersTo_0 15 rfl rfl)
theorem dX2_offersTo_18 : decode cX2_offersTo 18 = .ok (.aload_n 0, 1) := dk_42 (dk_at dksX2_offersTo_0 18 rfl rfl)
theorem dX2_offersTo_19 : decode cX2_offersTo 19 = .ok (.getfield 29, 3) := dk_180 0 29 (dk_at dksX2_offersTo_0 19 rfl rfl)
theorem dX2_offersTo_22 : decode cX2_offersTo 22 = .ok (.iload_n 1, 1) := dk_27 (dk_at dksX2_offersTo_0 22 rfl rfl)
theorem dX2_offersTo_23 : decode cX2_offersTo 23 = .ok (.iconst 1, 1) := dk_4 (dk_at dksX2_offersTo_0 23 rfl rfl)
theorem dX2_offersTo_24 : decode cX2_offersTo 24 = .ok (.invokestatic 406, 3) := dk_184 1 150 (dk_at dksX2_offersTo_1 0 rfl rfl)
theorem dX2_offersTo_27 : decode cX2_offersTo 27 = .ok (.aload_n 0, 1) := dk_42 (dk_at dksX2_offersTo_1 3 rfl rfl)
theorem dX2_offersTo_28 : decode cX2_offersTo 28 = .ok (.aload_n 0, 1) := dk_42 (dk_at dksX2_offersTo_1 4 rfl rfl)
theorem dX2_offersTo_29 : decode cX2_offersTo 29 = .ok (.getfield 29, 3) := dk_180 0 29 (dk_at dksX2_offersTo_1 5 rfl rfl)
theorem dX2_offersTo_32 : decode cX2_offersTo 32 = .ok (.iload_n 1, 1) := dk_27 (dk_at dksX2_offersTo_1 8 rfl rfl)
theorem dX2_offersTo_33 : decode cX2_offersTo 33 = .ok (.invokevirtual 436, 3) := dk_182 1 180 (dk_at dksX2_offersTo_1 9 rfl rfl)
theorem dX2_offersTo_36 : decode cX2_offersTo 36 = .ok (.iconst 1, 1) := dk_4 (dk_at dksX2_offersTo_1 12 rfl rfl)
theorem dX2_offersTo_37 : decode cX2_offersTo 37 = .ok (.ireturn, 1) := dk_172 (dk_at dksX2_offersTo_1 13 rfl rfl)
abbrev cX2_tries : ByteArray := prog_22_method_118_code
def yX2_tries : MethodName := ⟨RX2, "tries", "()V"⟩
def dkwX2_tries_0 : List UInt8 := [42, 180, 0, 23, 3, 42, 180, 0, 29, 3, 184, 1, 46, 177]
abbrev dktX2_tries_0 : List UInt8 := dkwX2_tries_0 ++ []
theorem dksX2_tries_0 : cX2_tries.data.toList.drop 0 = dktX2_tries_0 := by decide +kernel
theorem dX2_tries_0 : decode cX2_tries 0 = .ok (.aload_n 0, 1) := dk_42 (dk_at dksX2_tries_0 0 rfl rfl)
theorem dX2_tries_1 : decode cX2_tries 1 = .ok (.getfield 23, 3) := dk_180 0 23 (dk_at dksX2_tries_0 1 rfl rfl)
theorem dX2_tries_4 : decode cX2_tries 4 = .ok (.iconst 0, 1) := dk_3 (dk_at dksX2_tries_0 4 rfl rfl)
theorem dX2_tries_5 : decode cX2_tries 5 = .ok (.aload_n 0, 1) := dk_42 (dk_at dksX2_tries_0 5 rfl rfl)
theorem dX2_tries_6 : decode cX2_tries 6 = .ok (.getfield 29, 3) := dk_180 0 29 (dk_at dksX2_tries_0 6 rfl rfl)
theorem dX2_tries_9 : decode cX2_tries 9 = .ok (.iconst 0, 1) := dk_3 (dk_at dksX2_tries_0 9 rfl rfl)
theorem dX2_tries_10 : decode cX2_tries 10 = .ok (.invokestatic 302, 3) := dk_184 1 46 (dk_at dksX2_tries_0 10 rfl rfl)
theorem dX2_tries_13 : decode cX2_tries 13 = .ok (.return_, 1) := dk_177 (dk_at dksX2_tries_0 13 rfl rfl)
abbrev cX2_becomes : ByteArray := prog_22_method_68_code
def yX2_becomes : MethodName := ⟨RX2, "becomes", "([III)V"⟩
def dkwX2_becomes_1 : List UInt8 := [16, 38, 27, 96, 2, 79, 42, 16, 54, 27, 96, 3, 79, 177]
abbrev dktX2_becomes_1 : List UInt8 := dkwX2_becomes_1 ++ []
def dkwX2_becomes_0 : List UInt8 := [42, 16, 6, 27, 96, 28, 79, 42, 16, 22, 27, 96, 42, 3, 46, 79, 28, 5, 160, 0, 4, 177, 42]
abbrev dktX2_becomes_0 : List UInt8 := dkwX2_becomes_0 ++ dktX2_becomes_1
theorem dksX2_becomes_0 : cX2_becomes.data.toList.drop 0 = dktX2_becomes_0 := by decide +kernel
theorem dksX2_becomes_1 : cX2_becomes.data.toList.drop 23 = dktX2_becomes_1 := dk_seg dksX2_becomes_0 23 rfl rfl
theorem dX2_becomes_0 : decode cX2_becomes 0 = .ok (.aload_n 0, 1) := dk_42 (dk_at dksX2_becomes_0 0 rfl rfl)
theorem dX2_becomes_1 : decode cX2_becomes 1 = .ok (.bipush 6, 2) := dk_16 6 (dk_at dksX2_becomes_0 1 rfl rfl)
theorem dX2_becomes_3 : decode cX2_becomes 3 = .ok (.iload_n 1, 1) := dk_27 (dk_at dksX2_becomes_0 3 rfl rfl)
theorem dX2_becomes_4 : decode cX2_becomes 4 = .ok (.iadd, 1) := dk_96 (dk_at dksX2_becomes_0 4 rfl rfl)
theorem dX2_becomes_5 : decode cX2_becomes 5 = .ok (.iload_n 2, 1) := dk_28 (dk_at dksX2_becomes_0 5 rfl rfl)
theorem dX2_becomes_6 : decode cX2_becomes 6 = .ok (.iastore, 1) := dk_79 (dk_at dksX2_becomes_0 6 rfl rfl)
theorem dX2_becomes_7 : decode cX2_becomes 7 = .ok (.aload_n 0, 1) := dk_42 (dk_at dksX2_becomes_0 7 rfl rfl)
theorem dX2_becomes_8 : decode cX2_becomes 8 = .ok (.bipush 22, 2) := dk_16 22 (dk_at dksX2_becomes_0 8 rfl rfl)
theorem dX2_becomes_10 : decode cX2_becomes 10 = .ok (.iload_n 1, 1) := dk_27 (dk_at dksX2_becomes_0 10 rfl rfl)
theorem dX2_becomes_11 : decode cX2_becomes 11 = .ok (.iadd, 1) := dk_96 (dk_at dksX2_becomes_0 11 rfl rfl)
theorem dX2_becomes_12 : decode cX2_becomes 12 = .ok (.aload_n 0, 1) := dk_42 (dk_at dksX2_becomes_0 12 rfl rfl)
theorem dX2_becomes_13 : decode cX2_becomes 13 = .ok (.iconst 0, 1) := dk_3 (dk_at dksX2_becomes_0 13 rfl rfl)
theorem dX2_becomes_14 : decode cX2_becomes 14 = .ok (.iaload, 1) := dk_46 (dk_at dksX2_becomes_0 14 rfl rfl)
theorem dX2_becomes_15 : decode cX2_becomes 15 = .ok (.iastore, 1) := dk_79 (dk_at dksX2_becomes_0 15 rfl rfl)
theorem dX2_becomes_16 : decode cX2_becomes 16 = .ok (.iload_n 2, 1) := dk_28 (dk_at dksX2_becomes_0 16 rfl rfl)
theorem dX2_becomes_17 : decode cX2_becomes 17 = .ok (.iconst 2, 1) := dk_5 (dk_at dksX2_becomes_0 17 rfl rfl)
theorem dX2_becomes_18 : decode cX2_becomes 18 = .ok (.if_icmp .ne 4, 3) := dk_160 0 4 (dk_at dksX2_becomes_0 18 rfl rfl)
theorem dX2_becomes_21 : decode cX2_becomes 21 = .ok (.return_, 1) := dk_177 (dk_at dksX2_becomes_0 21 rfl rfl)
theorem dX2_becomes_22 : decode cX2_becomes 22 = .ok (.aload_n 0, 1) := dk_42 (dk_at dksX2_becomes_0 22 rfl rfl)
theorem dX2_becomes_23 : decode cX2_becomes 23 = .ok (.bipush 38, 2) := dk_16 38 (dk_at dksX2_becomes_1 0 rfl rfl)
theorem dX2_becomes_25 : decode cX2_becomes 25 = .ok (.iload_n 1, 1) := dk_27 (dk_at dksX2_becomes_1 2 rfl rfl)
theorem dX2_becomes_26 : decode cX2_becomes 26 = .ok (.iadd, 1) := dk_96 (dk_at dksX2_becomes_1 3 rfl rfl)
theorem dX2_becomes_27 : decode cX2_becomes 27 = .ok (.iconst (-1), 1) := dk_2 (dk_at dksX2_becomes_1 4 rfl rfl)
theorem dX2_becomes_28 : decode cX2_becomes 28 = .ok (.iastore, 1) := dk_79 (dk_at dksX2_becomes_1 5 rfl rfl)
theorem dX2_becomes_29 : decode cX2_becomes 29 = .ok (.aload_n 0, 1) := dk_42 (dk_at dksX2_becomes_1 6 rfl rfl)
theorem dX2_becomes_30 : decode cX2_becomes 30 = .ok (.bipush 54, 2) := dk_16 54 (dk_at dksX2_becomes_1 7 rfl rfl)
theorem dX2_becomes_32 : decode cX2_becomes 32 = .ok (.iload_n 1, 1) := dk_27 (dk_at dksX2_becomes_1 9 rfl rfl)
theorem dX2_becomes_33 : decode cX2_becomes 33 = .ok (.iadd, 1) := dk_96 (dk_at dksX2_becomes_1 10 rfl rfl)
theorem dX2_becomes_34 : decode cX2_becomes 34 = .ok (.iconst 0, 1) := dk_3 (dk_at dksX2_becomes_1 11 rfl rfl)
theorem dX2_becomes_35 : decode cX2_becomes 35 = .ok (.iastore, 1) := dk_79 (dk_at dksX2_becomes_1 12 rfl rfl)
theorem dX2_becomes_36 : decode cX2_becomes 36 = .ok (.return_, 1) := dk_177 (dk_at dksX2_becomes_1 13 rfl rfl)
abbrev cX2_offers : ByteArray := prog_22_method_66_code
def yX2_offers : MethodName := ⟨RX2, "offers", "([II)V"⟩
def dkwX2_offers_3 : List UInt8 := [167, 0, 14, 42, 29, 181, 1, 132, 42, 21, 4, 181, 1, 135, 132, 3, 1, 167, 255, 200, 177]
abbrev dktX2_offers_3 : List UInt8 := dkwX2_offers_3 ++ []
def dkwX2_offers_2 : List UInt8 := [54, 4, 21, 4, 42, 180, 0, 17, 8, 46, 161, 0, 26, 21, 4, 42, 180, 1, 135, 163, 0, 6]
abbrev dktX2_offers_2 : List UInt8 := dkwX2_offers_2 ++ dktX2_offers_3
def dkwX2_offers_1 : List UInt8 := [3, 182, 1, 138, 3, 62, 29, 42, 180, 0, 17, 5, 46, 162, 0, 52, 42, 43, 28, 29, 182, 1, 142]
abbrev dktX2_offers_1 : List UInt8 := dkwX2_offers_1 ++ dktX2_offers_2
def dkwX2_offers_0 : List UInt8 := [42, 2, 181, 1, 132, 42, 3, 181, 1, 135, 42, 43, 42, 28, 182, 1, 4, 153, 0, 7, 5, 167, 0, 4]
abbrev dktX2_offers_0 : List UInt8 := dkwX2_offers_0 ++ dktX2_offers_1
theorem dksX2_offers_0 : cX2_offers.data.toList.drop 0 = dktX2_offers_0 := by decide +kernel
theorem dksX2_offers_1 : cX2_offers.data.toList.drop 24 = dktX2_offers_1 := dk_seg dksX2_offers_0 24 rfl rfl
theorem dksX2_offers_2 : cX2_offers.data.toList.drop 47 = dktX2_offers_2 := dk_seg dksX2_offers_1 23 rfl rfl
theorem dksX2_offers_3 : cX2_offers.data.toList.drop 69 = dktX2_offers_3 := dk_seg dksX2_offers_2 22 rfl rfl
theorem dX2_offers_0 : decode cX2_offers 0 = .ok (.aload_n 0, 1) := dk_42 (dk_at dksX2_offers_0 0 rfl rfl)
theorem dX2_offers_1 : decode cX2_offers 1 = .ok (.iconst (-1), 1) := dk_2 (dk_at dksX2_offers_0 1 rfl rfl)
theorem dX2_offers_2 : decode cX2_offers 2 = .ok (.putfield 388, 3) := dk_181 1 132 (dk_at dksX2_offers_0 2 rfl rfl)
theorem dX2_offers_5 : decode cX2_offers 5 = .ok (.aload_n 0, 1) := dk_42 (dk_at dksX2_offers_0 5 rfl rfl)
theorem dX2_offers_6 : decode cX2_offers 6 = .ok (.iconst 0, 1) := dk_3 (dk_at dksX2_offers_0 6 rfl rfl)
theorem dX2_offers_7 : decode cX2_offers 7 = .ok (.putfield 391, 3) := dk_181 1 135 (dk_at dksX2_offers_0 7 rfl rfl)
theorem dX2_offers_10 : decode cX2_offers 10 = .ok (.aload_n 0, 1) := dk_42 (dk_at dksX2_offers_0 10 rfl rfl)
theorem dX2_offers_11 : decode cX2_offers 11 = .ok (.aload_n 1, 1) := dk_43 (dk_at dksX2_offers_0 11 rfl rfl)
theorem dX2_offers_12 : decode cX2_offers 12 = .ok (.aload_n 0, 1) := dk_42 (dk_at dksX2_offers_0 12 rfl rfl)
theorem dX2_offers_13 : decode cX2_offers 13 = .ok (.iload_n 2, 1) := dk_28 (dk_at dksX2_offers_0 13 rfl rfl)
theorem dX2_offers_14 : decode cX2_offers 14 = .ok (.invokevirtual 260, 3) := dk_182 1 4 (dk_at dksX2_offers_0 14 rfl rfl)
theorem dX2_offers_17 : decode cX2_offers 17 = .ok (.ifCond .eq 7, 3) := dk_153 0 7 (dk_at dksX2_offers_0 17 rfl rfl)
theorem dX2_offers_20 : decode cX2_offers 20 = .ok (.iconst 2, 1) := dk_5 (dk_at dksX2_offers_0 20 rfl rfl)
theorem dX2_offers_21 : decode cX2_offers 21 = .ok (.goto 4, 3) := dk_167 0 4 (dk_at dksX2_offers_0 21 rfl rfl)
theorem dX2_offers_24 : decode cX2_offers 24 = .ok (.iconst 0, 1) := dk_3 (dk_at dksX2_offers_1 0 rfl rfl)
theorem dX2_offers_25 : decode cX2_offers 25 = .ok (.invokevirtual 394, 3) := dk_182 1 138 (dk_at dksX2_offers_1 1 rfl rfl)
theorem dX2_offers_28 : decode cX2_offers 28 = .ok (.iconst 0, 1) := dk_3 (dk_at dksX2_offers_1 4 rfl rfl)
theorem dX2_offers_29 : decode cX2_offers 29 = .ok (.istore_n 3, 1) := dk_62 (dk_at dksX2_offers_1 5 rfl rfl)
theorem dX2_offers_30 : decode cX2_offers 30 = .ok (.iload_n 3, 1) := dk_29 (dk_at dksX2_offers_1 6 rfl rfl)
theorem dX2_offers_31 : decode cX2_offers 31 = .ok (.aload_n 0, 1) := dk_42 (dk_at dksX2_offers_1 7 rfl rfl)
theorem dX2_offers_32 : decode cX2_offers 32 = .ok (.getfield 17, 3) := dk_180 0 17 (dk_at dksX2_offers_1 8 rfl rfl)
theorem dX2_offers_35 : decode cX2_offers 35 = .ok (.iconst 2, 1) := dk_5 (dk_at dksX2_offers_1 11 rfl rfl)
theorem dX2_offers_36 : decode cX2_offers 36 = .ok (.iaload, 1) := dk_46 (dk_at dksX2_offers_1 12 rfl rfl)
theorem dX2_offers_37 : decode cX2_offers 37 = .ok (.if_icmp .ge 52, 3) := dk_162 0 52 (dk_at dksX2_offers_1 13 rfl rfl)
theorem dX2_offers_40 : decode cX2_offers 40 = .ok (.aload_n 0, 1) := dk_42 (dk_at dksX2_offers_1 16 rfl rfl)
theorem dX2_offers_41 : decode cX2_offers 41 = .ok (.aload_n 1, 1) := dk_43 (dk_at dksX2_offers_1 17 rfl rfl)
theorem dX2_offers_42 : decode cX2_offers 42 = .ok (.iload_n 2, 1) := dk_28 (dk_at dksX2_offers_1 18 rfl rfl)
theorem dX2_offers_43 : decode cX2_offers 43 = .ok (.iload_n 3, 1) := dk_29 (dk_at dksX2_offers_1 19 rfl rfl)
theorem dX2_offers_44 : decode cX2_offers 44 = .ok (.invokevirtual 398, 3) := dk_182 1 142 (dk_at dksX2_offers_1 20 rfl rfl)
theorem dX2_offers_47 : decode cX2_offers 47 = .ok (.istore 4, 2) := dk_54 4 (dk_at dksX2_offers_2 0 rfl rfl)
theorem dX2_offers_49 : decode cX2_offers 49 = .ok (.iload 4, 2) := dk_21 4 (dk_at dksX2_offers_2 2 rfl rfl)
theorem dX2_offers_51 : decode cX2_offers 51 = .ok (.aload_n 0, 1) := dk_42 (dk_at dksX2_offers_2 4 rfl rfl)
theorem dX2_offers_52 : decode cX2_offers 52 = .ok (.getfield 17, 3) := dk_180 0 17 (dk_at dksX2_offers_2 5 rfl rfl)
theorem dX2_offers_55 : decode cX2_offers 55 = .ok (.iconst 5, 1) := dk_8 (dk_at dksX2_offers_2 8 rfl rfl)
theorem dX2_offers_56 : decode cX2_offers 56 = .ok (.iaload, 1) := dk_46 (dk_at dksX2_offers_2 9 rfl rfl)
theorem dX2_offers_57 : decode cX2_offers 57 = .ok (.if_icmp .lt 26, 3) := dk_161 0 26 (dk_at dksX2_offers_2 10 rfl rfl)
theorem dX2_offers_60 : decode cX2_offers 60 = .ok (.iload 4, 2) := dk_21 4 (dk_at dksX2_offers_2 13 rfl rfl)
theorem dX2_offers_62 : decode cX2_offers 62 = .ok (.aload_n 0, 1) := dk_42 (dk_at dksX2_offers_2 15 rfl rfl)
theorem dX2_offers_63 : decode cX2_offers 63 = .ok (.getfield 391, 3) := dk_180 1 135 (dk_at dksX2_offers_2 16 rfl rfl)
theorem dX2_offers_66 : decode cX2_offers 66 = .ok (.if_icmp .gt 6, 3) := dk_163 0 6 (dk_at dksX2_offers_2 19 rfl rfl)
theorem dX2_offers_69 : decode cX2_offers 69 = .ok (.goto 14, 3) := dk_167 0 14 (dk_at dksX2_offers_3 0 rfl rfl)
theorem dX2_offers_72 : decode cX2_offers 72 = .ok (.aload_n 0, 1) := dk_42 (dk_at dksX2_offers_3 3 rfl rfl)
theorem dX2_offers_73 : decode cX2_offers 73 = .ok (.iload_n 3, 1) := dk_29 (dk_at dksX2_offers_3 4 rfl rfl)
theorem dX2_offers_74 : decode cX2_offers 74 = .ok (.putfield 388, 3) := dk_181 1 132 (dk_at dksX2_offers_3 5 rfl rfl)
theorem dX2_offers_77 : decode cX2_offers 77 = .ok (.aload_n 0, 1) := dk_42 (dk_at dksX2_offers_3 8 rfl rfl)
theorem dX2_offers_78 : decode cX2_offers 78 = .ok (.iload 4, 2) := dk_21 4 (dk_at dksX2_offers_3 9 rfl rfl)
theorem dX2_offers_80 : decode cX2_offers 80 = .ok (.putfield 391, 3) := dk_181 1 135 (dk_at dksX2_offers_3 11 rfl rfl)
theorem dX2_offers_83 : decode cX2_offers 83 = .ok (.iinc 3 1, 3) := dk_132 3 1 (dk_at dksX2_offers_3 14 rfl rfl)
theorem dX2_offers_86 : decode cX2_offers 86 = .ok (.goto (-56), 3) := dk_167 255 200 (dk_at dksX2_offers_3 17 rfl rfl)
theorem dX2_offers_89 : decode cX2_offers 89 = .ok (.return_, 1) := dk_177 (dk_at dksX2_offers_3 20 rfl rfl)
abbrev cX2_laysRooms : ByteArray := prog_22_method_61_code
def yX2_laysRooms : MethodName := ⟨RX2, "laysRooms", "([II)V"⟩
def dkwX2_laysRooms_13 : List UInt8 := [96, 46, 6, 182, 1, 117, 100, 79, 132, 3, 1, 167, 255, 181, 177]
abbrev dktX2_laysRooms_13 : List UInt8 := dkwX2_laysRooms_13 ++ []
def dkwX2_laysRooms_12 : List UInt8 := [42, 43, 42, 180, 0, 17, 16, 54, 29, 96, 46, 42, 180, 0, 17, 16, 70, 29, 96, 46, 43, 16, 38, 29]
abbrev dktX2_laysRooms_12 : List UInt8 := dkwX2_laysRooms_12 ++ dktX2_laysRooms_13
def dkwX2_laysRooms_11 : List UInt8 := [153, 0, 56, 43, 16, 6, 29, 96, 46, 5, 160, 0, 46, 42, 180, 0, 73, 29, 42, 180, 0, 17, 7, 46]
abbrev dktX2_laysRooms_11 : List UInt8 := dkwX2_laysRooms_11 ++ dktX2_laysRooms_12
def dkwX2_laysRooms_10 : List UInt8 := [132, 3, 1, 167, 255, 114, 3, 62, 29, 42, 180, 0, 17, 16, 10, 46, 162, 0, 70, 42, 29, 182, 1, 4]
abbrev dktX2_laysRooms_10 : List UInt8 := dkwX2_laysRooms_10 ++ dktX2_laysRooms_11
def dkwX2_laysRooms_9 : List UInt8 := [182, 1, 70, 153, 0, 15, 42, 43, 21, 5, 29, 42, 180, 1, 111, 182, 1, 101, 132, 5, 1, 167, 255, 199]
abbrev dktX2_laysRooms_9 : List UInt8 := dkwX2_laysRooms_9 ++ dktX2_laysRooms_10
def dkwX2_laysRooms_8 : List UInt8 := [180, 0, 76, 29, 51, 153, 0, 42, 43, 16, 6, 21, 5, 96, 46, 5, 160, 0, 25, 42, 21, 5, 28]
abbrev dktX2_laysRooms_8 : List UInt8 := dkwX2_laysRooms_8 ++ dktX2_laysRooms_9
def dkwX2_laysRooms_7 : List UInt8 := [132, 5, 1, 167, 255, 219, 3, 54, 5, 21, 5, 42, 180, 0, 17, 16, 10, 46, 162, 0, 51, 42]
abbrev dktX2_laysRooms_7 : List UInt8 := dkwX2_laysRooms_7 ++ dktX2_laysRooms_8
def dkwX2_laysRooms_6 : List UInt8 := [42, 180, 0, 70, 42, 180, 1, 111, 16, 8, 29, 104, 96, 21, 5, 96, 43, 21, 4, 7, 96, 46, 79]
abbrev dktX2_laysRooms_6 : List UInt8 := dkwX2_laysRooms_6 ++ dktX2_laysRooms_7
def dkwX2_laysRooms_5 : List UInt8 := [29, 104, 96, 54, 4, 43, 21, 4, 5, 96, 46, 54, 5, 21, 5, 43, 21, 4, 6, 96, 46, 163, 0, 32]
abbrev dktX2_laysRooms_5 : List UInt8 := dkwX2_laysRooms_5 ++ dktX2_laysRooms_6
def dkwX2_laysRooms_4 : List UInt8 := [62, 29, 43, 7, 46, 162, 0, 141, 42, 180, 0, 76, 29, 42, 43, 29, 182, 1, 114, 84, 16, 118, 16, 8]
abbrev dktX2_laysRooms_4 : List UInt8 := dkwX2_laysRooms_4 ++ dktX2_laysRooms_5
def dkwX2_laysRooms_3 : List UInt8 := [153, 0, 19, 42, 180, 1, 108, 154, 0, 8, 28, 5, 160, 0, 7, 4, 167, 0, 4, 3, 181, 1, 108, 3]
abbrev dktX2_laysRooms_3 : List UInt8 := dkwX2_laysRooms_3 ++ dktX2_laysRooms_4
def dkwX2_laysRooms_2 : List UInt8 := [180, 1, 98, 154, 0, 8, 28, 5, 159, 0, 7, 4, 167, 0, 4, 3, 181, 1, 98, 42, 42, 180, 1, 105]
abbrev dktX2_laysRooms_2 : List UInt8 := dkwX2_laysRooms_2 ++ dktX2_laysRooms_3
def dkwX2_laysRooms_1 : List UInt8 := [153, 0, 14, 167, 0, 10, 42, 180, 1, 98, 153, 0, 4, 177, 42, 42, 180, 1, 105, 153, 0, 19, 42]
abbrev dktX2_laysRooms_1 : List UInt8 := dkwX2_laysRooms_1 ++ dktX2_laysRooms_2
def dkwX2_laysRooms_0 : List UInt8 := [42, 28, 5, 160, 0, 8, 16, 80, 167, 0, 4, 3, 181, 1, 111, 28, 5, 160, 0, 13, 42, 180, 1, 108]
abbrev dktX2_laysRooms_0 : List UInt8 := dkwX2_laysRooms_0 ++ dktX2_laysRooms_1
theorem dksX2_laysRooms_0 : cX2_laysRooms.data.toList.drop 0 = dktX2_laysRooms_0 := by decide +kernel
theorem dksX2_laysRooms_1 : cX2_laysRooms.data.toList.drop 24 = dktX2_laysRooms_1 := dk_seg dksX2_laysRooms_0 24 rfl rfl
theorem dksX2_laysRooms_2 : cX2_laysRooms.data.toList.drop 47 = dktX2_laysRooms_2 := dk_seg dksX2_laysRooms_1 23 rfl rfl
theorem dksX2_laysRooms_3 : cX2_laysRooms.data.toList.drop 71 = dktX2_laysRooms_3 := dk_seg dksX2_laysRooms_2 24 rfl rfl
theorem dksX2_laysRooms_4 : cX2_laysRooms.data.toList.drop 95 = dktX2_laysRooms_4 := dk_seg dksX2_laysRooms_3 24 rfl rfl
theorem dksX2_laysRooms_5 : cX2_laysRooms.data.toList.drop 119 = dktX2_laysRooms_5 := dk_seg dksX2_laysRooms_4 24 rfl rfl
theorem dksX2_laysRooms_6 : cX2_laysRooms.data.toList.drop 143 = dktX2_laysRooms_6 := dk_seg dksX2_laysRooms_5 24 rfl rfl
theorem dksX2_laysRooms_7 : cX2_laysRooms.data.toList.drop 166 = dktX2_laysRooms_7 := dk_seg dksX2_laysRooms_6 23 rfl rfl
theorem dksX2_laysRooms_8 : cX2_laysRooms.data.toList.drop 188 = dktX2_laysRooms_8 := dk_seg dksX2_laysRooms_7 22 rfl rfl
theorem dksX2_laysRooms_9 : cX2_laysRooms.data.toList.drop 211 = dktX2_laysRooms_9 := dk_seg dksX2_laysRooms_8 23 rfl rfl
theorem dksX2_laysRooms_10 : cX2_laysRooms.data.toList.drop 235 = dktX2_laysRooms_10 := dk_seg dksX2_laysRooms_9 24 rfl rfl
theorem dksX2_laysRooms_11 : cX2_laysRooms.data.toList.drop 259 = dktX2_laysRooms_11 := dk_seg dksX2_laysRooms_10 24 rfl rfl
theorem dksX2_laysRooms_12 : cX2_laysRooms.data.toList.drop 283 = dktX2_laysRooms_12 := dk_seg dksX2_laysRooms_11 24 rfl rfl
theorem dksX2_laysRooms_13 : cX2_laysRooms.data.toList.drop 307 = dktX2_laysRooms_13 := dk_seg dksX2_laysRooms_12 24 rfl rfl
theorem dX2_laysRooms_0 : decode cX2_laysRooms 0 = .ok (.aload_n 0, 1) := dk_42 (dk_at dksX2_laysRooms_0 0 rfl rfl)
theorem dX2_laysRooms_1 : decode cX2_laysRooms 1 = .ok (.iload_n 2, 1) := dk_28 (dk_at dksX2_laysRooms_0 1 rfl rfl)
theorem dX2_laysRooms_2 : decode cX2_laysRooms 2 = .ok (.iconst 2, 1) := dk_5 (dk_at dksX2_laysRooms_0 2 rfl rfl)
theorem dX2_laysRooms_3 : decode cX2_laysRooms 3 = .ok (.if_icmp .ne 8, 3) := dk_160 0 8 (dk_at dksX2_laysRooms_0 3 rfl rfl)
theorem dX2_laysRooms_6 : decode cX2_laysRooms 6 = .ok (.bipush 80, 2) := dk_16 80 (dk_at dksX2_laysRooms_0 6 rfl rfl)
theorem dX2_laysRooms_8 : decode cX2_laysRooms 8 = .ok (.goto 4, 3) := dk_167 0 4 (dk_at dksX2_laysRooms_0 8 rfl rfl)
theorem dX2_laysRooms_11 : decode cX2_laysRooms 11 = .ok (.iconst 0, 1) := dk_3 (dk_at dksX2_laysRooms_0 11 rfl rfl)
theorem dX2_laysRooms_12 : decode cX2_laysRooms 12 = .ok (.putfield 367, 3) := dk_181 1 111 (dk_at dksX2_laysRooms_0 12 rfl rfl)
theorem dX2_laysRooms_15 : decode cX2_laysRooms 15 = .ok (.iload_n 2, 1) := dk_28 (dk_at dksX2_laysRooms_0 15 rfl rfl)
theorem dX2_laysRooms_16 : decode cX2_laysRooms 16 = .ok (.iconst 2, 1) := dk_5 (dk_at dksX2_laysRooms_0 16 rfl rfl)
theorem dX2_laysRooms_17 : decode cX2_laysRooms 17 = .ok (.if_icmp .ne 13, 3) := dk_160 0 13 (dk_at dksX2_laysRooms_0 17 rfl rfl)
theorem dX2_laysRooms_20 : decode cX2_laysRooms 20 = .ok (.aload_n 0, 1) := dk_42 (dk_at dksX2_laysRooms_0 20 rfl rfl)
theorem dX2_laysRooms_21 : decode cX2_laysRooms 21 = .ok (.getfield 364, 3) := dk_180 1 108 (dk_at dksX2_laysRooms_0 21 rfl rfl)
theorem dX2_laysRooms_24 : decode cX2_laysRooms 24 = .ok (.ifCond .eq 14, 3) := dk_153 0 14 (dk_at dksX2_laysRooms_1 0 rfl rfl)
theorem dX2_laysRooms_27 : decode cX2_laysRooms 27 = .ok (.goto 10, 3) := dk_167 0 10 (dk_at dksX2_laysRooms_1 3 rfl rfl)
theorem dX2_laysRooms_30 : decode cX2_laysRooms 30 = .ok (.aload_n 0, 1) := dk_42 (dk_at dksX2_laysRooms_1 6 rfl rfl)
theorem dX2_laysRooms_31 : decode cX2_laysRooms 31 = .ok (.getfield 354, 3) := dk_180 1 98 (dk_at dksX2_laysRooms_1 7 rfl rfl)
theorem dX2_laysRooms_34 : decode cX2_laysRooms 34 = .ok (.ifCond .eq 4, 3) := dk_153 0 4 (dk_at dksX2_laysRooms_1 10 rfl rfl)
theorem dX2_laysRooms_37 : decode cX2_laysRooms 37 = .ok (.return_, 1) := dk_177 (dk_at dksX2_laysRooms_1 13 rfl rfl)
theorem dX2_laysRooms_38 : decode cX2_laysRooms 38 = .ok (.aload_n 0, 1) := dk_42 (dk_at dksX2_laysRooms_1 14 rfl rfl)
theorem dX2_laysRooms_39 : decode cX2_laysRooms 39 = .ok (.aload_n 0, 1) := dk_42 (dk_at dksX2_laysRooms_1 15 rfl rfl)
theorem dX2_laysRooms_40 : decode cX2_laysRooms 40 = .ok (.getfield 361, 3) := dk_180 1 105 (dk_at dksX2_laysRooms_1 16 rfl rfl)
theorem dX2_laysRooms_43 : decode cX2_laysRooms 43 = .ok (.ifCond .eq 19, 3) := dk_153 0 19 (dk_at dksX2_laysRooms_1 19 rfl rfl)
theorem dX2_laysRooms_46 : decode cX2_laysRooms 46 = .ok (.aload_n 0, 1) := dk_42 (dk_at dksX2_laysRooms_1 22 rfl rfl)
theorem dX2_laysRooms_47 : decode cX2_laysRooms 47 = .ok (.getfield 354, 3) := dk_180 1 98 (dk_at dksX2_laysRooms_2 0 rfl rfl)
theorem dX2_laysRooms_50 : decode cX2_laysRooms 50 = .ok (.ifCond .ne 8, 3) := dk_154 0 8 (dk_at dksX2_laysRooms_2 3 rfl rfl)
theorem dX2_laysRooms_53 : decode cX2_laysRooms 53 = .ok (.iload_n 2, 1) := dk_28 (dk_at dksX2_laysRooms_2 6 rfl rfl)
theorem dX2_laysRooms_54 : decode cX2_laysRooms 54 = .ok (.iconst 2, 1) := dk_5 (dk_at dksX2_laysRooms_2 7 rfl rfl)
theorem dX2_laysRooms_55 : decode cX2_laysRooms 55 = .ok (.if_icmp .eq 7, 3) := dk_159 0 7 (dk_at dksX2_laysRooms_2 8 rfl rfl)
theorem dX2_laysRooms_58 : decode cX2_laysRooms 58 = .ok (.iconst 1, 1) := dk_4 (dk_at dksX2_laysRooms_2 11 rfl rfl)
theorem dX2_laysRooms_59 : decode cX2_laysRooms 59 = .ok (.goto 4, 3) := dk_167 0 4 (dk_at dksX2_laysRooms_2 12 rfl rfl)
theorem dX2_laysRooms_62 : decode cX2_laysRooms 62 = .ok (.iconst 0, 1) := dk_3 (dk_at dksX2_laysRooms_2 15 rfl rfl)
theorem dX2_laysRooms_63 : decode cX2_laysRooms 63 = .ok (.putfield 354, 3) := dk_181 1 98 (dk_at dksX2_laysRooms_2 16 rfl rfl)
theorem dX2_laysRooms_66 : decode cX2_laysRooms 66 = .ok (.aload_n 0, 1) := dk_42 (dk_at dksX2_laysRooms_2 19 rfl rfl)
theorem dX2_laysRooms_67 : decode cX2_laysRooms 67 = .ok (.aload_n 0, 1) := dk_42 (dk_at dksX2_laysRooms_2 20 rfl rfl)
theorem dX2_laysRooms_68 : decode cX2_laysRooms 68 = .ok (.getfield 361, 3) := dk_180 1 105 (dk_at dksX2_laysRooms_2 21 rfl rfl)
theorem dX2_laysRooms_71 : decode cX2_laysRooms 71 = .ok (.ifCond .eq 19, 3) := dk_153 0 19 (dk_at dksX2_laysRooms_3 0 rfl rfl)
theorem dX2_laysRooms_74 : decode cX2_laysRooms 74 = .ok (.aload_n 0, 1) := dk_42 (dk_at dksX2_laysRooms_3 3 rfl rfl)
theorem dX2_laysRooms_75 : decode cX2_laysRooms 75 = .ok (.getfield 364, 3) := dk_180 1 108 (dk_at dksX2_laysRooms_3 4 rfl rfl)
theorem dX2_laysRooms_78 : decode cX2_laysRooms 78 = .ok (.ifCond .ne 8, 3) := dk_154 0 8 (dk_at dksX2_laysRooms_3 7 rfl rfl)
theorem dX2_laysRooms_81 : decode cX2_laysRooms 81 = .ok (.iload_n 2, 1) := dk_28 (dk_at dksX2_laysRooms_3 10 rfl rfl)
theorem dX2_laysRooms_82 : decode cX2_laysRooms 82 = .ok (.iconst 2, 1) := dk_5 (dk_at dksX2_laysRooms_3 11 rfl rfl)
theorem dX2_laysRooms_83 : decode cX2_laysRooms 83 = .ok (.if_icmp .ne 7, 3) := dk_160 0 7 (dk_at dksX2_laysRooms_3 12 rfl rfl)
theorem dX2_laysRooms_86 : decode cX2_laysRooms 86 = .ok (.iconst 1, 1) := dk_4 (dk_at dksX2_laysRooms_3 15 rfl rfl)
theorem dX2_laysRooms_87 : decode cX2_laysRooms 87 = .ok (.goto 4, 3) := dk_167 0 4 (dk_at dksX2_laysRooms_3 16 rfl rfl)
theorem dX2_laysRooms_90 : decode cX2_laysRooms 90 = .ok (.iconst 0, 1) := dk_3 (dk_at dksX2_laysRooms_3 19 rfl rfl)
theorem dX2_laysRooms_91 : decode cX2_laysRooms 91 = .ok (.putfield 364, 3) := dk_181 1 108 (dk_at dksX2_laysRooms_3 20 rfl rfl)
theorem dX2_laysRooms_94 : decode cX2_laysRooms 94 = .ok (.iconst 0, 1) := dk_3 (dk_at dksX2_laysRooms_3 23 rfl rfl)
theorem dX2_laysRooms_95 : decode cX2_laysRooms 95 = .ok (.istore_n 3, 1) := dk_62 (dk_at dksX2_laysRooms_4 0 rfl rfl)
theorem dX2_laysRooms_96 : decode cX2_laysRooms 96 = .ok (.iload_n 3, 1) := dk_29 (dk_at dksX2_laysRooms_4 1 rfl rfl)
theorem dX2_laysRooms_97 : decode cX2_laysRooms 97 = .ok (.aload_n 1, 1) := dk_43 (dk_at dksX2_laysRooms_4 2 rfl rfl)
theorem dX2_laysRooms_98 : decode cX2_laysRooms 98 = .ok (.iconst 4, 1) := dk_7 (dk_at dksX2_laysRooms_4 3 rfl rfl)
theorem dX2_laysRooms_99 : decode cX2_laysRooms 99 = .ok (.iaload, 1) := dk_46 (dk_at dksX2_laysRooms_4 4 rfl rfl)
theorem dX2_laysRooms_100 : decode cX2_laysRooms 100 = .ok (.if_icmp .ge 141, 3) := dk_162 0 141 (dk_at dksX2_laysRooms_4 5 rfl rfl)
theorem dX2_laysRooms_103 : decode cX2_laysRooms 103 = .ok (.aload_n 0, 1) := dk_42 (dk_at dksX2_laysRooms_4 8 rfl rfl)
theorem dX2_laysRooms_104 : decode cX2_laysRooms 104 = .ok (.getfield 76, 3) := dk_180 0 76 (dk_at dksX2_laysRooms_4 9 rfl rfl)
theorem dX2_laysRooms_107 : decode cX2_laysRooms 107 = .ok (.iload_n 3, 1) := dk_29 (dk_at dksX2_laysRooms_4 12 rfl rfl)
theorem dX2_laysRooms_108 : decode cX2_laysRooms 108 = .ok (.aload_n 0, 1) := dk_42 (dk_at dksX2_laysRooms_4 13 rfl rfl)
theorem dX2_laysRooms_109 : decode cX2_laysRooms 109 = .ok (.aload_n 1, 1) := dk_43 (dk_at dksX2_laysRooms_4 14 rfl rfl)
theorem dX2_laysRooms_110 : decode cX2_laysRooms 110 = .ok (.iload_n 3, 1) := dk_29 (dk_at dksX2_laysRooms_4 15 rfl rfl)
theorem dX2_laysRooms_111 : decode cX2_laysRooms 111 = .ok (.invokevirtual 370, 3) := dk_182 1 114 (dk_at dksX2_laysRooms_4 16 rfl rfl)
theorem dX2_laysRooms_114 : decode cX2_laysRooms 114 = .ok (.bastore, 1) := dk_84 (dk_at dksX2_laysRooms_4 19 rfl rfl)
theorem dX2_laysRooms_115 : decode cX2_laysRooms 115 = .ok (.bipush 118, 2) := dk_16 118 (dk_at dksX2_laysRooms_4 20 rfl rfl)
theorem dX2_laysRooms_117 : decode cX2_laysRooms 117 = .ok (.bipush 8, 2) := dk_16 8 (dk_at dksX2_laysRooms_4 22 rfl rfl)
theorem dX2_laysRooms_119 : decode cX2_laysRooms 119 = .ok (.iload_n 3, 1) := dk_29 (dk_at dksX2_laysRooms_5 0 rfl rfl)
theorem dX2_laysRooms_120 : decode cX2_laysRooms 120 = .ok (.imul, 1) := dk_104 (dk_at dksX2_laysRooms_5 1 rfl rfl)
theorem dX2_laysRooms_121 : decode cX2_laysRooms 121 = .ok (.iadd, 1) := dk_96 (dk_at dksX2_laysRooms_5 2 rfl rfl)
theorem dX2_laysRooms_122 : decode cX2_laysRooms 122 = .ok (.istore 4, 2) := dk_54 4 (dk_at dksX2_laysRooms_5 3 rfl rfl)
theorem dX2_laysRooms_124 : decode cX2_laysRooms 124 = .ok (.aload_n 1, 1) := dk_43 (dk_at dksX2_laysRooms_5 5 rfl rfl)
theorem dX2_laysRooms_125 : decode cX2_laysRooms 125 = .ok (.iload 4, 2) := dk_21 4 (dk_at dksX2_laysRooms_5 6 rfl rfl)
theorem dX2_laysRooms_127 : decode cX2_laysRooms 127 = .ok (.iconst 2, 1) := dk_5 (dk_at dksX2_laysRooms_5 8 rfl rfl)
theorem dX2_laysRooms_128 : decode cX2_laysRooms 128 = .ok (.iadd, 1) := dk_96 (dk_at dksX2_laysRooms_5 9 rfl rfl)
theorem dX2_laysRooms_129 : decode cX2_laysRooms 129 = .ok (.iaload, 1) := dk_46 (dk_at dksX2_laysRooms_5 10 rfl rfl)
theorem dX2_laysRooms_130 : decode cX2_laysRooms 130 = .ok (.istore 5, 2) := dk_54 5 (dk_at dksX2_laysRooms_5 11 rfl rfl)
theorem dX2_laysRooms_132 : decode cX2_laysRooms 132 = .ok (.iload 5, 2) := dk_21 5 (dk_at dksX2_laysRooms_5 13 rfl rfl)
theorem dX2_laysRooms_134 : decode cX2_laysRooms 134 = .ok (.aload_n 1, 1) := dk_43 (dk_at dksX2_laysRooms_5 15 rfl rfl)
theorem dX2_laysRooms_135 : decode cX2_laysRooms 135 = .ok (.iload 4, 2) := dk_21 4 (dk_at dksX2_laysRooms_5 16 rfl rfl)
theorem dX2_laysRooms_137 : decode cX2_laysRooms 137 = .ok (.iconst 3, 1) := dk_6 (dk_at dksX2_laysRooms_5 18 rfl rfl)
theorem dX2_laysRooms_138 : decode cX2_laysRooms 138 = .ok (.iadd, 1) := dk_96 (dk_at dksX2_laysRooms_5 19 rfl rfl)
theorem dX2_laysRooms_139 : decode cX2_laysRooms 139 = .ok (.iaload, 1) := dk_46 (dk_at dksX2_laysRooms_5 20 rfl rfl)
theorem dX2_laysRooms_140 : decode cX2_laysRooms 140 = .ok (.if_icmp .gt 32, 3) := dk_163 0 32 (dk_at dksX2_laysRooms_5 21 rfl rfl)
theorem dX2_laysRooms_143 : decode cX2_laysRooms 143 = .ok (.aload_n 0, 1) := dk_42 (dk_at dksX2_laysRooms_6 0 rfl rfl)
theorem dX2_laysRooms_144 : decode cX2_laysRooms 144 = .ok (.getfield 70, 3) := dk_180 0 70 (dk_at dksX2_laysRooms_6 1 rfl rfl)
theorem dX2_laysRooms_147 : decode cX2_laysRooms 147 = .ok (.aload_n 0, 1) := dk_42 (dk_at dksX2_laysRooms_6 4 rfl rfl)
theorem dX2_laysRooms_148 : decode cX2_laysRooms 148 = .ok (.getfield 367, 3) := dk_180 1 111 (dk_at dksX2_laysRooms_6 5 rfl rfl)
theorem dX2_laysRooms_151 : decode cX2_laysRooms 151 = .ok (.bipush 8, 2) := dk_16 8 (dk_at dksX2_laysRooms_6 8 rfl rfl)
theorem dX2_laysRooms_153 : decode cX2_laysRooms 153 = .ok (.iload_n 3, 1) := dk_29 (dk_at dksX2_laysRooms_6 10 rfl rfl)
theorem dX2_laysRooms_154 : decode cX2_laysRooms 154 = .ok (.imul, 1) := dk_104 (dk_at dksX2_laysRooms_6 11 rfl rfl)
theorem dX2_laysRooms_155 : decode cX2_laysRooms 155 = .ok (.iadd, 1) := dk_96 (dk_at dksX2_laysRooms_6 12 rfl rfl)
theorem dX2_laysRooms_156 : decode cX2_laysRooms 156 = .ok (.iload 5, 2) := dk_21 5 (dk_at dksX2_laysRooms_6 13 rfl rfl)
theorem dX2_laysRooms_158 : decode cX2_laysRooms 158 = .ok (.iadd, 1) := dk_96 (dk_at dksX2_laysRooms_6 15 rfl rfl)
theorem dX2_laysRooms_159 : decode cX2_laysRooms 159 = .ok (.aload_n 1, 1) := dk_43 (dk_at dksX2_laysRooms_6 16 rfl rfl)
theorem dX2_laysRooms_160 : decode cX2_laysRooms 160 = .ok (.iload 4, 2) := dk_21 4 (dk_at dksX2_laysRooms_6 17 rfl rfl)
theorem dX2_laysRooms_162 : decode cX2_laysRooms 162 = .ok (.iconst 4, 1) := dk_7 (dk_at dksX2_laysRooms_6 19 rfl rfl)
theorem dX2_laysRooms_163 : decode cX2_laysRooms 163 = .ok (.iadd, 1) := dk_96 (dk_at dksX2_laysRooms_6 20 rfl rfl)
theorem dX2_laysRooms_164 : decode cX2_laysRooms 164 = .ok (.iaload, 1) := dk_46 (dk_at dksX2_laysRooms_6 21 rfl rfl)
theorem dX2_laysRooms_165 : decode cX2_laysRooms 165 = .ok (.iastore, 1) := dk_79 (dk_at dksX2_laysRooms_6 22 rfl rfl)
theorem dX2_laysRooms_166 : decode cX2_laysRooms 166 = .ok (.iinc 5 1, 3) := dk_132 5 1 (dk_at dksX2_laysRooms_7 0 rfl rfl)
theorem dX2_laysRooms_169 : decode cX2_laysRooms 169 = .ok (.goto (-37), 3) := dk_167 255 219 (dk_at dksX2_laysRooms_7 3 rfl rfl)
theorem dX2_laysRooms_172 : decode cX2_laysRooms 172 = .ok (.iconst 0, 1) := dk_3 (dk_at dksX2_laysRooms_7 6 rfl rfl)
theorem dX2_laysRooms_173 : decode cX2_laysRooms 173 = .ok (.istore 5, 2) := dk_54 5 (dk_at dksX2_laysRooms_7 7 rfl rfl)
theorem dX2_laysRooms_175 : decode cX2_laysRooms 175 = .ok (.iload 5, 2) := dk_21 5 (dk_at dksX2_laysRooms_7 9 rfl rfl)
theorem dX2_laysRooms_177 : decode cX2_laysRooms 177 = .ok (.aload_n 0, 1) := dk_42 (dk_at dksX2_laysRooms_7 11 rfl rfl)
theorem dX2_laysRooms_178 : decode cX2_laysRooms 178 = .ok (.getfield 17, 3) := dk_180 0 17 (dk_at dksX2_laysRooms_7 12 rfl rfl)
theorem dX2_laysRooms_181 : decode cX2_laysRooms 181 = .ok (.bipush 10, 2) := dk_16 10 (dk_at dksX2_laysRooms_7 15 rfl rfl)
theorem dX2_laysRooms_183 : decode cX2_laysRooms 183 = .ok (.iaload, 1) := dk_46 (dk_at dksX2_laysRooms_7 17 rfl rfl)
theorem dX2_laysRooms_184 : decode cX2_laysRooms 184 = .ok (.if_icmp .ge 51, 3) := dk_162 0 51 (dk_at dksX2_laysRooms_7 18 rfl rfl)
theorem dX2_laysRooms_187 : decode cX2_laysRooms 187 = .ok (.aload_n 0, 1) := dk_42 (dk_at dksX2_laysRooms_7 21 rfl rfl)
theorem dX2_laysRooms_188 : decode cX2_laysRooms 188 = .ok (.getfield 76, 3) := dk_180 0 76 (dk_at dksX2_laysRooms_8 0 rfl rfl)
theorem dX2_laysRooms_191 : decode cX2_laysRooms 191 = .ok (.iload_n 3, 1) := dk_29 (dk_at dksX2_laysRooms_8 3 rfl rfl)
theorem dX2_laysRooms_192 : decode cX2_laysRooms 192 = .ok (.baload, 1) := dk_51 (dk_at dksX2_laysRooms_8 4 rfl rfl)
theorem dX2_laysRooms_193 : decode cX2_laysRooms 193 = .ok (.ifCond .eq 42, 3) := dk_153 0 42 (dk_at dksX2_laysRooms_8 5 rfl rfl)
theorem dX2_laysRooms_196 : decode cX2_laysRooms 196 = .ok (.aload_n 1, 1) := dk_43 (dk_at dksX2_laysRooms_8 8 rfl rfl)
theorem dX2_laysRooms_197 : decode cX2_laysRooms 197 = .ok (.bipush 6, 2) := dk_16 6 (dk_at dksX2_laysRooms_8 9 rfl rfl)
theorem dX2_laysRooms_199 : decode cX2_laysRooms 199 = .ok (.iload 5, 2) := dk_21 5 (dk_at dksX2_laysRooms_8 11 rfl rfl)
theorem dX2_laysRooms_201 : decode cX2_laysRooms 201 = .ok (.iadd, 1) := dk_96 (dk_at dksX2_laysRooms_8 13 rfl rfl)
theorem dX2_laysRooms_202 : decode cX2_laysRooms 202 = .ok (.iaload, 1) := dk_46 (dk_at dksX2_laysRooms_8 14 rfl rfl)
theorem dX2_laysRooms_203 : decode cX2_laysRooms 203 = .ok (.iconst 2, 1) := dk_5 (dk_at dksX2_laysRooms_8 15 rfl rfl)
theorem dX2_laysRooms_204 : decode cX2_laysRooms 204 = .ok (.if_icmp .ne 25, 3) := dk_160 0 25 (dk_at dksX2_laysRooms_8 16 rfl rfl)
theorem dX2_laysRooms_207 : decode cX2_laysRooms 207 = .ok (.aload_n 0, 1) := dk_42 (dk_at dksX2_laysRooms_8 19 rfl rfl)
theorem dX2_laysRooms_208 : decode cX2_laysRooms 208 = .ok (.iload 5, 2) := dk_21 5 (dk_at dksX2_laysRooms_8 20 rfl rfl)
theorem dX2_laysRooms_210 : decode cX2_laysRooms 210 = .ok (.iload_n 2, 1) := dk_28 (dk_at dksX2_laysRooms_8 22 rfl rfl)
theorem dX2_laysRooms_211 : decode cX2_laysRooms 211 = .ok (.invokevirtual 326, 3) := dk_182 1 70 (dk_at dksX2_laysRooms_9 0 rfl rfl)
theorem dX2_laysRooms_214 : decode cX2_laysRooms 214 = .ok (.ifCond .eq 15, 3) := dk_153 0 15 (dk_at dksX2_laysRooms_9 3 rfl rfl)
theorem dX2_laysRooms_217 : decode cX2_laysRooms 217 = .ok (.aload_n 0, 1) := dk_42 (dk_at dksX2_laysRooms_9 6 rfl rfl)
theorem dX2_laysRooms_218 : decode cX2_laysRooms 218 = .ok (.aload_n 1, 1) := dk_43 (dk_at dksX2_laysRooms_9 7 rfl rfl)
theorem dX2_laysRooms_219 : decode cX2_laysRooms 219 = .ok (.iload 5, 2) := dk_21 5 (dk_at dksX2_laysRooms_9 8 rfl rfl)
theorem dX2_laysRooms_221 : decode cX2_laysRooms 221 = .ok (.iload_n 3, 1) := dk_29 (dk_at dksX2_laysRooms_9 10 rfl rfl)
theorem dX2_laysRooms_222 : decode cX2_laysRooms 222 = .ok (.aload_n 0, 1) := dk_42 (dk_at dksX2_laysRooms_9 11 rfl rfl)
theorem dX2_laysRooms_223 : decode cX2_laysRooms 223 = .ok (.getfield 367, 3) := dk_180 1 111 (dk_at dksX2_laysRooms_9 12 rfl rfl)
theorem dX2_laysRooms_226 : decode cX2_laysRooms 226 = .ok (.invokevirtual 357, 3) := dk_182 1 101 (dk_at dksX2_laysRooms_9 15 rfl rfl)
theorem dX2_laysRooms_229 : decode cX2_laysRooms 229 = .ok (.iinc 5 1, 3) := dk_132 5 1 (dk_at dksX2_laysRooms_9 18 rfl rfl)
theorem dX2_laysRooms_232 : decode cX2_laysRooms 232 = .ok (.goto (-57), 3) := dk_167 255 199 (dk_at dksX2_laysRooms_9 21 rfl rfl)
theorem dX2_laysRooms_235 : decode cX2_laysRooms 235 = .ok (.iinc 3 1, 3) := dk_132 3 1 (dk_at dksX2_laysRooms_10 0 rfl rfl)
theorem dX2_laysRooms_238 : decode cX2_laysRooms 238 = .ok (.goto (-142), 3) := dk_167 255 114 (dk_at dksX2_laysRooms_10 3 rfl rfl)
theorem dX2_laysRooms_241 : decode cX2_laysRooms 241 = .ok (.iconst 0, 1) := dk_3 (dk_at dksX2_laysRooms_10 6 rfl rfl)
theorem dX2_laysRooms_242 : decode cX2_laysRooms 242 = .ok (.istore_n 3, 1) := dk_62 (dk_at dksX2_laysRooms_10 7 rfl rfl)
theorem dX2_laysRooms_243 : decode cX2_laysRooms 243 = .ok (.iload_n 3, 1) := dk_29 (dk_at dksX2_laysRooms_10 8 rfl rfl)
theorem dX2_laysRooms_244 : decode cX2_laysRooms 244 = .ok (.aload_n 0, 1) := dk_42 (dk_at dksX2_laysRooms_10 9 rfl rfl)
theorem dX2_laysRooms_245 : decode cX2_laysRooms 245 = .ok (.getfield 17, 3) := dk_180 0 17 (dk_at dksX2_laysRooms_10 10 rfl rfl)
theorem dX2_laysRooms_248 : decode cX2_laysRooms 248 = .ok (.bipush 10, 2) := dk_16 10 (dk_at dksX2_laysRooms_10 13 rfl rfl)
theorem dX2_laysRooms_250 : decode cX2_laysRooms 250 = .ok (.iaload, 1) := dk_46 (dk_at dksX2_laysRooms_10 15 rfl rfl)
theorem dX2_laysRooms_251 : decode cX2_laysRooms 251 = .ok (.if_icmp .ge 70, 3) := dk_162 0 70 (dk_at dksX2_laysRooms_10 16 rfl rfl)
theorem dX2_laysRooms_254 : decode cX2_laysRooms 254 = .ok (.aload_n 0, 1) := dk_42 (dk_at dksX2_laysRooms_10 19 rfl rfl)
theorem dX2_laysRooms_255 : decode cX2_laysRooms 255 = .ok (.iload_n 3, 1) := dk_29 (dk_at dksX2_laysRooms_10 20 rfl rfl)
theorem dX2_laysRooms_256 : decode cX2_laysRooms 256 = .ok (.invokevirtual 260, 3) := dk_182 1 4 (dk_at dksX2_laysRooms_10 21 rfl rfl)
theorem dX2_laysRooms_259 : decode cX2_laysRooms 259 = .ok (.ifCond .eq 56, 3) := dk_153 0 56 (dk_at dksX2_laysRooms_11 0 rfl rfl)
theorem dX2_laysRooms_262 : decode cX2_laysRooms 262 = .ok (.aload_n 1, 1) := dk_43 (dk_at dksX2_laysRooms_11 3 rfl rfl)
theorem dX2_laysRooms_263 : decode cX2_laysRooms 263 = .ok (.bipush 6, 2) := dk_16 6 (dk_at dksX2_laysRooms_11 4 rfl rfl)
theorem dX2_laysRooms_265 : decode cX2_laysRooms 265 = .ok (.iload_n 3, 1) := dk_29 (dk_at dksX2_laysRooms_11 6 rfl rfl)
theorem dX2_laysRooms_266 : decode cX2_laysRooms 266 = .ok (.iadd, 1) := dk_96 (dk_at dksX2_laysRooms_11 7 rfl rfl)
theorem dX2_laysRooms_267 : decode cX2_laysRooms 267 = .ok (.iaload, 1) := dk_46 (dk_at dksX2_laysRooms_11 8 rfl rfl)
theorem dX2_laysRooms_268 : decode cX2_laysRooms 268 = .ok (.iconst 2, 1) := dk_5 (dk_at dksX2_laysRooms_11 9 rfl rfl)
theorem dX2_laysRooms_269 : decode cX2_laysRooms 269 = .ok (.if_icmp .ne 46, 3) := dk_160 0 46 (dk_at dksX2_laysRooms_11 10 rfl rfl)
theorem dX2_laysRooms_272 : decode cX2_laysRooms 272 = .ok (.aload_n 0, 1) := dk_42 (dk_at dksX2_laysRooms_11 13 rfl rfl)
theorem dX2_laysRooms_273 : decode cX2_laysRooms 273 = .ok (.getfield 73, 3) := dk_180 0 73 (dk_at dksX2_laysRooms_11 14 rfl rfl)
theorem dX2_laysRooms_276 : decode cX2_laysRooms 276 = .ok (.iload_n 3, 1) := dk_29 (dk_at dksX2_laysRooms_11 17 rfl rfl)
theorem dX2_laysRooms_277 : decode cX2_laysRooms 277 = .ok (.aload_n 0, 1) := dk_42 (dk_at dksX2_laysRooms_11 18 rfl rfl)
theorem dX2_laysRooms_278 : decode cX2_laysRooms 278 = .ok (.getfield 17, 3) := dk_180 0 17 (dk_at dksX2_laysRooms_11 19 rfl rfl)
theorem dX2_laysRooms_281 : decode cX2_laysRooms 281 = .ok (.iconst 4, 1) := dk_7 (dk_at dksX2_laysRooms_11 22 rfl rfl)
theorem dX2_laysRooms_282 : decode cX2_laysRooms 282 = .ok (.iaload, 1) := dk_46 (dk_at dksX2_laysRooms_11 23 rfl rfl)
theorem dX2_laysRooms_283 : decode cX2_laysRooms 283 = .ok (.aload_n 0, 1) := dk_42 (dk_at dksX2_laysRooms_12 0 rfl rfl)
theorem dX2_laysRooms_284 : decode cX2_laysRooms 284 = .ok (.aload_n 1, 1) := dk_43 (dk_at dksX2_laysRooms_12 1 rfl rfl)
theorem dX2_laysRooms_285 : decode cX2_laysRooms 285 = .ok (.aload_n 0, 1) := dk_42 (dk_at dksX2_laysRooms_12 2 rfl rfl)
theorem dX2_laysRooms_286 : decode cX2_laysRooms 286 = .ok (.getfield 17, 3) := dk_180 0 17 (dk_at dksX2_laysRooms_12 3 rfl rfl)
theorem dX2_laysRooms_289 : decode cX2_laysRooms 289 = .ok (.bipush 54, 2) := dk_16 54 (dk_at dksX2_laysRooms_12 6 rfl rfl)
theorem dX2_laysRooms_291 : decode cX2_laysRooms 291 = .ok (.iload_n 3, 1) := dk_29 (dk_at dksX2_laysRooms_12 8 rfl rfl)
theorem dX2_laysRooms_292 : decode cX2_laysRooms 292 = .ok (.iadd, 1) := dk_96 (dk_at dksX2_laysRooms_12 9 rfl rfl)
theorem dX2_laysRooms_293 : decode cX2_laysRooms 293 = .ok (.iaload, 1) := dk_46 (dk_at dksX2_laysRooms_12 10 rfl rfl)
theorem dX2_laysRooms_294 : decode cX2_laysRooms 294 = .ok (.aload_n 0, 1) := dk_42 (dk_at dksX2_laysRooms_12 11 rfl rfl)
theorem dX2_laysRooms_295 : decode cX2_laysRooms 295 = .ok (.getfield 17, 3) := dk_180 0 17 (dk_at dksX2_laysRooms_12 12 rfl rfl)
theorem dX2_laysRooms_298 : decode cX2_laysRooms 298 = .ok (.bipush 70, 2) := dk_16 70 (dk_at dksX2_laysRooms_12 15 rfl rfl)
theorem dX2_laysRooms_300 : decode cX2_laysRooms 300 = .ok (.iload_n 3, 1) := dk_29 (dk_at dksX2_laysRooms_12 17 rfl rfl)
theorem dX2_laysRooms_301 : decode cX2_laysRooms 301 = .ok (.iadd, 1) := dk_96 (dk_at dksX2_laysRooms_12 18 rfl rfl)
theorem dX2_laysRooms_302 : decode cX2_laysRooms 302 = .ok (.iaload, 1) := dk_46 (dk_at dksX2_laysRooms_12 19 rfl rfl)
theorem dX2_laysRooms_303 : decode cX2_laysRooms 303 = .ok (.aload_n 1, 1) := dk_43 (dk_at dksX2_laysRooms_12 20 rfl rfl)
theorem dX2_laysRooms_304 : decode cX2_laysRooms 304 = .ok (.bipush 38, 2) := dk_16 38 (dk_at dksX2_laysRooms_12 21 rfl rfl)
theorem dX2_laysRooms_306 : decode cX2_laysRooms 306 = .ok (.iload_n 3, 1) := dk_29 (dk_at dksX2_laysRooms_12 23 rfl rfl)
theorem dX2_laysRooms_307 : decode cX2_laysRooms 307 = .ok (.iadd, 1) := dk_96 (dk_at dksX2_laysRooms_13 0 rfl rfl)
theorem dX2_laysRooms_308 : decode cX2_laysRooms 308 = .ok (.iaload, 1) := dk_46 (dk_at dksX2_laysRooms_13 1 rfl rfl)
theorem dX2_laysRooms_309 : decode cX2_laysRooms 309 = .ok (.iconst 3, 1) := dk_6 (dk_at dksX2_laysRooms_13 2 rfl rfl)
theorem dX2_laysRooms_310 : decode cX2_laysRooms 310 = .ok (.invokevirtual 373, 3) := dk_182 1 117 (dk_at dksX2_laysRooms_13 3 rfl rfl)
theorem dX2_laysRooms_313 : decode cX2_laysRooms 313 = .ok (.isub, 1) := dk_100 (dk_at dksX2_laysRooms_13 6 rfl rfl)
theorem dX2_laysRooms_314 : decode cX2_laysRooms 314 = .ok (.iastore, 1) := dk_79 (dk_at dksX2_laysRooms_13 7 rfl rfl)
theorem dX2_laysRooms_315 : decode cX2_laysRooms 315 = .ok (.iinc 3 1, 3) := dk_132 3 1 (dk_at dksX2_laysRooms_13 8 rfl rfl)
theorem dX2_laysRooms_318 : decode cX2_laysRooms 318 = .ok (.goto (-75), 3) := dk_167 255 181 (dk_at dksX2_laysRooms_13 11 rfl rfl)
theorem dX2_laysRooms_321 : decode cX2_laysRooms 321 = .ok (.return_, 1) := dk_177 (dk_at dksX2_laysRooms_13 14 rfl rfl)
