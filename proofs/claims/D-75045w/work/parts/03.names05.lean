set_option maxRecDepth 100000
abbrev cX2_takesRoom : ByteArray := prog_22_method_58_code
def yX2_takesRoom : MethodName := ⟨RX2, "takesRoom", "([IIII)V"⟩
def dkwX2_takesRoom_4 : List UInt8 := [167, 255, 208, 177]
abbrev dktX2_takesRoom_4 : List UInt8 := dkwX2_takesRoom_4 ++ []
def dkwX2_takesRoom_3 : List UInt8 := [43, 28, 43, 21, 5, 3, 96, 46, 43, 21, 5, 4, 96, 46, 21, 7, 182, 1, 73, 100, 79, 132, 7, 1]
abbrev dktX2_takesRoom_3 : List UInt8 := dkwX2_takesRoom_3 ++ dktX2_takesRoom_4
def dkwX2_takesRoom_2 : List UInt8 := [21, 7, 21, 6, 163, 0, 47, 42, 180, 0, 70, 21, 4, 16, 8, 29, 104, 96, 21, 7, 96, 92, 46, 42]
abbrev dktX2_takesRoom_2 : List UInt8 := dkwX2_takesRoom_2 ++ dktX2_takesRoom_3
def dkwX2_takesRoom_1 : List UInt8 := [184, 1, 93, 54, 6, 43, 21, 5, 5, 96, 46, 43, 16, 38, 28, 96, 46, 4, 100, 184, 1, 95, 54, 7]
abbrev dktX2_takesRoom_1 : List UInt8 := dkwX2_takesRoom_1 ++ dktX2_takesRoom_2
def dkwX2_takesRoom_0 : List UInt8 := [16, 118, 16, 8, 29, 104, 96, 54, 5, 43, 21, 5, 6, 96, 46, 43, 16, 38, 28, 96, 46, 4, 96]
abbrev dktX2_takesRoom_0 : List UInt8 := dkwX2_takesRoom_0 ++ dktX2_takesRoom_1
theorem dksX2_takesRoom_0 : cX2_takesRoom.data.toList.drop 0 = dktX2_takesRoom_0 := by decide +kernel
theorem dksX2_takesRoom_1 : cX2_takesRoom.data.toList.drop 23 = dktX2_takesRoom_1 := dk_seg dksX2_takesRoom_0 23 rfl rfl
theorem dksX2_takesRoom_2 : cX2_takesRoom.data.toList.drop 47 = dktX2_takesRoom_2 := dk_seg dksX2_takesRoom_1 24 rfl rfl
theorem dksX2_takesRoom_3 : cX2_takesRoom.data.toList.drop 71 = dktX2_takesRoom_3 := dk_seg dksX2_takesRoom_2 24 rfl rfl
theorem dksX2_takesRoom_4 : cX2_takesRoom.data.toList.drop 95 = dktX2_takesRoom_4 := dk_seg dksX2_takesRoom_3 24 rfl rfl
theorem dX2_takesRoom_0 : decode cX2_takesRoom 0 = .ok (.bipush 118, 2) := dk_16 118 (dk_at dksX2_takesRoom_0 0 rfl rfl)
theorem dX2_takesRoom_2 : decode cX2_takesRoom 2 = .ok (.bipush 8, 2) := dk_16 8 (dk_at dksX2_takesRoom_0 2 rfl rfl)
theorem dX2_takesRoom_4 : decode cX2_takesRoom 4 = .ok (.iload_n 3, 1) := dk_29 (dk_at dksX2_takesRoom_0 4 rfl rfl)
theorem dX2_takesRoom_5 : decode cX2_takesRoom 5 = .ok (.imul, 1) := dk_104 (dk_at dksX2_takesRoom_0 5 rfl rfl)
theorem dX2_takesRoom_6 : decode cX2_takesRoom 6 = .ok (.iadd, 1) := dk_96 (dk_at dksX2_takesRoom_0 6 rfl rfl)
theorem dX2_takesRoom_7 : decode cX2_takesRoom 7 = .ok (.istore 5, 2) := dk_54 5 (dk_at dksX2_takesRoom_0 7 rfl rfl)
theorem dX2_takesRoom_9 : decode cX2_takesRoom 9 = .ok (.aload_n 1, 1) := dk_43 (dk_at dksX2_takesRoom_0 9 rfl rfl)
theorem dX2_takesRoom_10 : decode cX2_takesRoom 10 = .ok (.iload 5, 2) := dk_21 5 (dk_at dksX2_takesRoom_0 10 rfl rfl)
theorem dX2_takesRoom_12 : decode cX2_takesRoom 12 = .ok (.iconst 3, 1) := dk_6 (dk_at dksX2_takesRoom_0 12 rfl rfl)
theorem dX2_takesRoom_13 : decode cX2_takesRoom 13 = .ok (.iadd, 1) := dk_96 (dk_at dksX2_takesRoom_0 13 rfl rfl)
theorem dX2_takesRoom_14 : decode cX2_takesRoom 14 = .ok (.iaload, 1) := dk_46 (dk_at dksX2_takesRoom_0 14 rfl rfl)
theorem dX2_takesRoom_15 : decode cX2_takesRoom 15 = .ok (.aload_n 1, 1) := dk_43 (dk_at dksX2_takesRoom_0 15 rfl rfl)
theorem dX2_takesRoom_16 : decode cX2_takesRoom 16 = .ok (.bipush 38, 2) := dk_16 38 (dk_at dksX2_takesRoom_0 16 rfl rfl)
theorem dX2_takesRoom_18 : decode cX2_takesRoom 18 = .ok (.iload_n 2, 1) := dk_28 (dk_at dksX2_takesRoom_0 18 rfl rfl)
theorem dX2_takesRoom_19 : decode cX2_takesRoom 19 = .ok (.iadd, 1) := dk_96 (dk_at dksX2_takesRoom_0 19 rfl rfl)
theorem dX2_takesRoom_20 : decode cX2_takesRoom 20 = .ok (.iaload, 1) := dk_46 (dk_at dksX2_takesRoom_0 20 rfl rfl)
theorem dX2_takesRoom_21 : decode cX2_takesRoom 21 = .ok (.iconst 1, 1) := dk_4 (dk_at dksX2_takesRoom_0 21 rfl rfl)
theorem dX2_takesRoom_22 : decode cX2_takesRoom 22 = .ok (.iadd, 1) := dk_96 (dk_at dksX2_takesRoom_0 22 rfl rfl)
theorem dX2_takesRoom_23 : decode cX2_takesRoom 23 = .ok (.invokestatic 349, 3) := dk_184 1 93 (dk_at dksX2_takesRoom_1 0 rfl rfl)
theorem dX2_takesRoom_26 : decode cX2_takesRoom 26 = .ok (.istore 6, 2) := dk_54 6 (dk_at dksX2_takesRoom_1 3 rfl rfl)
theorem dX2_takesRoom_28 : decode cX2_takesRoom 28 = .ok (.aload_n 1, 1) := dk_43 (dk_at dksX2_takesRoom_1 5 rfl rfl)
theorem dX2_takesRoom_29 : decode cX2_takesRoom 29 = .ok (.iload 5, 2) := dk_21 5 (dk_at dksX2_takesRoom_1 6 rfl rfl)
theorem dX2_takesRoom_31 : decode cX2_takesRoom 31 = .ok (.iconst 2, 1) := dk_5 (dk_at dksX2_takesRoom_1 8 rfl rfl)
theorem dX2_takesRoom_32 : decode cX2_takesRoom 32 = .ok (.iadd, 1) := dk_96 (dk_at dksX2_takesRoom_1 9 rfl rfl)
theorem dX2_takesRoom_33 : decode cX2_takesRoom 33 = .ok (.iaload, 1) := dk_46 (dk_at dksX2_takesRoom_1 10 rfl rfl)
theorem dX2_takesRoom_34 : decode cX2_takesRoom 34 = .ok (.aload_n 1, 1) := dk_43 (dk_at dksX2_takesRoom_1 11 rfl rfl)
theorem dX2_takesRoom_35 : decode cX2_takesRoom 35 = .ok (.bipush 38, 2) := dk_16 38 (dk_at dksX2_takesRoom_1 12 rfl rfl)
theorem dX2_takesRoom_37 : decode cX2_takesRoom 37 = .ok (.iload_n 2, 1) := dk_28 (dk_at dksX2_takesRoom_1 14 rfl rfl)
theorem dX2_takesRoom_38 : decode cX2_takesRoom 38 = .ok (.iadd, 1) := dk_96 (dk_at dksX2_takesRoom_1 15 rfl rfl)
theorem dX2_takesRoom_39 : decode cX2_takesRoom 39 = .ok (.iaload, 1) := dk_46 (dk_at dksX2_takesRoom_1 16 rfl rfl)
theorem dX2_takesRoom_40 : decode cX2_takesRoom 40 = .ok (.iconst 1, 1) := dk_4 (dk_at dksX2_takesRoom_1 17 rfl rfl)
theorem dX2_takesRoom_41 : decode cX2_takesRoom 41 = .ok (.isub, 1) := dk_100 (dk_at dksX2_takesRoom_1 18 rfl rfl)
theorem dX2_takesRoom_42 : decode cX2_takesRoom 42 = .ok (.invokestatic 351, 3) := dk_184 1 95 (dk_at dksX2_takesRoom_1 19 rfl rfl)
theorem dX2_takesRoom_45 : decode cX2_takesRoom 45 = .ok (.istore 7, 2) := dk_54 7 (dk_at dksX2_takesRoom_1 22 rfl rfl)
theorem dX2_takesRoom_47 : decode cX2_takesRoom 47 = .ok (.iload 7, 2) := dk_21 7 (dk_at dksX2_takesRoom_2 0 rfl rfl)
theorem dX2_takesRoom_49 : decode cX2_takesRoom 49 = .ok (.iload 6, 2) := dk_21 6 (dk_at dksX2_takesRoom_2 2 rfl rfl)
theorem dX2_takesRoom_51 : decode cX2_takesRoom 51 = .ok (.if_icmp .gt 47, 3) := dk_163 0 47 (dk_at dksX2_takesRoom_2 4 rfl rfl)
theorem dX2_takesRoom_54 : decode cX2_takesRoom 54 = .ok (.aload_n 0, 1) := dk_42 (dk_at dksX2_takesRoom_2 7 rfl rfl)
theorem dX2_takesRoom_55 : decode cX2_takesRoom 55 = .ok (.getfield 70, 3) := dk_180 0 70 (dk_at dksX2_takesRoom_2 8 rfl rfl)
theorem dX2_takesRoom_58 : decode cX2_takesRoom 58 = .ok (.iload 4, 2) := dk_21 4 (dk_at dksX2_takesRoom_2 11 rfl rfl)
theorem dX2_takesRoom_60 : decode cX2_takesRoom 60 = .ok (.bipush 8, 2) := dk_16 8 (dk_at dksX2_takesRoom_2 13 rfl rfl)
theorem dX2_takesRoom_62 : decode cX2_takesRoom 62 = .ok (.iload_n 3, 1) := dk_29 (dk_at dksX2_takesRoom_2 15 rfl rfl)
theorem dX2_takesRoom_63 : decode cX2_takesRoom 63 = .ok (.imul, 1) := dk_104 (dk_at dksX2_takesRoom_2 16 rfl rfl)
theorem dX2_takesRoom_64 : decode cX2_takesRoom 64 = .ok (.iadd, 1) := dk_96 (dk_at dksX2_takesRoom_2 17 rfl rfl)
theorem dX2_takesRoom_65 : decode cX2_takesRoom 65 = .ok (.iload 7, 2) := dk_21 7 (dk_at dksX2_takesRoom_2 18 rfl rfl)
theorem dX2_takesRoom_67 : decode cX2_takesRoom 67 = .ok (.iadd, 1) := dk_96 (dk_at dksX2_takesRoom_2 20 rfl rfl)
theorem dX2_takesRoom_68 : decode cX2_takesRoom 68 = .ok (.dup2, 1) := dk_92 (dk_at dksX2_takesRoom_2 21 rfl rfl)
theorem dX2_takesRoom_69 : decode cX2_takesRoom 69 = .ok (.iaload, 1) := dk_46 (dk_at dksX2_takesRoom_2 22 rfl rfl)
theorem dX2_takesRoom_70 : decode cX2_takesRoom 70 = .ok (.aload_n 0, 1) := dk_42 (dk_at dksX2_takesRoom_2 23 rfl rfl)
theorem dX2_takesRoom_71 : decode cX2_takesRoom 71 = .ok (.aload_n 1, 1) := dk_43 (dk_at dksX2_takesRoom_3 0 rfl rfl)
theorem dX2_takesRoom_72 : decode cX2_takesRoom 72 = .ok (.iload_n 2, 1) := dk_28 (dk_at dksX2_takesRoom_3 1 rfl rfl)
theorem dX2_takesRoom_73 : decode cX2_takesRoom 73 = .ok (.aload_n 1, 1) := dk_43 (dk_at dksX2_takesRoom_3 2 rfl rfl)
theorem dX2_takesRoom_74 : decode cX2_takesRoom 74 = .ok (.iload 5, 2) := dk_21 5 (dk_at dksX2_takesRoom_3 3 rfl rfl)
theorem dX2_takesRoom_76 : decode cX2_takesRoom 76 = .ok (.iconst 0, 1) := dk_3 (dk_at dksX2_takesRoom_3 5 rfl rfl)
theorem dX2_takesRoom_77 : decode cX2_takesRoom 77 = .ok (.iadd, 1) := dk_96 (dk_at dksX2_takesRoom_3 6 rfl rfl)
theorem dX2_takesRoom_78 : decode cX2_takesRoom 78 = .ok (.iaload, 1) := dk_46 (dk_at dksX2_takesRoom_3 7 rfl rfl)
theorem dX2_takesRoom_79 : decode cX2_takesRoom 79 = .ok (.aload_n 1, 1) := dk_43 (dk_at dksX2_takesRoom_3 8 rfl rfl)
theorem dX2_takesRoom_80 : decode cX2_takesRoom 80 = .ok (.iload 5, 2) := dk_21 5 (dk_at dksX2_takesRoom_3 9 rfl rfl)
theorem dX2_takesRoom_82 : decode cX2_takesRoom 82 = .ok (.iconst 1, 1) := dk_4 (dk_at dksX2_takesRoom_3 11 rfl rfl)
theorem dX2_takesRoom_83 : decode cX2_takesRoom 83 = .ok (.iadd, 1) := dk_96 (dk_at dksX2_takesRoom_3 12 rfl rfl)
theorem dX2_takesRoom_84 : decode cX2_takesRoom 84 = .ok (.iaload, 1) := dk_46 (dk_at dksX2_takesRoom_3 13 rfl rfl)
theorem dX2_takesRoom_85 : decode cX2_takesRoom 85 = .ok (.iload 7, 2) := dk_21 7 (dk_at dksX2_takesRoom_3 14 rfl rfl)
theorem dX2_takesRoom_87 : decode cX2_takesRoom 87 = .ok (.invokevirtual 329, 3) := dk_182 1 73 (dk_at dksX2_takesRoom_3 16 rfl rfl)
theorem dX2_takesRoom_90 : decode cX2_takesRoom 90 = .ok (.isub, 1) := dk_100 (dk_at dksX2_takesRoom_3 19 rfl rfl)
theorem dX2_takesRoom_91 : decode cX2_takesRoom 91 = .ok (.iastore, 1) := dk_79 (dk_at dksX2_takesRoom_3 20 rfl rfl)
theorem dX2_takesRoom_92 : decode cX2_takesRoom 92 = .ok (.iinc 7 1, 3) := dk_132 7 1 (dk_at dksX2_takesRoom_3 21 rfl rfl)
theorem dX2_takesRoom_95 : decode cX2_takesRoom 95 = .ok (.goto (-48), 3) := dk_167 255 208 (dk_at dksX2_takesRoom_4 0 rfl rfl)
theorem dX2_takesRoom_98 : decode cX2_takesRoom 98 = .ok (.return_, 1) := dk_177 (dk_at dksX2_takesRoom_4 3 rfl rfl)
abbrev cX2_devicePower : ByteArray := prog_22_method_65_code
def yX2_devicePower : MethodName := ⟨RX2, "devicePower", "([III)I"⟩
def dkwX2_devicePower_4 : List UInt8 := [16, 70, 28, 96, 46, 21, 7, 184, 1, 93, 172]
abbrev dktX2_devicePower_4 : List UInt8 := dkwX2_devicePower_4 ++ []
def dkwX2_devicePower_3 : List UInt8 := [122, 4, 126, 154, 0, 7, 3, 167, 0, 13, 42, 43, 21, 4, 21, 5, 29, 182, 1, 123, 54, 7, 43]
abbrev dktX2_devicePower_3 : List UInt8 := dkwX2_devicePower_3 ++ dktX2_devicePower_4
def dkwX2_devicePower_2 : List UInt8 := [16, 86, 28, 96, 46, 182, 1, 129, 54, 7, 167, 0, 36, 42, 180, 0, 17, 16, 49, 21, 6, 96, 46, 29]
abbrev dktX2_devicePower_2 : List UInt8 := dkwX2_devicePower_2 ++ dktX2_devicePower_3
def dkwX2_devicePower_1 : List UInt8 := [180, 0, 17, 16, 86, 28, 96, 46, 54, 6, 21, 6, 2, 160, 0, 24, 42, 43, 21, 4, 21, 5, 29, 43]
abbrev dktX2_devicePower_1 : List UInt8 := dkwX2_devicePower_1 ++ dktX2_devicePower_2
def dkwX2_devicePower_0 : List UInt8 := [42, 180, 0, 17, 16, 54, 28, 96, 46, 54, 4, 42, 180, 0, 17, 16, 70, 28, 96, 46, 54, 5, 42]
abbrev dktX2_devicePower_0 : List UInt8 := dkwX2_devicePower_0 ++ dktX2_devicePower_1
theorem dksX2_devicePower_0 : cX2_devicePower.data.toList.drop 0 = dktX2_devicePower_0 := by decide +kernel
theorem dksX2_devicePower_1 : cX2_devicePower.data.toList.drop 23 = dktX2_devicePower_1 := dk_seg dksX2_devicePower_0 23 rfl rfl
theorem dksX2_devicePower_2 : cX2_devicePower.data.toList.drop 47 = dktX2_devicePower_2 := dk_seg dksX2_devicePower_1 24 rfl rfl
theorem dksX2_devicePower_3 : cX2_devicePower.data.toList.drop 71 = dktX2_devicePower_3 := dk_seg dksX2_devicePower_2 24 rfl rfl
theorem dksX2_devicePower_4 : cX2_devicePower.data.toList.drop 94 = dktX2_devicePower_4 := dk_seg dksX2_devicePower_3 23 rfl rfl
theorem dX2_devicePower_0 : decode cX2_devicePower 0 = .ok (.aload_n 0, 1) := dk_42 (dk_at dksX2_devicePower_0 0 rfl rfl)
theorem dX2_devicePower_1 : decode cX2_devicePower 1 = .ok (.getfield 17, 3) := dk_180 0 17 (dk_at dksX2_devicePower_0 1 rfl rfl)
theorem dX2_devicePower_4 : decode cX2_devicePower 4 = .ok (.bipush 54, 2) := dk_16 54 (dk_at dksX2_devicePower_0 4 rfl rfl)
theorem dX2_devicePower_6 : decode cX2_devicePower 6 = .ok (.iload_n 2, 1) := dk_28 (dk_at dksX2_devicePower_0 6 rfl rfl)
theorem dX2_devicePower_7 : decode cX2_devicePower 7 = .ok (.iadd, 1) := dk_96 (dk_at dksX2_devicePower_0 7 rfl rfl)
theorem dX2_devicePower_8 : decode cX2_devicePower 8 = .ok (.iaload, 1) := dk_46 (dk_at dksX2_devicePower_0 8 rfl rfl)
theorem dX2_devicePower_9 : decode cX2_devicePower 9 = .ok (.istore 4, 2) := dk_54 4 (dk_at dksX2_devicePower_0 9 rfl rfl)
theorem dX2_devicePower_11 : decode cX2_devicePower 11 = .ok (.aload_n 0, 1) := dk_42 (dk_at dksX2_devicePower_0 11 rfl rfl)
theorem dX2_devicePower_12 : decode cX2_devicePower 12 = .ok (.getfield 17, 3) := dk_180 0 17 (dk_at dksX2_devicePower_0 12 rfl rfl)
theorem dX2_devicePower_15 : decode cX2_devicePower 15 = .ok (.bipush 70, 2) := dk_16 70 (dk_at dksX2_devicePower_0 15 rfl rfl)
theorem dX2_devicePower_17 : decode cX2_devicePower 17 = .ok (.iload_n 2, 1) := dk_28 (dk_at dksX2_devicePower_0 17 rfl rfl)
theorem dX2_devicePower_18 : decode cX2_devicePower 18 = .ok (.iadd, 1) := dk_96 (dk_at dksX2_devicePower_0 18 rfl rfl)
theorem dX2_devicePower_19 : decode cX2_devicePower 19 = .ok (.iaload, 1) := dk_46 (dk_at dksX2_devicePower_0 19 rfl rfl)
theorem dX2_devicePower_20 : decode cX2_devicePower 20 = .ok (.istore 5, 2) := dk_54 5 (dk_at dksX2_devicePower_0 20 rfl rfl)
theorem dX2_devicePower_22 : decode cX2_devicePower 22 = .ok (.aload_n 0, 1) := dk_42 (dk_at dksX2_devicePower_0 22 rfl rfl)
theorem dX2_devicePower_23 : decode cX2_devicePower 23 = .ok (.getfield 17, 3) := dk_180 0 17 (dk_at dksX2_devicePower_1 0 rfl rfl)
theorem dX2_devicePower_26 : decode cX2_devicePower 26 = .ok (.bipush 86, 2) := dk_16 86 (dk_at dksX2_devicePower_1 3 rfl rfl)
theorem dX2_devicePower_28 : decode cX2_devicePower 28 = .ok (.iload_n 2, 1) := dk_28 (dk_at dksX2_devicePower_1 5 rfl rfl)
theorem dX2_devicePower_29 : decode cX2_devicePower 29 = .ok (.iadd, 1) := dk_96 (dk_at dksX2_devicePower_1 6 rfl rfl)
theorem dX2_devicePower_30 : decode cX2_devicePower 30 = .ok (.iaload, 1) := dk_46 (dk_at dksX2_devicePower_1 7 rfl rfl)
theorem dX2_devicePower_31 : decode cX2_devicePower 31 = .ok (.istore 6, 2) := dk_54 6 (dk_at dksX2_devicePower_1 8 rfl rfl)
theorem dX2_devicePower_33 : decode cX2_devicePower 33 = .ok (.iload 6, 2) := dk_21 6 (dk_at dksX2_devicePower_1 10 rfl rfl)
theorem dX2_devicePower_35 : decode cX2_devicePower 35 = .ok (.iconst (-1), 1) := dk_2 (dk_at dksX2_devicePower_1 12 rfl rfl)
theorem dX2_devicePower_36 : decode cX2_devicePower 36 = .ok (.if_icmp .ne 24, 3) := dk_160 0 24 (dk_at dksX2_devicePower_1 13 rfl rfl)
theorem dX2_devicePower_39 : decode cX2_devicePower 39 = .ok (.aload_n 0, 1) := dk_42 (dk_at dksX2_devicePower_1 16 rfl rfl)
theorem dX2_devicePower_40 : decode cX2_devicePower 40 = .ok (.aload_n 1, 1) := dk_43 (dk_at dksX2_devicePower_1 17 rfl rfl)
theorem dX2_devicePower_41 : decode cX2_devicePower 41 = .ok (.iload 4, 2) := dk_21 4 (dk_at dksX2_devicePower_1 18 rfl rfl)
theorem dX2_devicePower_43 : decode cX2_devicePower 43 = .ok (.iload 5, 2) := dk_21 5 (dk_at dksX2_devicePower_1 20 rfl rfl)
theorem dX2_devicePower_45 : decode cX2_devicePower 45 = .ok (.iload_n 3, 1) := dk_29 (dk_at dksX2_devicePower_1 22 rfl rfl)
theorem dX2_devicePower_46 : decode cX2_devicePower 46 = .ok (.aload_n 1, 1) := dk_43 (dk_at dksX2_devicePower_1 23 rfl rfl)
theorem dX2_devicePower_47 : decode cX2_devicePower 47 = .ok (.bipush 86, 2) := dk_16 86 (dk_at dksX2_devicePower_2 0 rfl rfl)
theorem dX2_devicePower_49 : decode cX2_devicePower 49 = .ok (.iload_n 2, 1) := dk_28 (dk_at dksX2_devicePower_2 2 rfl rfl)
theorem dX2_devicePower_50 : decode cX2_devicePower 50 = .ok (.iadd, 1) := dk_96 (dk_at dksX2_devicePower_2 3 rfl rfl)
theorem dX2_devicePower_51 : decode cX2_devicePower 51 = .ok (.iaload, 1) := dk_46 (dk_at dksX2_devicePower_2 4 rfl rfl)
theorem dX2_devicePower_52 : decode cX2_devicePower 52 = .ok (.invokevirtual 385, 3) := dk_182 1 129 (dk_at dksX2_devicePower_2 5 rfl rfl)
theorem dX2_devicePower_55 : decode cX2_devicePower 55 = .ok (.istore 7, 2) := dk_54 7 (dk_at dksX2_devicePower_2 8 rfl rfl)
theorem dX2_devicePower_57 : decode cX2_devicePower 57 = .ok (.goto 36, 3) := dk_167 0 36 (dk_at dksX2_devicePower_2 10 rfl rfl)
theorem dX2_devicePower_60 : decode cX2_devicePower 60 = .ok (.aload_n 0, 1) := dk_42 (dk_at dksX2_devicePower_2 13 rfl rfl)
theorem dX2_devicePower_61 : decode cX2_devicePower 61 = .ok (.getfield 17, 3) := dk_180 0 17 (dk_at dksX2_devicePower_2 14 rfl rfl)
theorem dX2_devicePower_64 : decode cX2_devicePower 64 = .ok (.bipush 49, 2) := dk_16 49 (dk_at dksX2_devicePower_2 17 rfl rfl)
theorem dX2_devicePower_66 : decode cX2_devicePower 66 = .ok (.iload 6, 2) := dk_21 6 (dk_at dksX2_devicePower_2 19 rfl rfl)
theorem dX2_devicePower_68 : decode cX2_devicePower 68 = .ok (.iadd, 1) := dk_96 (dk_at dksX2_devicePower_2 21 rfl rfl)
theorem dX2_devicePower_69 : decode cX2_devicePower 69 = .ok (.iaload, 1) := dk_46 (dk_at dksX2_devicePower_2 22 rfl rfl)
theorem dX2_devicePower_70 : decode cX2_devicePower 70 = .ok (.iload_n 3, 1) := dk_29 (dk_at dksX2_devicePower_2 23 rfl rfl)
theorem dX2_devicePower_71 : decode cX2_devicePower 71 = .ok (.ishr, 1) := dk_122 (dk_at dksX2_devicePower_3 0 rfl rfl)
theorem dX2_devicePower_72 : decode cX2_devicePower 72 = .ok (.iconst 1, 1) := dk_4 (dk_at dksX2_devicePower_3 1 rfl rfl)
theorem dX2_devicePower_73 : decode cX2_devicePower 73 = .ok (.iand, 1) := dk_126 (dk_at dksX2_devicePower_3 2 rfl rfl)
theorem dX2_devicePower_74 : decode cX2_devicePower 74 = .ok (.ifCond .ne 7, 3) := dk_154 0 7 (dk_at dksX2_devicePower_3 3 rfl rfl)
theorem dX2_devicePower_77 : decode cX2_devicePower 77 = .ok (.iconst 0, 1) := dk_3 (dk_at dksX2_devicePower_3 6 rfl rfl)
theorem dX2_devicePower_78 : decode cX2_devicePower 78 = .ok (.goto 13, 3) := dk_167 0 13 (dk_at dksX2_devicePower_3 7 rfl rfl)
theorem dX2_devicePower_81 : decode cX2_devicePower 81 = .ok (.aload_n 0, 1) := dk_42 (dk_at dksX2_devicePower_3 10 rfl rfl)
theorem dX2_devicePower_82 : decode cX2_devicePower 82 = .ok (.aload_n 1, 1) := dk_43 (dk_at dksX2_devicePower_3 11 rfl rfl)
theorem dX2_devicePower_83 : decode cX2_devicePower 83 = .ok (.iload 4, 2) := dk_21 4 (dk_at dksX2_devicePower_3 12 rfl rfl)
theorem dX2_devicePower_85 : decode cX2_devicePower 85 = .ok (.iload 5, 2) := dk_21 5 (dk_at dksX2_devicePower_3 14 rfl rfl)
theorem dX2_devicePower_87 : decode cX2_devicePower 87 = .ok (.iload_n 3, 1) := dk_29 (dk_at dksX2_devicePower_3 16 rfl rfl)
theorem dX2_devicePower_88 : decode cX2_devicePower 88 = .ok (.invokevirtual 379, 3) := dk_182 1 123 (dk_at dksX2_devicePower_3 17 rfl rfl)
theorem dX2_devicePower_91 : decode cX2_devicePower 91 = .ok (.istore 7, 2) := dk_54 7 (dk_at dksX2_devicePower_3 20 rfl rfl)
theorem dX2_devicePower_93 : decode cX2_devicePower 93 = .ok (.aload_n 1, 1) := dk_43 (dk_at dksX2_devicePower_3 22 rfl rfl)
theorem dX2_devicePower_94 : decode cX2_devicePower 94 = .ok (.bipush 70, 2) := dk_16 70 (dk_at dksX2_devicePower_4 0 rfl rfl)
theorem dX2_devicePower_96 : decode cX2_devicePower 96 = .ok (.iload_n 2, 1) := dk_28 (dk_at dksX2_devicePower_4 2 rfl rfl)
theorem dX2_devicePower_97 : decode cX2_devicePower 97 = .ok (.iadd, 1) := dk_96 (dk_at dksX2_devicePower_4 3 rfl rfl)
theorem dX2_devicePower_98 : decode cX2_devicePower 98 = .ok (.iaload, 1) := dk_46 (dk_at dksX2_devicePower_4 4 rfl rfl)
theorem dX2_devicePower_99 : decode cX2_devicePower 99 = .ok (.iload 7, 2) := dk_21 7 (dk_at dksX2_devicePower_4 5 rfl rfl)
theorem dX2_devicePower_101 : decode cX2_devicePower 101 = .ok (.invokestatic 349, 3) := dk_184 1 93 (dk_at dksX2_devicePower_4 7 rfl rfl)
theorem dX2_devicePower_104 : decode cX2_devicePower 104 = .ok (.ireturn, 1) := dk_172 (dk_at dksX2_devicePower_4 10 rfl rfl)
abbrev cX2_generalPower : ByteArray := prog_22_method_64_code
def yX2_generalPower : MethodName := ⟨RX2, "generalPower", "([IIIII)I"⟩
def dkwX2_generalPower_1 : List UInt8 := [182, 1, 123, 42, 43, 28, 29, 21, 4, 182, 1, 126, 184, 1, 93, 172]
abbrev dktX2_generalPower_1 : List UInt8 := dkwX2_generalPower_1 ++ []
def dkwX2_generalPower_0 : List UInt8 := [42, 43, 28, 29, 21, 4, 21, 5, 182, 1, 7, 153, 0, 7, 3, 167, 0, 24, 42, 43, 28, 29, 21, 4]
abbrev dktX2_generalPower_0 : List UInt8 := dkwX2_generalPower_0 ++ dktX2_generalPower_1
theorem dksX2_generalPower_0 : cX2_generalPower.data.toList.drop 0 = dktX2_generalPower_0 := by decide +kernel
theorem dksX2_generalPower_1 : cX2_generalPower.data.toList.drop 24 = dktX2_generalPower_1 := dk_seg dksX2_generalPower_0 24 rfl rfl
theorem dX2_generalPower_0 : decode cX2_generalPower 0 = .ok (.aload_n 0, 1) := dk_42 (dk_at dksX2_generalPower_0 0 rfl rfl)
theorem dX2_generalPower_1 : decode cX2_generalPower 1 = .ok (.aload_n 1, 1) := dk_43 (dk_at dksX2_generalPower_0 1 rfl rfl)
theorem dX2_generalPower_2 : decode cX2_generalPower 2 = .ok (.iload_n 2, 1) := dk_28 (dk_at dksX2_generalPower_0 2 rfl rfl)
theorem dX2_generalPower_3 : decode cX2_generalPower 3 = .ok (.iload_n 3, 1) := dk_29 (dk_at dksX2_generalPower_0 3 rfl rfl)
theorem dX2_generalPower_4 : decode cX2_generalPower 4 = .ok (.iload 4, 2) := dk_21 4 (dk_at dksX2_generalPower_0 4 rfl rfl)
theorem dX2_generalPower_6 : decode cX2_generalPower 6 = .ok (.iload 5, 2) := dk_21 5 (dk_at dksX2_generalPower_0 6 rfl rfl)
theorem dX2_generalPower_8 : decode cX2_generalPower 8 = .ok (.invokevirtual 263, 3) := dk_182 1 7 (dk_at dksX2_generalPower_0 8 rfl rfl)
theorem dX2_generalPower_11 : decode cX2_generalPower 11 = .ok (.ifCond .eq 7, 3) := dk_153 0 7 (dk_at dksX2_generalPower_0 11 rfl rfl)
theorem dX2_generalPower_14 : decode cX2_generalPower 14 = .ok (.iconst 0, 1) := dk_3 (dk_at dksX2_generalPower_0 14 rfl rfl)
theorem dX2_generalPower_15 : decode cX2_generalPower 15 = .ok (.goto 24, 3) := dk_167 0 24 (dk_at dksX2_generalPower_0 15 rfl rfl)
theorem dX2_generalPower_18 : decode cX2_generalPower 18 = .ok (.aload_n 0, 1) := dk_42 (dk_at dksX2_generalPower_0 18 rfl rfl)
theorem dX2_generalPower_19 : decode cX2_generalPower 19 = .ok (.aload_n 1, 1) := dk_43 (dk_at dksX2_generalPower_0 19 rfl rfl)
theorem dX2_generalPower_20 : decode cX2_generalPower 20 = .ok (.iload_n 2, 1) := dk_28 (dk_at dksX2_generalPower_0 20 rfl rfl)
theorem dX2_generalPower_21 : decode cX2_generalPower 21 = .ok (.iload_n 3, 1) := dk_29 (dk_at dksX2_generalPower_0 21 rfl rfl)
theorem dX2_generalPower_22 : decode cX2_generalPower 22 = .ok (.iload 4, 2) := dk_21 4 (dk_at dksX2_generalPower_0 22 rfl rfl)
theorem dX2_generalPower_24 : decode cX2_generalPower 24 = .ok (.invokevirtual 379, 3) := dk_182 1 123 (dk_at dksX2_generalPower_1 0 rfl rfl)
theorem dX2_generalPower_27 : decode cX2_generalPower 27 = .ok (.aload_n 0, 1) := dk_42 (dk_at dksX2_generalPower_1 3 rfl rfl)
theorem dX2_generalPower_28 : decode cX2_generalPower 28 = .ok (.aload_n 1, 1) := dk_43 (dk_at dksX2_generalPower_1 4 rfl rfl)
theorem dX2_generalPower_29 : decode cX2_generalPower 29 = .ok (.iload_n 2, 1) := dk_28 (dk_at dksX2_generalPower_1 5 rfl rfl)
theorem dX2_generalPower_30 : decode cX2_generalPower 30 = .ok (.iload_n 3, 1) := dk_29 (dk_at dksX2_generalPower_1 6 rfl rfl)
theorem dX2_generalPower_31 : decode cX2_generalPower 31 = .ok (.iload 4, 2) := dk_21 4 (dk_at dksX2_generalPower_1 7 rfl rfl)
theorem dX2_generalPower_33 : decode cX2_generalPower 33 = .ok (.invokevirtual 382, 3) := dk_182 1 126 (dk_at dksX2_generalPower_1 9 rfl rfl)
theorem dX2_generalPower_36 : decode cX2_generalPower 36 = .ok (.invokestatic 349, 3) := dk_184 1 93 (dk_at dksX2_generalPower_1 12 rfl rfl)
theorem dX2_generalPower_39 : decode cX2_generalPower 39 = .ok (.ireturn, 1) := dk_172 (dk_at dksX2_generalPower_1 15 rfl rfl)
abbrev cX2_byIncumbents : ByteArray := prog_22_method_62_code
def yX2_byIncumbents : MethodName := ⟨RX2, "byIncumbents", "([IIII)I"⟩
def dkwX2_byIncumbents_5 : List UInt8 := [167, 255, 207, 132, 6, 1, 167, 255, 141, 21, 5, 172]
abbrev dktX2_byIncumbents_5 : List UInt8 := dkwX2_byIncumbents_5 ++ []
def dkwX2_byIncumbents_4 : List UInt8 := [96, 21, 9, 96, 46, 21, 8, 21, 4, 21, 9, 182, 1, 120, 184, 1, 93, 54, 5, 132, 9, 1]
abbrev dktX2_byIncumbents_4 : List UInt8 := dkwX2_byIncumbents_4 ++ dktX2_byIncumbents_5
def dkwX2_byIncumbents_3 : List UInt8 := [21, 7, 6, 96, 46, 163, 0, 44, 21, 5, 42, 42, 180, 0, 70, 42, 180, 1, 111, 16, 8, 21, 6, 104]
abbrev dktX2_byIncumbents_3 : List UInt8 := dkwX2_byIncumbents_3 ++ dktX2_byIncumbents_4
def dkwX2_byIncumbents_2 : List UInt8 := [46, 43, 21, 7, 4, 96, 46, 184, 1, 57, 96, 54, 8, 43, 21, 7, 5, 96, 46, 54, 9, 21, 9, 43]
abbrev dktX2_byIncumbents_2 : List UInt8 := dkwX2_byIncumbents_2 ++ dktX2_byIncumbents_3
def dkwX2_byIncumbents_1 : List UInt8 := [154, 0, 6, 167, 0, 94, 16, 118, 16, 8, 21, 6, 104, 96, 54, 7, 4, 28, 29, 43, 21, 7, 3, 96]
abbrev dktX2_byIncumbents_1 : List UInt8 := dkwX2_byIncumbents_1 ++ dktX2_byIncumbents_2
def dkwX2_byIncumbents_0 : List UInt8 := [17, 3, 231, 54, 5, 3, 54, 6, 21, 6, 43, 7, 46, 162, 0, 113, 42, 180, 0, 76, 21, 6, 51]
abbrev dktX2_byIncumbents_0 : List UInt8 := dkwX2_byIncumbents_0 ++ dktX2_byIncumbents_1
theorem dksX2_byIncumbents_0 : cX2_byIncumbents.data.toList.drop 0 = dktX2_byIncumbents_0 := by decide +kernel
theorem dksX2_byIncumbents_1 : cX2_byIncumbents.data.toList.drop 23 = dktX2_byIncumbents_1 := dk_seg dksX2_byIncumbents_0 23 rfl rfl
theorem dksX2_byIncumbents_2 : cX2_byIncumbents.data.toList.drop 47 = dktX2_byIncumbents_2 := dk_seg dksX2_byIncumbents_1 24 rfl rfl
theorem dksX2_byIncumbents_3 : cX2_byIncumbents.data.toList.drop 71 = dktX2_byIncumbents_3 := dk_seg dksX2_byIncumbents_2 24 rfl rfl
theorem dksX2_byIncumbents_4 : cX2_byIncumbents.data.toList.drop 95 = dktX2_byIncumbents_4 := dk_seg dksX2_byIncumbents_3 24 rfl rfl
theorem dksX2_byIncumbents_5 : cX2_byIncumbents.data.toList.drop 117 = dktX2_byIncumbents_5 := dk_seg dksX2_byIncumbents_4 22 rfl rfl
theorem dX2_byIncumbents_0 : decode cX2_byIncumbents 0 = .ok (.sipush 999, 3) := dk_17 3 231 (dk_at dksX2_byIncumbents_0 0 rfl rfl)
theorem dX2_byIncumbents_3 : decode cX2_byIncumbents 3 = .ok (.istore 5, 2) := dk_54 5 (dk_at dksX2_byIncumbents_0 3 rfl rfl)
theorem dX2_byIncumbents_5 : decode cX2_byIncumbents 5 = .ok (.iconst 0, 1) := dk_3 (dk_at dksX2_byIncumbents_0 5 rfl rfl)
theorem dX2_byIncumbents_6 : decode cX2_byIncumbents 6 = .ok (.istore 6, 2) := dk_54 6 (dk_at dksX2_byIncumbents_0 6 rfl rfl)
theorem dX2_byIncumbents_8 : decode cX2_byIncumbents 8 = .ok (.iload 6, 2) := dk_21 6 (dk_at dksX2_byIncumbents_0 8 rfl rfl)
theorem dX2_byIncumbents_10 : decode cX2_byIncumbents 10 = .ok (.aload_n 1, 1) := dk_43 (dk_at dksX2_byIncumbents_0 10 rfl rfl)
theorem dX2_byIncumbents_11 : decode cX2_byIncumbents 11 = .ok (.iconst 4, 1) := dk_7 (dk_at dksX2_byIncumbents_0 11 rfl rfl)
theorem dX2_byIncumbents_12 : decode cX2_byIncumbents 12 = .ok (.iaload, 1) := dk_46 (dk_at dksX2_byIncumbents_0 12 rfl rfl)
theorem dX2_byIncumbents_13 : decode cX2_byIncumbents 13 = .ok (.if_icmp .ge 113, 3) := dk_162 0 113 (dk_at dksX2_byIncumbents_0 13 rfl rfl)
theorem dX2_byIncumbents_16 : decode cX2_byIncumbents 16 = .ok (.aload_n 0, 1) := dk_42 (dk_at dksX2_byIncumbents_0 16 rfl rfl)
theorem dX2_byIncumbents_17 : decode cX2_byIncumbents 17 = .ok (.getfield 76, 3) := dk_180 0 76 (dk_at dksX2_byIncumbents_0 17 rfl rfl)
theorem dX2_byIncumbents_20 : decode cX2_byIncumbents 20 = .ok (.iload 6, 2) := dk_21 6 (dk_at dksX2_byIncumbents_0 20 rfl rfl)
theorem dX2_byIncumbents_22 : decode cX2_byIncumbents 22 = .ok (.baload, 1) := dk_51 (dk_at dksX2_byIncumbents_0 22 rfl rfl)
theorem dX2_byIncumbents_23 : decode cX2_byIncumbents 23 = .ok (.ifCond .ne 6, 3) := dk_154 0 6 (dk_at dksX2_byIncumbents_1 0 rfl rfl)
theorem dX2_byIncumbents_26 : decode cX2_byIncumbents 26 = .ok (.goto 94, 3) := dk_167 0 94 (dk_at dksX2_byIncumbents_1 3 rfl rfl)
theorem dX2_byIncumbents_29 : decode cX2_byIncumbents 29 = .ok (.bipush 118, 2) := dk_16 118 (dk_at dksX2_byIncumbents_1 6 rfl rfl)
theorem dX2_byIncumbents_31 : decode cX2_byIncumbents 31 = .ok (.bipush 8, 2) := dk_16 8 (dk_at dksX2_byIncumbents_1 8 rfl rfl)
theorem dX2_byIncumbents_33 : decode cX2_byIncumbents 33 = .ok (.iload 6, 2) := dk_21 6 (dk_at dksX2_byIncumbents_1 10 rfl rfl)
theorem dX2_byIncumbents_35 : decode cX2_byIncumbents 35 = .ok (.imul, 1) := dk_104 (dk_at dksX2_byIncumbents_1 12 rfl rfl)
theorem dX2_byIncumbents_36 : decode cX2_byIncumbents 36 = .ok (.iadd, 1) := dk_96 (dk_at dksX2_byIncumbents_1 13 rfl rfl)
theorem dX2_byIncumbents_37 : decode cX2_byIncumbents 37 = .ok (.istore 7, 2) := dk_54 7 (dk_at dksX2_byIncumbents_1 14 rfl rfl)
theorem dX2_byIncumbents_39 : decode cX2_byIncumbents 39 = .ok (.iconst 1, 1) := dk_4 (dk_at dksX2_byIncumbents_1 16 rfl rfl)
theorem dX2_byIncumbents_40 : decode cX2_byIncumbents 40 = .ok (.iload_n 2, 1) := dk_28 (dk_at dksX2_byIncumbents_1 17 rfl rfl)
theorem dX2_byIncumbents_41 : decode cX2_byIncumbents 41 = .ok (.iload_n 3, 1) := dk_29 (dk_at dksX2_byIncumbents_1 18 rfl rfl)
theorem dX2_byIncumbents_42 : decode cX2_byIncumbents 42 = .ok (.aload_n 1, 1) := dk_43 (dk_at dksX2_byIncumbents_1 19 rfl rfl)
theorem dX2_byIncumbents_43 : decode cX2_byIncumbents 43 = .ok (.iload 7, 2) := dk_21 7 (dk_at dksX2_byIncumbents_1 20 rfl rfl)
theorem dX2_byIncumbents_45 : decode cX2_byIncumbents 45 = .ok (.iconst 0, 1) := dk_3 (dk_at dksX2_byIncumbents_1 22 rfl rfl)
theorem dX2_byIncumbents_46 : decode cX2_byIncumbents 46 = .ok (.iadd, 1) := dk_96 (dk_at dksX2_byIncumbents_1 23 rfl rfl)
theorem dX2_byIncumbents_47 : decode cX2_byIncumbents 47 = .ok (.iaload, 1) := dk_46 (dk_at dksX2_byIncumbents_2 0 rfl rfl)
theorem dX2_byIncumbents_48 : decode cX2_byIncumbents 48 = .ok (.aload_n 1, 1) := dk_43 (dk_at dksX2_byIncumbents_2 1 rfl rfl)
theorem dX2_byIncumbents_49 : decode cX2_byIncumbents 49 = .ok (.iload 7, 2) := dk_21 7 (dk_at dksX2_byIncumbents_2 2 rfl rfl)
theorem dX2_byIncumbents_51 : decode cX2_byIncumbents 51 = .ok (.iconst 1, 1) := dk_4 (dk_at dksX2_byIncumbents_2 4 rfl rfl)
theorem dX2_byIncumbents_52 : decode cX2_byIncumbents 52 = .ok (.iadd, 1) := dk_96 (dk_at dksX2_byIncumbents_2 5 rfl rfl)
theorem dX2_byIncumbents_53 : decode cX2_byIncumbents 53 = .ok (.iaload, 1) := dk_46 (dk_at dksX2_byIncumbents_2 6 rfl rfl)
theorem dX2_byIncumbents_54 : decode cX2_byIncumbents 54 = .ok (.invokestatic 313, 3) := dk_184 1 57 (dk_at dksX2_byIncumbents_2 7 rfl rfl)
theorem dX2_byIncumbents_57 : decode cX2_byIncumbents 57 = .ok (.iadd, 1) := dk_96 (dk_at dksX2_byIncumbents_2 10 rfl rfl)
theorem dX2_byIncumbents_58 : decode cX2_byIncumbents 58 = .ok (.istore 8, 2) := dk_54 8 (dk_at dksX2_byIncumbents_2 11 rfl rfl)
theorem dX2_byIncumbents_60 : decode cX2_byIncumbents 60 = .ok (.aload_n 1, 1) := dk_43 (dk_at dksX2_byIncumbents_2 13 rfl rfl)
theorem dX2_byIncumbents_61 : decode cX2_byIncumbents 61 = .ok (.iload 7, 2) := dk_21 7 (dk_at dksX2_byIncumbents_2 14 rfl rfl)
theorem dX2_byIncumbents_63 : decode cX2_byIncumbents 63 = .ok (.iconst 2, 1) := dk_5 (dk_at dksX2_byIncumbents_2 16 rfl rfl)
theorem dX2_byIncumbents_64 : decode cX2_byIncumbents 64 = .ok (.iadd, 1) := dk_96 (dk_at dksX2_byIncumbents_2 17 rfl rfl)
theorem dX2_byIncumbents_65 : decode cX2_byIncumbents 65 = .ok (.iaload, 1) := dk_46 (dk_at dksX2_byIncumbents_2 18 rfl rfl)
theorem dX2_byIncumbents_66 : decode cX2_byIncumbents 66 = .ok (.istore 9, 2) := dk_54 9 (dk_at dksX2_byIncumbents_2 19 rfl rfl)
theorem dX2_byIncumbents_68 : decode cX2_byIncumbents 68 = .ok (.iload 9, 2) := dk_21 9 (dk_at dksX2_byIncumbents_2 21 rfl rfl)
theorem dX2_byIncumbents_70 : decode cX2_byIncumbents 70 = .ok (.aload_n 1, 1) := dk_43 (dk_at dksX2_byIncumbents_2 23 rfl rfl)
theorem dX2_byIncumbents_71 : decode cX2_byIncumbents 71 = .ok (.iload 7, 2) := dk_21 7 (dk_at dksX2_byIncumbents_3 0 rfl rfl)
theorem dX2_byIncumbents_73 : decode cX2_byIncumbents 73 = .ok (.iconst 3, 1) := dk_6 (dk_at dksX2_byIncumbents_3 2 rfl rfl)
theorem dX2_byIncumbents_74 : decode cX2_byIncumbents 74 = .ok (.iadd, 1) := dk_96 (dk_at dksX2_byIncumbents_3 3 rfl rfl)
theorem dX2_byIncumbents_75 : decode cX2_byIncumbents 75 = .ok (.iaload, 1) := dk_46 (dk_at dksX2_byIncumbents_3 4 rfl rfl)
theorem dX2_byIncumbents_76 : decode cX2_byIncumbents 76 = .ok (.if_icmp .gt 44, 3) := dk_163 0 44 (dk_at dksX2_byIncumbents_3 5 rfl rfl)
theorem dX2_byIncumbents_79 : decode cX2_byIncumbents 79 = .ok (.iload 5, 2) := dk_21 5 (dk_at dksX2_byIncumbents_3 8 rfl rfl)
theorem dX2_byIncumbents_81 : decode cX2_byIncumbents 81 = .ok (.aload_n 0, 1) := dk_42 (dk_at dksX2_byIncumbents_3 10 rfl rfl)
theorem dX2_byIncumbents_82 : decode cX2_byIncumbents 82 = .ok (.aload_n 0, 1) := dk_42 (dk_at dksX2_byIncumbents_3 11 rfl rfl)
theorem dX2_byIncumbents_83 : decode cX2_byIncumbents 83 = .ok (.getfield 70, 3) := dk_180 0 70 (dk_at dksX2_byIncumbents_3 12 rfl rfl)
theorem dX2_byIncumbents_86 : decode cX2_byIncumbents 86 = .ok (.aload_n 0, 1) := dk_42 (dk_at dksX2_byIncumbents_3 15 rfl rfl)
theorem dX2_byIncumbents_87 : decode cX2_byIncumbents 87 = .ok (.getfield 367, 3) := dk_180 1 111 (dk_at dksX2_byIncumbents_3 16 rfl rfl)
theorem dX2_byIncumbents_90 : decode cX2_byIncumbents 90 = .ok (.bipush 8, 2) := dk_16 8 (dk_at dksX2_byIncumbents_3 19 rfl rfl)
theorem dX2_byIncumbents_92 : decode cX2_byIncumbents 92 = .ok (.iload 6, 2) := dk_21 6 (dk_at dksX2_byIncumbents_3 21 rfl rfl)
theorem dX2_byIncumbents_94 : decode cX2_byIncumbents 94 = .ok (.imul, 1) := dk_104 (dk_at dksX2_byIncumbents_3 23 rfl rfl)
theorem dX2_byIncumbents_95 : decode cX2_byIncumbents 95 = .ok (.iadd, 1) := dk_96 (dk_at dksX2_byIncumbents_4 0 rfl rfl)
theorem dX2_byIncumbents_96 : decode cX2_byIncumbents 96 = .ok (.iload 9, 2) := dk_21 9 (dk_at dksX2_byIncumbents_4 1 rfl rfl)
theorem dX2_byIncumbents_98 : decode cX2_byIncumbents 98 = .ok (.iadd, 1) := dk_96 (dk_at dksX2_byIncumbents_4 3 rfl rfl)
theorem dX2_byIncumbents_99 : decode cX2_byIncumbents 99 = .ok (.iaload, 1) := dk_46 (dk_at dksX2_byIncumbents_4 4 rfl rfl)
theorem dX2_byIncumbents_100 : decode cX2_byIncumbents 100 = .ok (.iload 8, 2) := dk_21 8 (dk_at dksX2_byIncumbents_4 5 rfl rfl)
theorem dX2_byIncumbents_102 : decode cX2_byIncumbents 102 = .ok (.iload 4, 2) := dk_21 4 (dk_at dksX2_byIncumbents_4 7 rfl rfl)
theorem dX2_byIncumbents_104 : decode cX2_byIncumbents 104 = .ok (.iload 9, 2) := dk_21 9 (dk_at dksX2_byIncumbents_4 9 rfl rfl)
theorem dX2_byIncumbents_106 : decode cX2_byIncumbents 106 = .ok (.invokevirtual 376, 3) := dk_182 1 120 (dk_at dksX2_byIncumbents_4 11 rfl rfl)
theorem dX2_byIncumbents_109 : decode cX2_byIncumbents 109 = .ok (.invokestatic 349, 3) := dk_184 1 93 (dk_at dksX2_byIncumbents_4 14 rfl rfl)
theorem dX2_byIncumbents_112 : decode cX2_byIncumbents 112 = .ok (.istore 5, 2) := dk_54 5 (dk_at dksX2_byIncumbents_4 17 rfl rfl)
theorem dX2_byIncumbents_114 : decode cX2_byIncumbents 114 = .ok (.iinc 9 1, 3) := dk_132 9 1 (dk_at dksX2_byIncumbents_4 19 rfl rfl)
theorem dX2_byIncumbents_117 : decode cX2_byIncumbents 117 = .ok (.goto (-49), 3) := dk_167 255 207 (dk_at dksX2_byIncumbents_5 0 rfl rfl)
theorem dX2_byIncumbents_120 : decode cX2_byIncumbents 120 = .ok (.iinc 6 1, 3) := dk_132 6 1 (dk_at dksX2_byIncumbents_5 3 rfl rfl)
theorem dX2_byIncumbents_123 : decode cX2_byIncumbents 123 = .ok (.goto (-115), 3) := dk_167 255 141 (dk_at dksX2_byIncumbents_5 6 rfl rfl)
theorem dX2_byIncumbents_126 : decode cX2_byIncumbents 126 = .ok (.iload 5, 2) := dk_21 5 (dk_at dksX2_byIncumbents_5 9 rfl rfl)
theorem dX2_byIncumbents_128 : decode cX2_byIncumbents 128 = .ok (.ireturn, 1) := dk_172 (dk_at dksX2_byIncumbents_5 11 rfl rfl)
abbrev cX2_allowedBy : ByteArray := prog_22_method_57_code
def yX2_allowedBy : MethodName := ⟨RX2, "allowedBy", "(IIII)I"⟩
def dkwX2_allowedBy_1 : List UInt8 := [17, 3, 231, 172, 42, 27, 28, 21, 5, 4, 160, 0, 7, 4, 167, 0, 4, 3, 182, 1, 89, 172]
abbrev dktX2_allowedBy_1 : List UInt8 := dkwX2_allowedBy_1 ++ []
def dkwX2_allowedBy_0 : List UInt8 := [29, 21, 4, 100, 184, 1, 61, 54, 5, 21, 5, 4, 164, 0, 15, 27, 156, 0, 7, 3, 167, 0, 6]
abbrev dktX2_allowedBy_0 : List UInt8 := dkwX2_allowedBy_0 ++ dktX2_allowedBy_1
theorem dksX2_allowedBy_0 : cX2_allowedBy.data.toList.drop 0 = dktX2_allowedBy_0 := by decide +kernel
theorem dksX2_allowedBy_1 : cX2_allowedBy.data.toList.drop 23 = dktX2_allowedBy_1 := dk_seg dksX2_allowedBy_0 23 rfl rfl
theorem dX2_allowedBy_0 : decode cX2_allowedBy 0 = .ok (.iload_n 3, 1) := dk_29 (dk_at dksX2_allowedBy_0 0 rfl rfl)
theorem dX2_allowedBy_1 : decode cX2_allowedBy 1 = .ok (.iload 4, 2) := dk_21 4 (dk_at dksX2_allowedBy_0 1 rfl rfl)
theorem dX2_allowedBy_3 : decode cX2_allowedBy 3 = .ok (.isub, 1) := dk_100 (dk_at dksX2_allowedBy_0 3 rfl rfl)
theorem dX2_allowedBy_4 : decode cX2_allowedBy 4 = .ok (.invokestatic 317, 3) := dk_184 1 61 (dk_at dksX2_allowedBy_0 4 rfl rfl)
theorem dX2_allowedBy_7 : decode cX2_allowedBy 7 = .ok (.istore 5, 2) := dk_54 5 (dk_at dksX2_allowedBy_0 7 rfl rfl)
theorem dX2_allowedBy_9 : decode cX2_allowedBy 9 = .ok (.iload 5, 2) := dk_21 5 (dk_at dksX2_allowedBy_0 9 rfl rfl)
theorem dX2_allowedBy_11 : decode cX2_allowedBy 11 = .ok (.iconst 1, 1) := dk_4 (dk_at dksX2_allowedBy_0 11 rfl rfl)
theorem dX2_allowedBy_12 : decode cX2_allowedBy 12 = .ok (.if_icmp .le 15, 3) := dk_164 0 15 (dk_at dksX2_allowedBy_0 12 rfl rfl)
theorem dX2_allowedBy_15 : decode cX2_allowedBy 15 = .ok (.iload_n 1, 1) := dk_27 (dk_at dksX2_allowedBy_0 15 rfl rfl)
theorem dX2_allowedBy_16 : decode cX2_allowedBy 16 = .ok (.ifCond .ge 7, 3) := dk_156 0 7 (dk_at dksX2_allowedBy_0 16 rfl rfl)
theorem dX2_allowedBy_19 : decode cX2_allowedBy 19 = .ok (.iconst 0, 1) := dk_3 (dk_at dksX2_allowedBy_0 19 rfl rfl)
theorem dX2_allowedBy_20 : decode cX2_allowedBy 20 = .ok (.goto 6, 3) := dk_167 0 6 (dk_at dksX2_allowedBy_0 20 rfl rfl)
theorem dX2_allowedBy_23 : decode cX2_allowedBy 23 = .ok (.sipush 999, 3) := dk_17 3 231 (dk_at dksX2_allowedBy_1 0 rfl rfl)
theorem dX2_allowedBy_26 : decode cX2_allowedBy 26 = .ok (.ireturn, 1) := dk_172 (dk_at dksX2_allowedBy_1 3 rfl rfl)
theorem dX2_allowedBy_27 : decode cX2_allowedBy 27 = .ok (.aload_n 0, 1) := dk_42 (dk_at dksX2_allowedBy_1 4 rfl rfl)
theorem dX2_allowedBy_28 : decode cX2_allowedBy 28 = .ok (.iload_n 1, 1) := dk_27 (dk_at dksX2_allowedBy_1 5 rfl rfl)
theorem dX2_allowedBy_29 : decode cX2_allowedBy 29 = .ok (.iload_n 2, 1) := dk_28 (dk_at dksX2_allowedBy_1 6 rfl rfl)
theorem dX2_allowedBy_30 : decode cX2_allowedBy 30 = .ok (.iload 5, 2) := dk_21 5 (dk_at dksX2_allowedBy_1 7 rfl rfl)
theorem dX2_allowedBy_32 : decode cX2_allowedBy 32 = .ok (.iconst 1, 1) := dk_4 (dk_at dksX2_allowedBy_1 9 rfl rfl)
theorem dX2_allowedBy_33 : decode cX2_allowedBy 33 = .ok (.if_icmp .ne 7, 3) := dk_160 0 7 (dk_at dksX2_allowedBy_1 10 rfl rfl)
theorem dX2_allowedBy_36 : decode cX2_allowedBy 36 = .ok (.iconst 1, 1) := dk_4 (dk_at dksX2_allowedBy_1 13 rfl rfl)
theorem dX2_allowedBy_37 : decode cX2_allowedBy 37 = .ok (.goto 4, 3) := dk_167 0 4 (dk_at dksX2_allowedBy_1 14 rfl rfl)
theorem dX2_allowedBy_40 : decode cX2_allowedBy 40 = .ok (.iconst 0, 1) := dk_3 (dk_at dksX2_allowedBy_1 17 rfl rfl)
theorem dX2_allowedBy_41 : decode cX2_allowedBy 41 = .ok (.invokevirtual 345, 3) := dk_182 1 89 (dk_at dksX2_allowedBy_1 18 rfl rfl)
theorem dX2_allowedBy_44 : decode cX2_allowedBy 44 = .ok (.ireturn, 1) := dk_172 (dk_at dksX2_allowedBy_1 21 rfl rfl)
abbrev cX2_powerFor : ByteArray := prog_22_method_56_code
def yX2_powerFor : MethodName := ⟨RX2, "powerFor", "(IIZ)I"⟩
def dkwX2_powerFor_2 : List UInt8 := [184, 1, 85, 136, 172]
abbrev dktX2_powerFor_2 : List UInt8 := dkwX2_powerFor_2 ++ []
def dkwX2_powerFor_1 : List UInt8 := [167, 0, 5, 27, 133, 55, 4, 20, 1, 81, 22, 4, 10, 97, 28, 133, 105, 10, 101, 20, 1, 83, 109]
abbrev dktX2_powerFor_1 : List UInt8 := dkwX2_powerFor_1 ++ dktX2_powerFor_2
def dkwX2_powerFor_0 : List UInt8 := [27, 156, 0, 5, 3, 172, 29, 153, 0, 20, 42, 180, 0, 17, 6, 46, 133, 27, 4, 96, 133, 105, 10, 101]
abbrev dktX2_powerFor_0 : List UInt8 := dkwX2_powerFor_0 ++ dktX2_powerFor_1
theorem dksX2_powerFor_0 : cX2_powerFor.data.toList.drop 0 = dktX2_powerFor_0 := by decide +kernel
theorem dksX2_powerFor_1 : cX2_powerFor.data.toList.drop 24 = dktX2_powerFor_1 := dk_seg dksX2_powerFor_0 24 rfl rfl
theorem dksX2_powerFor_2 : cX2_powerFor.data.toList.drop 47 = dktX2_powerFor_2 := dk_seg dksX2_powerFor_1 23 rfl rfl
theorem dX2_powerFor_0 : decode cX2_powerFor 0 = .ok (.iload_n 1, 1) := dk_27 (dk_at dksX2_powerFor_0 0 rfl rfl)
theorem dX2_powerFor_1 : decode cX2_powerFor 1 = .ok (.ifCond .ge 5, 3) := dk_156 0 5 (dk_at dksX2_powerFor_0 1 rfl rfl)
theorem dX2_powerFor_4 : decode cX2_powerFor 4 = .ok (.iconst 0, 1) := dk_3 (dk_at dksX2_powerFor_0 4 rfl rfl)
theorem dX2_powerFor_5 : decode cX2_powerFor 5 = .ok (.ireturn, 1) := dk_172 (dk_at dksX2_powerFor_0 5 rfl rfl)
theorem dX2_powerFor_6 : decode cX2_powerFor 6 = .ok (.iload_n 3, 1) := dk_29 (dk_at dksX2_powerFor_0 6 rfl rfl)
theorem dX2_powerFor_7 : decode cX2_powerFor 7 = .ok (.ifCond .eq 20, 3) := dk_153 0 20 (dk_at dksX2_powerFor_0 7 rfl rfl)
theorem dX2_powerFor_10 : decode cX2_powerFor 10 = .ok (.aload_n 0, 1) := dk_42 (dk_at dksX2_powerFor_0 10 rfl rfl)
theorem dX2_powerFor_11 : decode cX2_powerFor 11 = .ok (.getfield 17, 3) := dk_180 0 17 (dk_at dksX2_powerFor_0 11 rfl rfl)
theorem dX2_powerFor_14 : decode cX2_powerFor 14 = .ok (.iconst 3, 1) := dk_6 (dk_at dksX2_powerFor_0 14 rfl rfl)
theorem dX2_powerFor_15 : decode cX2_powerFor 15 = .ok (.iaload, 1) := dk_46 (dk_at dksX2_powerFor_0 15 rfl rfl)
theorem dX2_powerFor_16 : decode cX2_powerFor 16 = .ok (.i2l, 1) := dk_133 (dk_at dksX2_powerFor_0 16 rfl rfl)
theorem dX2_powerFor_17 : decode cX2_powerFor 17 = .ok (.iload_n 1, 1) := dk_27 (dk_at dksX2_powerFor_0 17 rfl rfl)
theorem dX2_powerFor_18 : decode cX2_powerFor 18 = .ok (.iconst 1, 1) := dk_4 (dk_at dksX2_powerFor_0 18 rfl rfl)
theorem dX2_powerFor_19 : decode cX2_powerFor 19 = .ok (.iadd, 1) := dk_96 (dk_at dksX2_powerFor_0 19 rfl rfl)
theorem dX2_powerFor_20 : decode cX2_powerFor 20 = .ok (.i2l, 1) := dk_133 (dk_at dksX2_powerFor_0 20 rfl rfl)
theorem dX2_powerFor_21 : decode cX2_powerFor 21 = .ok (.lmul, 1) := dk_105 (dk_at dksX2_powerFor_0 21 rfl rfl)
theorem dX2_powerFor_22 : decode cX2_powerFor 22 = .ok (.lconst 1, 1) := dk_10 (dk_at dksX2_powerFor_0 22 rfl rfl)
theorem dX2_powerFor_23 : decode cX2_powerFor 23 = .ok (.lsub, 1) := dk_101 (dk_at dksX2_powerFor_0 23 rfl rfl)
theorem dX2_powerFor_24 : decode cX2_powerFor 24 = .ok (.goto 5, 3) := dk_167 0 5 (dk_at dksX2_powerFor_1 0 rfl rfl)
theorem dX2_powerFor_27 : decode cX2_powerFor 27 = .ok (.iload_n 1, 1) := dk_27 (dk_at dksX2_powerFor_1 3 rfl rfl)
theorem dX2_powerFor_28 : decode cX2_powerFor 28 = .ok (.i2l, 1) := dk_133 (dk_at dksX2_powerFor_1 4 rfl rfl)
theorem dX2_powerFor_29 : decode cX2_powerFor 29 = .ok (.lstore 4, 2) := dk_55 4 (dk_at dksX2_powerFor_1 5 rfl rfl)
theorem dX2_powerFor_31 : decode cX2_powerFor 31 = .ok (.ldc2_w 337, 3) := dk_20 1 81 (dk_at dksX2_powerFor_1 7 rfl rfl)
theorem dX2_powerFor_34 : decode cX2_powerFor 34 = .ok (.lload 4, 2) := dk_22 4 (dk_at dksX2_powerFor_1 10 rfl rfl)
theorem dX2_powerFor_36 : decode cX2_powerFor 36 = .ok (.lconst 1, 1) := dk_10 (dk_at dksX2_powerFor_1 12 rfl rfl)
theorem dX2_powerFor_37 : decode cX2_powerFor 37 = .ok (.ladd, 1) := dk_97 (dk_at dksX2_powerFor_1 13 rfl rfl)
theorem dX2_powerFor_38 : decode cX2_powerFor 38 = .ok (.iload_n 2, 1) := dk_28 (dk_at dksX2_powerFor_1 14 rfl rfl)
theorem dX2_powerFor_39 : decode cX2_powerFor 39 = .ok (.i2l, 1) := dk_133 (dk_at dksX2_powerFor_1 15 rfl rfl)
theorem dX2_powerFor_40 : decode cX2_powerFor 40 = .ok (.lmul, 1) := dk_105 (dk_at dksX2_powerFor_1 16 rfl rfl)
theorem dX2_powerFor_41 : decode cX2_powerFor 41 = .ok (.lconst 1, 1) := dk_10 (dk_at dksX2_powerFor_1 17 rfl rfl)
theorem dX2_powerFor_42 : decode cX2_powerFor 42 = .ok (.lsub, 1) := dk_101 (dk_at dksX2_powerFor_1 18 rfl rfl)
theorem dX2_powerFor_43 : decode cX2_powerFor 43 = .ok (.ldc2_w 339, 3) := dk_20 1 83 (dk_at dksX2_powerFor_1 19 rfl rfl)
theorem dX2_powerFor_46 : decode cX2_powerFor 46 = .ok (.ldiv, 1) := dk_109 (dk_at dksX2_powerFor_1 22 rfl rfl)
theorem dX2_powerFor_47 : decode cX2_powerFor 47 = .ok (.invokestatic 341, 3) := dk_184 1 85 (dk_at dksX2_powerFor_2 0 rfl rfl)
theorem dX2_powerFor_50 : decode cX2_powerFor 50 = .ok (.l2i, 1) := dk_136 (dk_at dksX2_powerFor_2 3 rfl rfl)
theorem dX2_powerFor_51 : decode cX2_powerFor 51 = .ok (.ireturn, 1) := dk_172 (dk_at dksX2_powerFor_2 4 rfl rfl)
abbrev cX2_byLicensed : ByteArray := prog_22_method_63_code
def yX2_byLicensed : MethodName := ⟨RX2, "byLicensed", "([IIII)I"⟩
def dkwX2_byLicensed_6 : List UInt8 := [172]
abbrev dktX2_byLicensed_6 : List UInt8 := dkwX2_byLicensed_6 ++ []
def dkwX2_byLicensed_5 : List UInt8 := [184, 1, 57, 96, 21, 4, 21, 7, 182, 1, 120, 184, 1, 93, 54, 5, 132, 6, 1, 167, 255, 129, 21, 5]
abbrev dktX2_byLicensed_5 : List UInt8 := dkwX2_byLicensed_5 ++ dktX2_byLicensed_6
def dkwX2_byLicensed_4 : List UInt8 := [4, 28, 29, 42, 180, 0, 17, 16, 54, 21, 6, 96, 46, 42, 180, 0, 17, 16, 70, 21, 6, 96, 46]
abbrev dktX2_byLicensed_4 : List UInt8 := dkwX2_byLicensed_4 ++ dktX2_byLicensed_5
def dkwX2_byLicensed_3 : List UInt8 := [21, 6, 96, 46, 28, 29, 184, 0, 193, 153, 0, 5, 3, 172, 21, 5, 42, 42, 180, 0, 73, 21, 6, 46]
abbrev dktX2_byLicensed_3 : List UInt8 := dkwX2_byLicensed_3 ++ dktX2_byLicensed_4
def dkwX2_byLicensed_2 : List UInt8 := [21, 6, 96, 46, 54, 7, 21, 7, 21, 4, 160, 0, 27, 42, 180, 0, 17, 42, 180, 0, 17, 16, 86]
abbrev dktX2_byLicensed_2 : List UInt8 := dkwX2_byLicensed_2 ++ dktX2_byLicensed_3
def dkwX2_byLicensed_1 : List UInt8 := [182, 1, 4, 153, 0, 106, 43, 16, 6, 21, 6, 96, 46, 5, 159, 0, 6, 167, 0, 92, 43, 16, 38]
abbrev dktX2_byLicensed_1 : List UInt8 := dkwX2_byLicensed_1 ++ dktX2_byLicensed_2
def dkwX2_byLicensed_0 : List UInt8 := [17, 3, 231, 54, 5, 3, 54, 6, 21, 6, 42, 180, 0, 17, 16, 10, 46, 162, 0, 121, 42, 21, 6]
abbrev dktX2_byLicensed_0 : List UInt8 := dkwX2_byLicensed_0 ++ dktX2_byLicensed_1
theorem dksX2_byLicensed_0 : cX2_byLicensed.data.toList.drop 0 = dktX2_byLicensed_0 := by decide +kernel
theorem dksX2_byLicensed_1 : cX2_byLicensed.data.toList.drop 23 = dktX2_byLicensed_1 := dk_seg dksX2_byLicensed_0 23 rfl rfl
theorem dksX2_byLicensed_2 : cX2_byLicensed.data.toList.drop 46 = dktX2_byLicensed_2 := dk_seg dksX2_byLicensed_1 23 rfl rfl
theorem dksX2_byLicensed_3 : cX2_byLicensed.data.toList.drop 69 = dktX2_byLicensed_3 := dk_seg dksX2_byLicensed_2 23 rfl rfl
theorem dksX2_byLicensed_4 : cX2_byLicensed.data.toList.drop 93 = dktX2_byLicensed_4 := dk_seg dksX2_byLicensed_3 24 rfl rfl
theorem dksX2_byLicensed_5 : cX2_byLicensed.data.toList.drop 116 = dktX2_byLicensed_5 := dk_seg dksX2_byLicensed_4 23 rfl rfl
theorem dksX2_byLicensed_6 : cX2_byLicensed.data.toList.drop 140 = dktX2_byLicensed_6 := dk_seg dksX2_byLicensed_5 24 rfl rfl
theorem dX2_byLicensed_0 : decode cX2_byLicensed 0 = .ok (.sipush 999, 3) := dk_17 3 231 (dk_at dksX2_byLicensed_0 0 rfl rfl)
theorem dX2_byLicensed_3 : decode cX2_byLicensed 3 = .ok (.istore 5, 2) := dk_54 5 (dk_at dksX2_byLicensed_0 3 rfl rfl)
theorem dX2_byLicensed_5 : decode cX2_byLicensed 5 = .ok (.iconst 0, 1) := dk_3 (dk_at dksX2_byLicensed_0 5 rfl rfl)
theorem dX2_byLicensed_6 : decode cX2_byLicensed 6 = .ok (.istore 6, 2) := dk_54 6 (dk_at dksX2_byLicensed_0 6 rfl rfl)
theorem dX2_byLicensed_8 : decode cX2_byLicensed 8 = .ok (.iload 6, 2) := dk_21 6 (dk_at dksX2_byLicensed_0 8 rfl rfl)
theorem dX2_byLicensed_10 : decode cX2_byLicensed 10 = .ok (.aload_n 0, 1) := dk_42 (dk_at dksX2_byLicensed_0 10 rfl rfl)
theorem dX2_byLicensed_11 : decode cX2_byLicensed 11 = .ok (.getfield 17, 3) := dk_180 0 17 (dk_at dksX2_byLicensed_0 11 rfl rfl)
theorem dX2_byLicensed_14 : decode cX2_byLicensed 14 = .ok (.bipush 10, 2) := dk_16 10 (dk_at dksX2_byLicensed_0 14 rfl rfl)
theorem dX2_byLicensed_16 : decode cX2_byLicensed 16 = .ok (.iaload, 1) := dk_46 (dk_at dksX2_byLicensed_0 16 rfl rfl)
theorem dX2_byLicensed_17 : decode cX2_byLicensed 17 = .ok (.if_icmp .ge 121, 3) := dk_162 0 121 (dk_at dksX2_byLicensed_0 17 rfl rfl)
theorem dX2_byLicensed_20 : decode cX2_byLicensed 20 = .ok (.aload_n 0, 1) := dk_42 (dk_at dksX2_byLicensed_0 20 rfl rfl)
theorem dX2_byLicensed_21 : decode cX2_byLicensed 21 = .ok (.iload 6, 2) := dk_21 6 (dk_at dksX2_byLicensed_0 21 rfl rfl)
theorem dX2_byLicensed_23 : decode cX2_byLicensed 23 = .ok (.invokevirtual 260, 3) := dk_182 1 4 (dk_at dksX2_byLicensed_1 0 rfl rfl)
theorem dX2_byLicensed_26 : decode cX2_byLicensed 26 = .ok (.ifCond .eq 106, 3) := dk_153 0 106 (dk_at dksX2_byLicensed_1 3 rfl rfl)
theorem dX2_byLicensed_29 : decode cX2_byLicensed 29 = .ok (.aload_n 1, 1) := dk_43 (dk_at dksX2_byLicensed_1 6 rfl rfl)
theorem dX2_byLicensed_30 : decode cX2_byLicensed 30 = .ok (.bipush 6, 2) := dk_16 6 (dk_at dksX2_byLicensed_1 7 rfl rfl)
theorem dX2_byLicensed_32 : decode cX2_byLicensed 32 = .ok (.iload 6, 2) := dk_21 6 (dk_at dksX2_byLicensed_1 9 rfl rfl)
theorem dX2_byLicensed_34 : decode cX2_byLicensed 34 = .ok (.iadd, 1) := dk_96 (dk_at dksX2_byLicensed_1 11 rfl rfl)
theorem dX2_byLicensed_35 : decode cX2_byLicensed 35 = .ok (.iaload, 1) := dk_46 (dk_at dksX2_byLicensed_1 12 rfl rfl)
theorem dX2_byLicensed_36 : decode cX2_byLicensed 36 = .ok (.iconst 2, 1) := dk_5 (dk_at dksX2_byLicensed_1 13 rfl rfl)
theorem dX2_byLicensed_37 : decode cX2_byLicensed 37 = .ok (.if_icmp .eq 6, 3) := dk_159 0 6 (dk_at dksX2_byLicensed_1 14 rfl rfl)
theorem dX2_byLicensed_40 : decode cX2_byLicensed 40 = .ok (.goto 92, 3) := dk_167 0 92 (dk_at dksX2_byLicensed_1 17 rfl rfl)
theorem dX2_byLicensed_43 : decode cX2_byLicensed 43 = .ok (.aload_n 1, 1) := dk_43 (dk_at dksX2_byLicensed_1 20 rfl rfl)
theorem dX2_byLicensed_44 : decode cX2_byLicensed 44 = .ok (.bipush 38, 2) := dk_16 38 (dk_at dksX2_byLicensed_1 21 rfl rfl)
theorem dX2_byLicensed_46 : decode cX2_byLicensed 46 = .ok (.iload 6, 2) := dk_21 6 (dk_at dksX2_byLicensed_2 0 rfl rfl)
theorem dX2_byLicensed_48 : decode cX2_byLicensed 48 = .ok (.iadd, 1) := dk_96 (dk_at dksX2_byLicensed_2 2 rfl rfl)
theorem dX2_byLicensed_49 : decode cX2_byLicensed 49 = .ok (.iaload, 1) := dk_46 (dk_at dksX2_byLicensed_2 3 rfl rfl)
theorem dX2_byLicensed_50 : decode cX2_byLicensed 50 = .ok (.istore 7, 2) := dk_54 7 (dk_at dksX2_byLicensed_2 4 rfl rfl)
theorem dX2_byLicensed_52 : decode cX2_byLicensed 52 = .ok (.iload 7, 2) := dk_21 7 (dk_at dksX2_byLicensed_2 6 rfl rfl)
theorem dX2_byLicensed_54 : decode cX2_byLicensed 54 = .ok (.iload 4, 2) := dk_21 4 (dk_at dksX2_byLicensed_2 8 rfl rfl)
theorem dX2_byLicensed_56 : decode cX2_byLicensed 56 = .ok (.if_icmp .ne 27, 3) := dk_160 0 27 (dk_at dksX2_byLicensed_2 10 rfl rfl)
theorem dX2_byLicensed_59 : decode cX2_byLicensed 59 = .ok (.aload_n 0, 1) := dk_42 (dk_at dksX2_byLicensed_2 13 rfl rfl)
theorem dX2_byLicensed_60 : decode cX2_byLicensed 60 = .ok (.getfield 17, 3) := dk_180 0 17 (dk_at dksX2_byLicensed_2 14 rfl rfl)
theorem dX2_byLicensed_63 : decode cX2_byLicensed 63 = .ok (.aload_n 0, 1) := dk_42 (dk_at dksX2_byLicensed_2 17 rfl rfl)
theorem dX2_byLicensed_64 : decode cX2_byLicensed 64 = .ok (.getfield 17, 3) := dk_180 0 17 (dk_at dksX2_byLicensed_2 18 rfl rfl)
theorem dX2_byLicensed_67 : decode cX2_byLicensed 67 = .ok (.bipush 86, 2) := dk_16 86 (dk_at dksX2_byLicensed_2 21 rfl rfl)
theorem dX2_byLicensed_69 : decode cX2_byLicensed 69 = .ok (.iload 6, 2) := dk_21 6 (dk_at dksX2_byLicensed_3 0 rfl rfl)
theorem dX2_byLicensed_71 : decode cX2_byLicensed 71 = .ok (.iadd, 1) := dk_96 (dk_at dksX2_byLicensed_3 2 rfl rfl)
theorem dX2_byLicensed_72 : decode cX2_byLicensed 72 = .ok (.iaload, 1) := dk_46 (dk_at dksX2_byLicensed_3 3 rfl rfl)
theorem dX2_byLicensed_73 : decode cX2_byLicensed 73 = .ok (.iload_n 2, 1) := dk_28 (dk_at dksX2_byLicensed_3 4 rfl rfl)
theorem dX2_byLicensed_74 : decode cX2_byLicensed 74 = .ok (.iload_n 3, 1) := dk_29 (dk_at dksX2_byLicensed_3 5 rfl rfl)
theorem dX2_byLicensed_75 : decode cX2_byLicensed 75 = .ok (.invokestatic 193, 3) := dk_184 0 193 (dk_at dksX2_byLicensed_3 6 rfl rfl)
theorem dX2_byLicensed_78 : decode cX2_byLicensed 78 = .ok (.ifCond .eq 5, 3) := dk_153 0 5 (dk_at dksX2_byLicensed_3 9 rfl rfl)
theorem dX2_byLicensed_81 : decode cX2_byLicensed 81 = .ok (.iconst 0, 1) := dk_3 (dk_at dksX2_byLicensed_3 12 rfl rfl)
theorem dX2_byLicensed_82 : decode cX2_byLicensed 82 = .ok (.ireturn, 1) := dk_172 (dk_at dksX2_byLicensed_3 13 rfl rfl)
theorem dX2_byLicensed_83 : decode cX2_byLicensed 83 = .ok (.iload 5, 2) := dk_21 5 (dk_at dksX2_byLicensed_3 14 rfl rfl)
theorem dX2_byLicensed_85 : decode cX2_byLicensed 85 = .ok (.aload_n 0, 1) := dk_42 (dk_at dksX2_byLicensed_3 16 rfl rfl)
theorem dX2_byLicensed_86 : decode cX2_byLicensed 86 = .ok (.aload_n 0, 1) := dk_42 (dk_at dksX2_byLicensed_3 17 rfl rfl)
theorem dX2_byLicensed_87 : decode cX2_byLicensed 87 = .ok (.getfield 73, 3) := dk_180 0 73 (dk_at dksX2_byLicensed_3 18 rfl rfl)
theorem dX2_byLicensed_90 : decode cX2_byLicensed 90 = .ok (.iload 6, 2) := dk_21 6 (dk_at dksX2_byLicensed_3 21 rfl rfl)
theorem dX2_byLicensed_92 : decode cX2_byLicensed 92 = .ok (.iaload, 1) := dk_46 (dk_at dksX2_byLicensed_3 23 rfl rfl)
theorem dX2_byLicensed_93 : decode cX2_byLicensed 93 = .ok (.iconst 1, 1) := dk_4 (dk_at dksX2_byLicensed_4 0 rfl rfl)
theorem dX2_byLicensed_94 : decode cX2_byLicensed 94 = .ok (.iload_n 2, 1) := dk_28 (dk_at dksX2_byLicensed_4 1 rfl rfl)
theorem dX2_byLicensed_95 : decode cX2_byLicensed 95 = .ok (.iload_n 3, 1) := dk_29 (dk_at dksX2_byLicensed_4 2 rfl rfl)
theorem dX2_byLicensed_96 : decode cX2_byLicensed 96 = .ok (.aload_n 0, 1) := dk_42 (dk_at dksX2_byLicensed_4 3 rfl rfl)
theorem dX2_byLicensed_97 : decode cX2_byLicensed 97 = .ok (.getfield 17, 3) := dk_180 0 17 (dk_at dksX2_byLicensed_4 4 rfl rfl)
theorem dX2_byLicensed_100 : decode cX2_byLicensed 100 = .ok (.bipush 54, 2) := dk_16 54 (dk_at dksX2_byLicensed_4 7 rfl rfl)
theorem dX2_byLicensed_102 : decode cX2_byLicensed 102 = .ok (.iload 6, 2) := dk_21 6 (dk_at dksX2_byLicensed_4 9 rfl rfl)
theorem dX2_byLicensed_104 : decode cX2_byLicensed 104 = .ok (.iadd, 1) := dk_96 (dk_at dksX2_byLicensed_4 11 rfl rfl)
theorem dX2_byLicensed_105 : decode cX2_byLicensed 105 = .ok (.iaload, 1) := dk_46 (dk_at dksX2_byLicensed_4 12 rfl rfl)
theorem dX2_byLicensed_106 : decode cX2_byLicensed 106 = .ok (.aload_n 0, 1) := dk_42 (dk_at dksX2_byLicensed_4 13 rfl rfl)
theorem dX2_byLicensed_107 : decode cX2_byLicensed 107 = .ok (.getfield 17, 3) := dk_180 0 17 (dk_at dksX2_byLicensed_4 14 rfl rfl)
theorem dX2_byLicensed_110 : decode cX2_byLicensed 110 = .ok (.bipush 70, 2) := dk_16 70 (dk_at dksX2_byLicensed_4 17 rfl rfl)
theorem dX2_byLicensed_112 : decode cX2_byLicensed 112 = .ok (.iload 6, 2) := dk_21 6 (dk_at dksX2_byLicensed_4 19 rfl rfl)
theorem dX2_byLicensed_114 : decode cX2_byLicensed 114 = .ok (.iadd, 1) := dk_96 (dk_at dksX2_byLicensed_4 21 rfl rfl)
theorem dX2_byLicensed_115 : decode cX2_byLicensed 115 = .ok (.iaload, 1) := dk_46 (dk_at dksX2_byLicensed_4 22 rfl rfl)
theorem dX2_byLicensed_116 : decode cX2_byLicensed 116 = .ok (.invokestatic 313, 3) := dk_184 1 57 (dk_at dksX2_byLicensed_5 0 rfl rfl)
theorem dX2_byLicensed_119 : decode cX2_byLicensed 119 = .ok (.iadd, 1) := dk_96 (dk_at dksX2_byLicensed_5 3 rfl rfl)
theorem dX2_byLicensed_120 : decode cX2_byLicensed 120 = .ok (.iload 4, 2) := dk_21 4 (dk_at dksX2_byLicensed_5 4 rfl rfl)
theorem dX2_byLicensed_122 : decode cX2_byLicensed 122 = .ok (.iload 7, 2) := dk_21 7 (dk_at dksX2_byLicensed_5 6 rfl rfl)
theorem dX2_byLicensed_124 : decode cX2_byLicensed 124 = .ok (.invokevirtual 376, 3) := dk_182 1 120 (dk_at dksX2_byLicensed_5 8 rfl rfl)
theorem dX2_byLicensed_127 : decode cX2_byLicensed 127 = .ok (.invokestatic 349, 3) := dk_184 1 93 (dk_at dksX2_byLicensed_5 11 rfl rfl)
theorem dX2_byLicensed_130 : decode cX2_byLicensed 130 = .ok (.istore 5, 2) := dk_54 5 (dk_at dksX2_byLicensed_5 14 rfl rfl)
theorem dX2_byLicensed_132 : decode cX2_byLicensed 132 = .ok (.iinc 6 1, 3) := dk_132 6 1 (dk_at dksX2_byLicensed_5 16 rfl rfl)
theorem dX2_byLicensed_135 : decode cX2_byLicensed 135 = .ok (.goto (-127), 3) := dk_167 255 129 (dk_at dksX2_byLicensed_5 19 rfl rfl)
theorem dX2_byLicensed_138 : decode cX2_byLicensed 138 = .ok (.iload 5, 2) := dk_21 5 (dk_at dksX2_byLicensed_5 22 rfl rfl)
theorem dX2_byLicensed_140 : decode cX2_byLicensed 140 = .ok (.ireturn, 1) := dk_172 (dk_at dksX2_byLicensed_6 0 rfl rfl)
abbrev cX2_offeredPower : ByteArray := prog_22_method_121_code
def yX2_offeredPower : MethodName := ⟨RX2, "offeredPower", "(I)I"⟩
def dkwX2_offeredPower_0 : List UInt8 := [42, 27, 182, 1, 242, 153, 0, 10, 42, 180, 1, 135, 167, 0, 4, 3, 172]
abbrev dktX2_offeredPower_0 : List UInt8 := dkwX2_offeredPower_0 ++ []
theorem dksX2_offeredPower_0 : cX2_offeredPower.data.toList.drop 0 = dktX2_offeredPower_0 := by decide +kernel
theorem dX2_offeredPower_0 : decode cX2_offeredPower 0 = .ok (.aload_n 0, 1) := dk_42 (dk_at dksX2_offeredPower_0 0 rfl rfl)
theorem dX2_offeredPower_1 : decode cX2_offeredPower 1 = .ok (.iload_n 1, 1) := dk_27 (dk_at dksX2_offeredPower_0 1 rfl rfl)
theorem dX2_offeredPower_2 : decode cX2_offeredPower 2 = .ok (.invokevirtual 498, 3) := dk_182 1 242 (dk_at dksX2_offeredPower_0 2 rfl rfl)
theorem dX2_offeredPower_5 : decode cX2_offeredPower 5 = .ok (.ifCond .eq 10, 3) := dk_153 0 10 (dk_at dksX2_offeredPower_0 5 rfl rfl)
theorem dX2_offeredPower_8 : decode cX2_offeredPower 8 = .ok (.aload_n 0, 1) := dk_42 (dk_at dksX2_offeredPower_0 8 rfl rfl)
theorem dX2_offeredPower_9 : decode cX2_offeredPower 9 = .ok (.getfield 391, 3) := dk_180 1 135 (dk_at dksX2_offeredPower_0 9 rfl rfl)
theorem dX2_offeredPower_12 : decode cX2_offeredPower 12 = .ok (.goto 4, 3) := dk_167 0 4 (dk_at dksX2_offeredPower_0 12 rfl rfl)
theorem dX2_offeredPower_15 : decode cX2_offeredPower 15 = .ok (.iconst 0, 1) := dk_3 (dk_at dksX2_offeredPower_0 15 rfl rfl)
theorem dX2_offeredPower_16 : decode cX2_offeredPower 16 = .ok (.ireturn, 1) := dk_172 (dk_at dksX2_offeredPower_0 16 rfl rfl)
abbrev cX2_allowedPower : ByteArray := prog_22_method_122_code
def yX2_allowedPower : MethodName := ⟨RX2, "allowedPower", "(III)I"⟩
def dkwX2_allowedPower_2 : List UInt8 := [29, 3, 182, 1, 129, 172]
abbrev dktX2_allowedPower_2 : List UInt8 := dkwX2_allowedPower_2 ++ []
def dkwX2_allowedPower_1 : List UInt8 := [182, 1, 205, 154, 0, 5, 3, 172, 42, 42, 180, 0, 23, 3, 182, 1, 138, 42, 42, 180, 0, 23, 27, 28]
abbrev dktX2_allowedPower_1 : List UInt8 := dkwX2_allowedPower_1 ++ dktX2_allowedPower_2
def dkwX2_allowedPower_0 : List UInt8 := [42, 42, 27, 28, 182, 1, 215, 153, 0, 15, 42, 29, 182, 1, 218, 153, 0, 7, 4, 167, 0, 4, 3]
abbrev dktX2_allowedPower_0 : List UInt8 := dkwX2_allowedPower_0 ++ dktX2_allowedPower_1
theorem dksX2_allowedPower_0 : cX2_allowedPower.data.toList.drop 0 = dktX2_allowedPower_0 := by decide +kernel
theorem dksX2_allowedPower_1 : cX2_allowedPower.data.toList.drop 23 = dktX2_allowedPower_1 := dk_seg dksX2_allowedPower_0 23 rfl rfl
theorem dksX2_allowedPower_2 : cX2_allowedPower.data.toList.drop 47 = dktX2_allowedPower_2 := dk_seg dksX2_allowedPower_1 24 rfl rfl
theorem dX2_allowedPower_0 : decode cX2_allowedPower 0 = .ok (.aload_n 0, 1) := dk_42 (dk_at dksX2_allowedPower_0 0 rfl rfl)
theorem dX2_allowedPower_1 : decode cX2_allowedPower 1 = .ok (.aload_n 0, 1) := dk_42 (dk_at dksX2_allowedPower_0 1 rfl rfl)
theorem dX2_allowedPower_2 : decode cX2_allowedPower 2 = .ok (.iload_n 1, 1) := dk_27 (dk_at dksX2_allowedPower_0 2 rfl rfl)
theorem dX2_allowedPower_3 : decode cX2_allowedPower 3 = .ok (.iload_n 2, 1) := dk_28 (dk_at dksX2_allowedPower_0 3 rfl rfl)
theorem dX2_allowedPower_4 : decode cX2_allowedPower 4 = .ok (.invokevirtual 471, 3) := dk_182 1 215 (dk_at dksX2_allowedPower_0 4 rfl rfl)
theorem dX2_allowedPower_7 : decode cX2_allowedPower 7 = .ok (.ifCond .eq 15, 3) := dk_153 0 15 (dk_at dksX2_allowedPower_0 7 rfl rfl)
theorem dX2_allowedPower_10 : decode cX2_allowedPower 10 = .ok (.aload_n 0, 1) := dk_42 (dk_at dksX2_allowedPower_0 10 rfl rfl)
theorem dX2_allowedPower_11 : decode cX2_allowedPower 11 = .ok (.iload_n 3, 1) := dk_29 (dk_at dksX2_allowedPower_0 11 rfl rfl)
theorem dX2_allowedPower_12 : decode cX2_allowedPower 12 = .ok (.invokevirtual 474, 3) := dk_182 1 218 (dk_at dksX2_allowedPower_0 12 rfl rfl)
theorem dX2_allowedPower_15 : decode cX2_allowedPower 15 = .ok (.ifCond .eq 7, 3) := dk_153 0 7 (dk_at dksX2_allowedPower_0 15 rfl rfl)
theorem dX2_allowedPower_18 : decode cX2_allowedPower 18 = .ok (.iconst 1, 1) := dk_4 (dk_at dksX2_allowedPower_0 18 rfl rfl)
theorem dX2_allowedPower_19 : decode cX2_allowedPower 19 = .ok (.goto 4, 3) := dk_167 0 4 (dk_at dksX2_allowedPower_0 19 rfl rfl)
theorem dX2_allowedPower_22 : decode cX2_allowedPower 22 = .ok (.iconst 0, 1) := dk_3 (dk_at dksX2_allowedPower_0 22 rfl rfl)
theorem dX2_allowedPower_23 : decode cX2_allowedPower 23 = .ok (.invokevirtual 461, 3) := dk_182 1 205 (dk_at dksX2_allowedPower_1 0 rfl rfl)
theorem dX2_allowedPower_26 : decode cX2_allowedPower 26 = .ok (.ifCond .ne 5, 3) := dk_154 0 5 (dk_at dksX2_allowedPower_1 3 rfl rfl)
theorem dX2_allowedPower_29 : decode cX2_allowedPower 29 = .ok (.iconst 0, 1) := dk_3 (dk_at dksX2_allowedPower_1 6 rfl rfl)
theorem dX2_allowedPower_30 : decode cX2_allowedPower 30 = .ok (.ireturn, 1) := dk_172 (dk_at dksX2_allowedPower_1 7 rfl rfl)
theorem dX2_allowedPower_31 : decode cX2_allowedPower 31 = .ok (.aload_n 0, 1) := dk_42 (dk_at dksX2_allowedPower_1 8 rfl rfl)
theorem dX2_allowedPower_32 : decode cX2_allowedPower 32 = .ok (.aload_n 0, 1) := dk_42 (dk_at dksX2_allowedPower_1 9 rfl rfl)
theorem dX2_allowedPower_33 : decode cX2_allowedPower 33 = .ok (.getfield 23, 3) := dk_180 0 23 (dk_at dksX2_allowedPower_1 10 rfl rfl)
theorem dX2_allowedPower_36 : decode cX2_allowedPower 36 = .ok (.iconst 0, 1) := dk_3 (dk_at dksX2_allowedPower_1 13 rfl rfl)
theorem dX2_allowedPower_37 : decode cX2_allowedPower 37 = .ok (.invokevirtual 394, 3) := dk_182 1 138 (dk_at dksX2_allowedPower_1 14 rfl rfl)
theorem dX2_allowedPower_40 : decode cX2_allowedPower 40 = .ok (.aload_n 0, 1) := dk_42 (dk_at dksX2_allowedPower_1 17 rfl rfl)
theorem dX2_allowedPower_41 : decode cX2_allowedPower 41 = .ok (.aload_n 0, 1) := dk_42 (dk_at dksX2_allowedPower_1 18 rfl rfl)
theorem dX2_allowedPower_42 : decode cX2_allowedPower 42 = .ok (.getfield 23, 3) := dk_180 0 23 (dk_at dksX2_allowedPower_1 19 rfl rfl)
theorem dX2_allowedPower_45 : decode cX2_allowedPower 45 = .ok (.iload_n 1, 1) := dk_27 (dk_at dksX2_allowedPower_1 22 rfl rfl)
theorem dX2_allowedPower_46 : decode cX2_allowedPower 46 = .ok (.iload_n 2, 1) := dk_28 (dk_at dksX2_allowedPower_1 23 rfl rfl)
theorem dX2_allowedPower_47 : decode cX2_allowedPower 47 = .ok (.iload_n 3, 1) := dk_29 (dk_at dksX2_allowedPower_2 0 rfl rfl)
theorem dX2_allowedPower_48 : decode cX2_allowedPower 48 = .ok (.iconst 0, 1) := dk_3 (dk_at dksX2_allowedPower_2 1 rfl rfl)
theorem dX2_allowedPower_49 : decode cX2_allowedPower 49 = .ok (.invokevirtual 385, 3) := dk_182 1 129 (dk_at dksX2_allowedPower_2 2 rfl rfl)
theorem dX2_allowedPower_52 : decode cX2_allowedPower 52 = .ok (.ireturn, 1) := dk_172 (dk_at dksX2_allowedPower_2 5 rfl rfl)
abbrev cX2_bestSite : ByteArray := prog_22_method_123_code
def yX2_bestSite : MethodName := ⟨RX2, "bestSite", "(I)I"⟩
def dkwX2_bestSite_5 : List UInt8 := [132, 4, 1, 167, 255, 165, 28, 172]
abbrev dktX2_bestSite_5 : List UInt8 := dkwX2_bestSite_5 ++ []
def dkwX2_bestSite_4 : List UInt8 := [54, 7, 21, 7, 29, 163, 0, 6, 167, 0, 15, 16, 100, 21, 6, 104, 21, 5, 96, 61, 21, 7, 62]
abbrev dktX2_bestSite_4 : List UInt8 := dkwX2_bestSite_4 ++ dktX2_bestSite_5
def dkwX2_bestSite_3 : List UInt8 := [17, 3, 231, 160, 0, 7, 2, 167, 0, 17, 42, 42, 180, 0, 23, 21, 5, 21, 6, 27, 3, 182, 1, 129]
abbrev dktX2_bestSite_3 : List UInt8 := dkwX2_bestSite_3 ++ dktX2_bestSite_4
def dkwX2_bestSite_2 : List UInt8 := [21, 4, 42, 180, 0, 17, 3, 46, 112, 54, 5, 21, 4, 42, 180, 0, 17, 3, 46, 108, 54, 6, 29]
abbrev dktX2_bestSite_2 : List UInt8 := dkwX2_bestSite_2 ++ dktX2_bestSite_3
def dkwX2_bestSite_1 : List UInt8 := [61, 2, 62, 3, 54, 4, 21, 4, 42, 180, 0, 17, 3, 46, 42, 180, 0, 17, 4, 46, 104, 162, 0, 79]
abbrev dktX2_bestSite_1 : List UInt8 := dkwX2_bestSite_1 ++ dktX2_bestSite_2
def dkwX2_bestSite_0 : List UInt8 := [42, 42, 27, 182, 1, 218, 182, 1, 205, 154, 0, 5, 3, 172, 42, 42, 180, 0, 23, 3, 182, 1, 138, 3]
abbrev dktX2_bestSite_0 : List UInt8 := dkwX2_bestSite_0 ++ dktX2_bestSite_1
theorem dksX2_bestSite_0 : cX2_bestSite.data.toList.drop 0 = dktX2_bestSite_0 := by decide +kernel
theorem dksX2_bestSite_1 : cX2_bestSite.data.toList.drop 24 = dktX2_bestSite_1 := dk_seg dksX2_bestSite_0 24 rfl rfl
theorem dksX2_bestSite_2 : cX2_bestSite.data.toList.drop 48 = dktX2_bestSite_2 := dk_seg dksX2_bestSite_1 24 rfl rfl
theorem dksX2_bestSite_3 : cX2_bestSite.data.toList.drop 71 = dktX2_bestSite_3 := dk_seg dksX2_bestSite_2 23 rfl rfl
theorem dksX2_bestSite_4 : cX2_bestSite.data.toList.drop 95 = dktX2_bestSite_4 := dk_seg dksX2_bestSite_3 24 rfl rfl
theorem dksX2_bestSite_5 : cX2_bestSite.data.toList.drop 118 = dktX2_bestSite_5 := dk_seg dksX2_bestSite_4 23 rfl rfl
theorem dX2_bestSite_0 : decode cX2_bestSite 0 = .ok (.aload_n 0, 1) := dk_42 (dk_at dksX2_bestSite_0 0 rfl rfl)
theorem dX2_bestSite_1 : decode cX2_bestSite 1 = .ok (.aload_n 0, 1) := dk_42 (dk_at dksX2_bestSite_0 1 rfl rfl)
theorem dX2_bestSite_2 : decode cX2_bestSite 2 = .ok (.iload_n 1, 1) := dk_27 (dk_at dksX2_bestSite_0 2 rfl rfl)
theorem dX2_bestSite_3 : decode cX2_bestSite 3 = .ok (.invokevirtual 474, 3) := dk_182 1 218 (dk_at dksX2_bestSite_0 3 rfl rfl)
theorem dX2_bestSite_6 : decode cX2_bestSite 6 = .ok (.invokevirtual 461, 3) := dk_182 1 205 (dk_at dksX2_bestSite_0 6 rfl rfl)
theorem dX2_bestSite_9 : decode cX2_bestSite 9 = .ok (.ifCond .ne 5, 3) := dk_154 0 5 (dk_at dksX2_bestSite_0 9 rfl rfl)
theorem dX2_bestSite_12 : decode cX2_bestSite 12 = .ok (.iconst 0, 1) := dk_3 (dk_at dksX2_bestSite_0 12 rfl rfl)
theorem dX2_bestSite_13 : decode cX2_bestSite 13 = .ok (.ireturn, 1) := dk_172 (dk_at dksX2_bestSite_0 13 rfl rfl)
theorem dX2_bestSite_14 : decode cX2_bestSite 14 = .ok (.aload_n 0, 1) := dk_42 (dk_at dksX2_bestSite_0 14 rfl rfl)
theorem dX2_bestSite_15 : decode cX2_bestSite 15 = .ok (.aload_n 0, 1) := dk_42 (dk_at dksX2_bestSite_0 15 rfl rfl)
theorem dX2_bestSite_16 : decode cX2_bestSite 16 = .ok (.getfield 23, 3) := dk_180 0 23 (dk_at dksX2_bestSite_0 16 rfl rfl)
theorem dX2_bestSite_19 : decode cX2_bestSite 19 = .ok (.iconst 0, 1) := dk_3 (dk_at dksX2_bestSite_0 19 rfl rfl)
theorem dX2_bestSite_20 : decode cX2_bestSite 20 = .ok (.invokevirtual 394, 3) := dk_182 1 138 (dk_at dksX2_bestSite_0 20 rfl rfl)
theorem dX2_bestSite_23 : decode cX2_bestSite 23 = .ok (.iconst 0, 1) := dk_3 (dk_at dksX2_bestSite_0 23 rfl rfl)
theorem dX2_bestSite_24 : decode cX2_bestSite 24 = .ok (.istore_n 2, 1) := dk_61 (dk_at dksX2_bestSite_1 0 rfl rfl)
theorem dX2_bestSite_25 : decode cX2_bestSite 25 = .ok (.iconst (-1), 1) := dk_2 (dk_at dksX2_bestSite_1 1 rfl rfl)
theorem dX2_bestSite_26 : decode cX2_bestSite 26 = .ok (.istore_n 3, 1) := dk_62 (dk_at dksX2_bestSite_1 2 rfl rfl)
theorem dX2_bestSite_27 : decode cX2_bestSite 27 = .ok (.iconst 0, 1) := dk_3 (dk_at dksX2_bestSite_1 3 rfl rfl)
theorem dX2_bestSite_28 : decode cX2_bestSite 28 = .ok (.istore 4, 2) := dk_54 4 (dk_at dksX2_bestSite_1 4 rfl rfl)
theorem dX2_bestSite_30 : decode cX2_bestSite 30 = .ok (.iload 4, 2) := dk_21 4 (dk_at dksX2_bestSite_1 6 rfl rfl)
theorem dX2_bestSite_32 : decode cX2_bestSite 32 = .ok (.aload_n 0, 1) := dk_42 (dk_at dksX2_bestSite_1 8 rfl rfl)
theorem dX2_bestSite_33 : decode cX2_bestSite 33 = .ok (.getfield 17, 3) := dk_180 0 17 (dk_at dksX2_bestSite_1 9 rfl rfl)
theorem dX2_bestSite_36 : decode cX2_bestSite 36 = .ok (.iconst 0, 1) := dk_3 (dk_at dksX2_bestSite_1 12 rfl rfl)
theorem dX2_bestSite_37 : decode cX2_bestSite 37 = .ok (.iaload, 1) := dk_46 (dk_at dksX2_bestSite_1 13 rfl rfl)
theorem dX2_bestSite_38 : decode cX2_bestSite 38 = .ok (.aload_n 0, 1) := dk_42 (dk_at dksX2_bestSite_1 14 rfl rfl)
theorem dX2_bestSite_39 : decode cX2_bestSite 39 = .ok (.getfield 17, 3) := dk_180 0 17 (dk_at dksX2_bestSite_1 15 rfl rfl)
theorem dX2_bestSite_42 : decode cX2_bestSite 42 = .ok (.iconst 1, 1) := dk_4 (dk_at dksX2_bestSite_1 18 rfl rfl)
theorem dX2_bestSite_43 : decode cX2_bestSite 43 = .ok (.iaload, 1) := dk_46 (dk_at dksX2_bestSite_1 19 rfl rfl)
theorem dX2_bestSite_44 : decode cX2_bestSite 44 = .ok (.imul, 1) := dk_104 (dk_at dksX2_bestSite_1 20 rfl rfl)
theorem dX2_bestSite_45 : decode cX2_bestSite 45 = .ok (.if_icmp .ge 79, 3) := dk_162 0 79 (dk_at dksX2_bestSite_1 21 rfl rfl)
theorem dX2_bestSite_48 : decode cX2_bestSite 48 = .ok (.iload 4, 2) := dk_21 4 (dk_at dksX2_bestSite_2 0 rfl rfl)
theorem dX2_bestSite_50 : decode cX2_bestSite 50 = .ok (.aload_n 0, 1) := dk_42 (dk_at dksX2_bestSite_2 2 rfl rfl)
theorem dX2_bestSite_51 : decode cX2_bestSite 51 = .ok (.getfield 17, 3) := dk_180 0 17 (dk_at dksX2_bestSite_2 3 rfl rfl)
theorem dX2_bestSite_54 : decode cX2_bestSite 54 = .ok (.iconst 0, 1) := dk_3 (dk_at dksX2_bestSite_2 6 rfl rfl)
theorem dX2_bestSite_55 : decode cX2_bestSite 55 = .ok (.iaload, 1) := dk_46 (dk_at dksX2_bestSite_2 7 rfl rfl)
theorem dX2_bestSite_56 : decode cX2_bestSite 56 = .ok (.irem, 1) := dk_112 (dk_at dksX2_bestSite_2 8 rfl rfl)
theorem dX2_bestSite_57 : decode cX2_bestSite 57 = .ok (.istore 5, 2) := dk_54 5 (dk_at dksX2_bestSite_2 9 rfl rfl)
theorem dX2_bestSite_59 : decode cX2_bestSite 59 = .ok (.iload 4, 2) := dk_21 4 (dk_at dksX2_bestSite_2 11 rfl rfl)
theorem dX2_bestSite_61 : decode cX2_bestSite 61 = .ok (.aload_n 0, 1) := dk_42 (dk_at dksX2_bestSite_2 13 rfl rfl)
theorem dX2_bestSite_62 : decode cX2_bestSite 62 = .ok (.getfield 17, 3) := dk_180 0 17 (dk_at dksX2_bestSite_2 14 rfl rfl)
theorem dX2_bestSite_65 : decode cX2_bestSite 65 = .ok (.iconst 0, 1) := dk_3 (dk_at dksX2_bestSite_2 17 rfl rfl)
theorem dX2_bestSite_66 : decode cX2_bestSite 66 = .ok (.iaload, 1) := dk_46 (dk_at dksX2_bestSite_2 18 rfl rfl)
theorem dX2_bestSite_67 : decode cX2_bestSite 67 = .ok (.idiv, 1) := dk_108 (dk_at dksX2_bestSite_2 19 rfl rfl)
theorem dX2_bestSite_68 : decode cX2_bestSite 68 = .ok (.istore 6, 2) := dk_54 6 (dk_at dksX2_bestSite_2 20 rfl rfl)
theorem dX2_bestSite_70 : decode cX2_bestSite 70 = .ok (.iload_n 3, 1) := dk_29 (dk_at dksX2_bestSite_2 22 rfl rfl)
theorem dX2_bestSite_71 : decode cX2_bestSite 71 = .ok (.sipush 999, 3) := dk_17 3 231 (dk_at dksX2_bestSite_3 0 rfl rfl)
theorem dX2_bestSite_74 : decode cX2_bestSite 74 = .ok (.if_icmp .ne 7, 3) := dk_160 0 7 (dk_at dksX2_bestSite_3 3 rfl rfl)
theorem dX2_bestSite_77 : decode cX2_bestSite 77 = .ok (.iconst (-1), 1) := dk_2 (dk_at dksX2_bestSite_3 6 rfl rfl)
theorem dX2_bestSite_78 : decode cX2_bestSite 78 = .ok (.goto 17, 3) := dk_167 0 17 (dk_at dksX2_bestSite_3 7 rfl rfl)
theorem dX2_bestSite_81 : decode cX2_bestSite 81 = .ok (.aload_n 0, 1) := dk_42 (dk_at dksX2_bestSite_3 10 rfl rfl)
theorem dX2_bestSite_82 : decode cX2_bestSite 82 = .ok (.aload_n 0, 1) := dk_42 (dk_at dksX2_bestSite_3 11 rfl rfl)
theorem dX2_bestSite_83 : decode cX2_bestSite 83 = .ok (.getfield 23, 3) := dk_180 0 23 (dk_at dksX2_bestSite_3 12 rfl rfl)
theorem dX2_bestSite_86 : decode cX2_bestSite 86 = .ok (.iload 5, 2) := dk_21 5 (dk_at dksX2_bestSite_3 15 rfl rfl)
theorem dX2_bestSite_88 : decode cX2_bestSite 88 = .ok (.iload 6, 2) := dk_21 6 (dk_at dksX2_bestSite_3 17 rfl rfl)
theorem dX2_bestSite_90 : decode cX2_bestSite 90 = .ok (.iload_n 1, 1) := dk_27 (dk_at dksX2_bestSite_3 19 rfl rfl)
theorem dX2_bestSite_91 : decode cX2_bestSite 91 = .ok (.iconst 0, 1) := dk_3 (dk_at dksX2_bestSite_3 20 rfl rfl)
theorem dX2_bestSite_92 : decode cX2_bestSite 92 = .ok (.invokevirtual 385, 3) := dk_182 1 129 (dk_at dksX2_bestSite_3 21 rfl rfl)
theorem dX2_bestSite_95 : decode cX2_bestSite 95 = .ok (.istore 7, 2) := dk_54 7 (dk_at dksX2_bestSite_4 0 rfl rfl)
theorem dX2_bestSite_97 : decode cX2_bestSite 97 = .ok (.iload 7, 2) := dk_21 7 (dk_at dksX2_bestSite_4 2 rfl rfl)
theorem dX2_bestSite_99 : decode cX2_bestSite 99 = .ok (.iload_n 3, 1) := dk_29 (dk_at dksX2_bestSite_4 4 rfl rfl)
theorem dX2_bestSite_100 : decode cX2_bestSite 100 = .ok (.if_icmp .gt 6, 3) := dk_163 0 6 (dk_at dksX2_bestSite_4 5 rfl rfl)
theorem dX2_bestSite_103 : decode cX2_bestSite 103 = .ok (.goto 15, 3) := dk_167 0 15 (dk_at dksX2_bestSite_4 8 rfl rfl)
theorem dX2_bestSite_106 : decode cX2_bestSite 106 = .ok (.bipush 100, 2) := dk_16 100 (dk_at dksX2_bestSite_4 11 rfl rfl)
theorem dX2_bestSite_108 : decode cX2_bestSite 108 = .ok (.iload 6, 2) := dk_21 6 (dk_at dksX2_bestSite_4 13 rfl rfl)
theorem dX2_bestSite_110 : decode cX2_bestSite 110 = .ok (.imul, 1) := dk_104 (dk_at dksX2_bestSite_4 15 rfl rfl)
theorem dX2_bestSite_111 : decode cX2_bestSite 111 = .ok (.iload 5, 2) := dk_21 5 (dk_at dksX2_bestSite_4 16 rfl rfl)
theorem dX2_bestSite_113 : decode cX2_bestSite 113 = .ok (.iadd, 1) := dk_96 (dk_at dksX2_bestSite_4 18 rfl rfl)
theorem dX2_bestSite_114 : decode cX2_bestSite 114 = .ok (.istore_n 2, 1) := dk_61 (dk_at dksX2_bestSite_4 19 rfl rfl)
theorem dX2_bestSite_115 : decode cX2_bestSite 115 = .ok (.iload 7, 2) := dk_21 7 (dk_at dksX2_bestSite_4 20 rfl rfl)
theorem dX2_bestSite_117 : decode cX2_bestSite 117 = .ok (.istore_n 3, 1) := dk_62 (dk_at dksX2_bestSite_4 22 rfl rfl)
theorem dX2_bestSite_118 : decode cX2_bestSite 118 = .ok (.iinc 4 1, 3) := dk_132 4 1 (dk_at dksX2_bestSite_5 0 rfl rfl)
theorem dX2_bestSite_121 : decode cX2_bestSite 121 = .ok (.goto (-91), 3) := dk_167 255 165 (dk_at dksX2_bestSite_5 3 rfl rfl)
theorem dX2_bestSite_124 : decode cX2_bestSite 124 = .ok (.iload_n 2, 1) := dk_28 (dk_at dksX2_bestSite_5 6 rfl rfl)
theorem dX2_bestSite_125 : decode cX2_bestSite 125 = .ok (.ireturn, 1) := dk_172 (dk_at dksX2_bestSite_5 7 rfl rfl)
abbrev cX2_waiting : ByteArray := prog_22_method_124_code
def yX2_waiting : MethodName := ⟨RX2, "waiting", "()I"⟩
def dkwX2_waiting_2 : List UInt8 := [167, 255, 221, 42, 27, 182, 1, 199, 172]
abbrev dktX2_waiting_2 : List UInt8 := dkwX2_waiting_2 ++ []
def dkwX2_waiting_1 : List UInt8 := [180, 0, 23, 16, 6, 28, 96, 46, 4, 160, 0, 7, 4, 167, 0, 4, 3, 96, 60, 132, 2, 1]
abbrev dktX2_waiting_1 : List UInt8 := dkwX2_waiting_1 ++ dktX2_waiting_2
def dkwX2_waiting_0 : List UInt8 := [42, 3, 181, 0, 85, 3, 60, 3, 61, 28, 42, 180, 0, 17, 16, 10, 46, 162, 0, 30, 27, 42]
abbrev dktX2_waiting_0 : List UInt8 := dkwX2_waiting_0 ++ dktX2_waiting_1
theorem dksX2_waiting_0 : cX2_waiting.data.toList.drop 0 = dktX2_waiting_0 := by decide +kernel
theorem dksX2_waiting_1 : cX2_waiting.data.toList.drop 22 = dktX2_waiting_1 := dk_seg dksX2_waiting_0 22 rfl rfl
theorem dksX2_waiting_2 : cX2_waiting.data.toList.drop 44 = dktX2_waiting_2 := dk_seg dksX2_waiting_1 22 rfl rfl
theorem dX2_waiting_0 : decode cX2_waiting 0 = .ok (.aload_n 0, 1) := dk_42 (dk_at dksX2_waiting_0 0 rfl rfl)
theorem dX2_waiting_1 : decode cX2_waiting 1 = .ok (.iconst 0, 1) := dk_3 (dk_at dksX2_waiting_0 1 rfl rfl)
theorem dX2_waiting_2 : decode cX2_waiting 2 = .ok (.putfield 85, 3) := dk_181 0 85 (dk_at dksX2_waiting_0 2 rfl rfl)
theorem dX2_waiting_5 : decode cX2_waiting 5 = .ok (.iconst 0, 1) := dk_3 (dk_at dksX2_waiting_0 5 rfl rfl)
theorem dX2_waiting_6 : decode cX2_waiting 6 = .ok (.istore_n 1, 1) := dk_60 (dk_at dksX2_waiting_0 6 rfl rfl)
theorem dX2_waiting_7 : decode cX2_waiting 7 = .ok (.iconst 0, 1) := dk_3 (dk_at dksX2_waiting_0 7 rfl rfl)
theorem dX2_waiting_8 : decode cX2_waiting 8 = .ok (.istore_n 2, 1) := dk_61 (dk_at dksX2_waiting_0 8 rfl rfl)
theorem dX2_waiting_9 : decode cX2_waiting 9 = .ok (.iload_n 2, 1) := dk_28 (dk_at dksX2_waiting_0 9 rfl rfl)
theorem dX2_waiting_10 : decode cX2_waiting 10 = .ok (.aload_n 0, 1) := dk_42 (dk_at dksX2_waiting_0 10 rfl rfl)
theorem dX2_waiting_11 : decode cX2_waiting 11 = .ok (.getfield 17, 3) := dk_180 0 17 (dk_at dksX2_waiting_0 11 rfl rfl)
theorem dX2_waiting_14 : decode cX2_waiting 14 = .ok (.bipush 10, 2) := dk_16 10 (dk_at dksX2_waiting_0 14 rfl rfl)
theorem dX2_waiting_16 : decode cX2_waiting 16 = .ok (.iaload, 1) := dk_46 (dk_at dksX2_waiting_0 16 rfl rfl)
theorem dX2_waiting_17 : decode cX2_waiting 17 = .ok (.if_icmp .ge 30, 3) := dk_162 0 30 (dk_at dksX2_waiting_0 17 rfl rfl)
theorem dX2_waiting_20 : decode cX2_waiting 20 = .ok (.iload_n 1, 1) := dk_27 (dk_at dksX2_waiting_0 20 rfl rfl)
theorem dX2_waiting_21 : decode cX2_waiting 21 = .ok (.aload_n 0, 1) := dk_42 (dk_at dksX2_waiting_0 21 rfl rfl)
theorem dX2_waiting_22 : decode cX2_waiting 22 = .ok (.getfield 23, 3) := dk_180 0 23 (dk_at dksX2_waiting_1 0 rfl rfl)
theorem dX2_waiting_25 : decode cX2_waiting 25 = .ok (.bipush 6, 2) := dk_16 6 (dk_at dksX2_waiting_1 3 rfl rfl)
theorem dX2_waiting_27 : decode cX2_waiting 27 = .ok (.iload_n 2, 1) := dk_28 (dk_at dksX2_waiting_1 5 rfl rfl)
theorem dX2_waiting_28 : decode cX2_waiting 28 = .ok (.iadd, 1) := dk_96 (dk_at dksX2_waiting_1 6 rfl rfl)
theorem dX2_waiting_29 : decode cX2_waiting 29 = .ok (.iaload, 1) := dk_46 (dk_at dksX2_waiting_1 7 rfl rfl)
theorem dX2_waiting_30 : decode cX2_waiting 30 = .ok (.iconst 1, 1) := dk_4 (dk_at dksX2_waiting_1 8 rfl rfl)
theorem dX2_waiting_31 : decode cX2_waiting 31 = .ok (.if_icmp .ne 7, 3) := dk_160 0 7 (dk_at dksX2_waiting_1 9 rfl rfl)
theorem dX2_waiting_34 : decode cX2_waiting 34 = .ok (.iconst 1, 1) := dk_4 (dk_at dksX2_waiting_1 12 rfl rfl)
theorem dX2_waiting_35 : decode cX2_waiting 35 = .ok (.goto 4, 3) := dk_167 0 4 (dk_at dksX2_waiting_1 13 rfl rfl)
theorem dX2_waiting_38 : decode cX2_waiting 38 = .ok (.iconst 0, 1) := dk_3 (dk_at dksX2_waiting_1 16 rfl rfl)
theorem dX2_waiting_39 : decode cX2_waiting 39 = .ok (.iadd, 1) := dk_96 (dk_at dksX2_waiting_1 17 rfl rfl)
theorem dX2_waiting_40 : decode cX2_waiting 40 = .ok (.istore_n 1, 1) := dk_60 (dk_at dksX2_waiting_1 18 rfl rfl)
theorem dX2_waiting_41 : decode cX2_waiting 41 = .ok (.iinc 2 1, 3) := dk_132 2 1 (dk_at dksX2_waiting_1 19 rfl rfl)
theorem dX2_waiting_44 : decode cX2_waiting 44 = .ok (.goto (-35), 3) := dk_167 255 221 (dk_at dksX2_waiting_2 0 rfl rfl)
theorem dX2_waiting_47 : decode cX2_waiting 47 = .ok (.aload_n 0, 1) := dk_42 (dk_at dksX2_waiting_2 3 rfl rfl)
theorem dX2_waiting_48 : decode cX2_waiting 48 = .ok (.iload_n 1, 1) := dk_27 (dk_at dksX2_waiting_2 4 rfl rfl)
theorem dX2_waiting_49 : decode cX2_waiting 49 = .ok (.invokevirtual 455, 3) := dk_182 1 199 (dk_at dksX2_waiting_2 5 rfl rfl)
theorem dX2_waiting_52 : decode cX2_waiting 52 = .ok (.ireturn, 1) := dk_172 (dk_at dksX2_waiting_2 8 rfl rfl)
abbrev cX2_queueAt : ByteArray := prog_22_method_125_code
def yX2_queueAt : MethodName := ⟨RX2, "queueAt", "(I)I"⟩
def dkwX2_queueAt_2 : List UInt8 := [160, 0, 5, 28, 172, 132, 2, 1, 167, 255, 214, 42, 5, 182, 1, 40, 172]
abbrev dktX2_queueAt_2 : List UInt8 := dkwX2_queueAt_2 ++ []
def dkwX2_queueAt_1 : List UInt8 := [180, 0, 23, 16, 6, 28, 96, 46, 4, 160, 0, 18, 42, 42, 180, 0, 23, 28, 182, 1, 172, 27]
abbrev dktX2_queueAt_1 : List UInt8 := dkwX2_queueAt_1 ++ dktX2_queueAt_2
def dkwX2_queueAt_0 : List UInt8 := [42, 4, 182, 1, 205, 154, 0, 5, 3, 172, 3, 61, 28, 42, 180, 0, 17, 16, 10, 46, 162, 0, 37, 42]
abbrev dktX2_queueAt_0 : List UInt8 := dkwX2_queueAt_0 ++ dktX2_queueAt_1
theorem dksX2_queueAt_0 : cX2_queueAt.data.toList.drop 0 = dktX2_queueAt_0 := by decide +kernel
theorem dksX2_queueAt_1 : cX2_queueAt.data.toList.drop 24 = dktX2_queueAt_1 := dk_seg dksX2_queueAt_0 24 rfl rfl
theorem dksX2_queueAt_2 : cX2_queueAt.data.toList.drop 46 = dktX2_queueAt_2 := dk_seg dksX2_queueAt_1 22 rfl rfl
theorem dX2_queueAt_0 : decode cX2_queueAt 0 = .ok (.aload_n 0, 1) := dk_42 (dk_at dksX2_queueAt_0 0 rfl rfl)
theorem dX2_queueAt_1 : decode cX2_queueAt 1 = .ok (.iconst 1, 1) := dk_4 (dk_at dksX2_queueAt_0 1 rfl rfl)
theorem dX2_queueAt_2 : decode cX2_queueAt 2 = .ok (.invokevirtual 461, 3) := dk_182 1 205 (dk_at dksX2_queueAt_0 2 rfl rfl)
theorem dX2_queueAt_5 : decode cX2_queueAt 5 = .ok (.ifCond .ne 5, 3) := dk_154 0 5 (dk_at dksX2_queueAt_0 5 rfl rfl)
theorem dX2_queueAt_8 : decode cX2_queueAt 8 = .ok (.iconst 0, 1) := dk_3 (dk_at dksX2_queueAt_0 8 rfl rfl)
theorem dX2_queueAt_9 : decode cX2_queueAt 9 = .ok (.ireturn, 1) := dk_172 (dk_at dksX2_queueAt_0 9 rfl rfl)
theorem dX2_queueAt_10 : decode cX2_queueAt 10 = .ok (.iconst 0, 1) := dk_3 (dk_at dksX2_queueAt_0 10 rfl rfl)
theorem dX2_queueAt_11 : decode cX2_queueAt 11 = .ok (.istore_n 2, 1) := dk_61 (dk_at dksX2_queueAt_0 11 rfl rfl)
theorem dX2_queueAt_12 : decode cX2_queueAt 12 = .ok (.iload_n 2, 1) := dk_28 (dk_at dksX2_queueAt_0 12 rfl rfl)
theorem dX2_queueAt_13 : decode cX2_queueAt 13 = .ok (.aload_n 0, 1) := dk_42 (dk_at dksX2_queueAt_0 13 rfl rfl)
theorem dX2_queueAt_14 : decode cX2_queueAt 14 = .ok (.getfield 17, 3) := dk_180 0 17 (dk_at dksX2_queueAt_0 14 rfl rfl)
theorem dX2_queueAt_17 : decode cX2_queueAt 17 = .ok (.bipush 10, 2) := dk_16 10 (dk_at dksX2_queueAt_0 17 rfl rfl)
theorem dX2_queueAt_19 : decode cX2_queueAt 19 = .ok (.iaload, 1) := dk_46 (dk_at dksX2_queueAt_0 19 rfl rfl)
theorem dX2_queueAt_20 : decode cX2_queueAt 20 = .ok (.if_icmp .ge 37, 3) := dk_162 0 37 (dk_at dksX2_queueAt_0 20 rfl rfl)
theorem dX2_queueAt_23 : decode cX2_queueAt 23 = .ok (.aload_n 0, 1) := dk_42 (dk_at dksX2_queueAt_0 23 rfl rfl)
theorem dX2_queueAt_24 : decode cX2_queueAt 24 = .ok (.getfield 23, 3) := dk_180 0 23 (dk_at dksX2_queueAt_1 0 rfl rfl)
theorem dX2_queueAt_27 : decode cX2_queueAt 27 = .ok (.bipush 6, 2) := dk_16 6 (dk_at dksX2_queueAt_1 3 rfl rfl)
theorem dX2_queueAt_29 : decode cX2_queueAt 29 = .ok (.iload_n 2, 1) := dk_28 (dk_at dksX2_queueAt_1 5 rfl rfl)
theorem dX2_queueAt_30 : decode cX2_queueAt 30 = .ok (.iadd, 1) := dk_96 (dk_at dksX2_queueAt_1 6 rfl rfl)
theorem dX2_queueAt_31 : decode cX2_queueAt 31 = .ok (.iaload, 1) := dk_46 (dk_at dksX2_queueAt_1 7 rfl rfl)
theorem dX2_queueAt_32 : decode cX2_queueAt 32 = .ok (.iconst 1, 1) := dk_4 (dk_at dksX2_queueAt_1 8 rfl rfl)
theorem dX2_queueAt_33 : decode cX2_queueAt 33 = .ok (.if_icmp .ne 18, 3) := dk_160 0 18 (dk_at dksX2_queueAt_1 9 rfl rfl)
theorem dX2_queueAt_36 : decode cX2_queueAt 36 = .ok (.aload_n 0, 1) := dk_42 (dk_at dksX2_queueAt_1 12 rfl rfl)
theorem dX2_queueAt_37 : decode cX2_queueAt 37 = .ok (.aload_n 0, 1) := dk_42 (dk_at dksX2_queueAt_1 13 rfl rfl)
theorem dX2_queueAt_38 : decode cX2_queueAt 38 = .ok (.getfield 23, 3) := dk_180 0 23 (dk_at dksX2_queueAt_1 14 rfl rfl)
theorem dX2_queueAt_41 : decode cX2_queueAt 41 = .ok (.iload_n 2, 1) := dk_28 (dk_at dksX2_queueAt_1 17 rfl rfl)
theorem dX2_queueAt_42 : decode cX2_queueAt 42 = .ok (.invokevirtual 428, 3) := dk_182 1 172 (dk_at dksX2_queueAt_1 18 rfl rfl)
theorem dX2_queueAt_45 : decode cX2_queueAt 45 = .ok (.iload_n 1, 1) := dk_27 (dk_at dksX2_queueAt_1 21 rfl rfl)
theorem dX2_queueAt_46 : decode cX2_queueAt 46 = .ok (.if_icmp .ne 5, 3) := dk_160 0 5 (dk_at dksX2_queueAt_2 0 rfl rfl)
theorem dX2_queueAt_49 : decode cX2_queueAt 49 = .ok (.iload_n 2, 1) := dk_28 (dk_at dksX2_queueAt_2 3 rfl rfl)
theorem dX2_queueAt_50 : decode cX2_queueAt 50 = .ok (.ireturn, 1) := dk_172 (dk_at dksX2_queueAt_2 4 rfl rfl)
theorem dX2_queueAt_51 : decode cX2_queueAt 51 = .ok (.iinc 2 1, 3) := dk_132 2 1 (dk_at dksX2_queueAt_2 5 rfl rfl)
theorem dX2_queueAt_54 : decode cX2_queueAt 54 = .ok (.goto (-42), 3) := dk_167 255 214 (dk_at dksX2_queueAt_2 8 rfl rfl)
theorem dX2_queueAt_57 : decode cX2_queueAt 57 = .ok (.aload_n 0, 1) := dk_42 (dk_at dksX2_queueAt_2 11 rfl rfl)
theorem dX2_queueAt_58 : decode cX2_queueAt 58 = .ok (.iconst 2, 1) := dk_5 (dk_at dksX2_queueAt_2 12 rfl rfl)
theorem dX2_queueAt_59 : decode cX2_queueAt 59 = .ok (.invokevirtual 296, 3) := dk_182 1 40 (dk_at dksX2_queueAt_2 13 rfl rfl)
theorem dX2_queueAt_62 : decode cX2_queueAt 62 = .ok (.ireturn, 1) := dk_172 (dk_at dksX2_queueAt_2 16 rfl rfl)
abbrev cX2_placeOf : ByteArray := prog_22_method_76_code
def yX2_placeOf : MethodName := ⟨RX2, "placeOf", "([II)I"⟩
def dkwX2_placeOf_2 : List UInt8 := [167, 0, 4, 3, 96, 62, 132, 4, 1, 167, 255, 205, 29, 172]
abbrev dktX2_placeOf_2 : List UInt8 := dkwX2_placeOf_2 ++ []
def dkwX2_placeOf_1 : List UInt8 := [43, 16, 6, 21, 4, 96, 46, 4, 160, 0, 18, 42, 43, 21, 4, 28, 182, 1, 169, 153, 0, 7, 4]
abbrev dktX2_placeOf_1 : List UInt8 := dkwX2_placeOf_1 ++ dktX2_placeOf_2
def dkwX2_placeOf_0 : List UInt8 := [3, 62, 3, 54, 4, 21, 4, 42, 180, 0, 17, 16, 10, 46, 162, 0, 45, 29, 21, 4, 28, 159, 0, 29]
abbrev dktX2_placeOf_0 : List UInt8 := dkwX2_placeOf_0 ++ dktX2_placeOf_1
theorem dksX2_placeOf_0 : cX2_placeOf.data.toList.drop 0 = dktX2_placeOf_0 := by decide +kernel
theorem dksX2_placeOf_1 : cX2_placeOf.data.toList.drop 24 = dktX2_placeOf_1 := dk_seg dksX2_placeOf_0 24 rfl rfl
theorem dksX2_placeOf_2 : cX2_placeOf.data.toList.drop 47 = dktX2_placeOf_2 := dk_seg dksX2_placeOf_1 23 rfl rfl
theorem dX2_placeOf_0 : decode cX2_placeOf 0 = .ok (.iconst 0, 1) := dk_3 (dk_at dksX2_placeOf_0 0 rfl rfl)
theorem dX2_placeOf_1 : decode cX2_placeOf 1 = .ok (.istore_n 3, 1) := dk_62 (dk_at dksX2_placeOf_0 1 rfl rfl)
theorem dX2_placeOf_2 : decode cX2_placeOf 2 = .ok (.iconst 0, 1) := dk_3 (dk_at dksX2_placeOf_0 2 rfl rfl)
theorem dX2_placeOf_3 : decode cX2_placeOf 3 = .ok (.istore 4, 2) := dk_54 4 (dk_at dksX2_placeOf_0 3 rfl rfl)
theorem dX2_placeOf_5 : decode cX2_placeOf 5 = .ok (.iload 4, 2) := dk_21 4 (dk_at dksX2_placeOf_0 5 rfl rfl)
theorem dX2_placeOf_7 : decode cX2_placeOf 7 = .ok (.aload_n 0, 1) := dk_42 (dk_at dksX2_placeOf_0 7 rfl rfl)
theorem dX2_placeOf_8 : decode cX2_placeOf 8 = .ok (.getfield 17, 3) := dk_180 0 17 (dk_at dksX2_placeOf_0 8 rfl rfl)
theorem dX2_placeOf_11 : decode cX2_placeOf 11 = .ok (.bipush 10, 2) := dk_16 10 (dk_at dksX2_placeOf_0 11 rfl rfl)
theorem dX2_placeOf_13 : decode cX2_placeOf 13 = .ok (.iaload, 1) := dk_46 (dk_at dksX2_placeOf_0 13 rfl rfl)
theorem dX2_placeOf_14 : decode cX2_placeOf 14 = .ok (.if_icmp .ge 45, 3) := dk_162 0 45 (dk_at dksX2_placeOf_0 14 rfl rfl)
theorem dX2_placeOf_17 : decode cX2_placeOf 17 = .ok (.iload_n 3, 1) := dk_29 (dk_at dksX2_placeOf_0 17 rfl rfl)
theorem dX2_placeOf_18 : decode cX2_placeOf 18 = .ok (.iload 4, 2) := dk_21 4 (dk_at dksX2_placeOf_0 18 rfl rfl)
theorem dX2_placeOf_20 : decode cX2_placeOf 20 = .ok (.iload_n 2, 1) := dk_28 (dk_at dksX2_placeOf_0 20 rfl rfl)
theorem dX2_placeOf_21 : decode cX2_placeOf 21 = .ok (.if_icmp .eq 29, 3) := dk_159 0 29 (dk_at dksX2_placeOf_0 21 rfl rfl)
theorem dX2_placeOf_24 : decode cX2_placeOf 24 = .ok (.aload_n 1, 1) := dk_43 (dk_at dksX2_placeOf_1 0 rfl rfl)
theorem dX2_placeOf_25 : decode cX2_placeOf 25 = .ok (.bipush 6, 2) := dk_16 6 (dk_at dksX2_placeOf_1 1 rfl rfl)
theorem dX2_placeOf_27 : decode cX2_placeOf 27 = .ok (.iload 4, 2) := dk_21 4 (dk_at dksX2_placeOf_1 3 rfl rfl)
theorem dX2_placeOf_29 : decode cX2_placeOf 29 = .ok (.iadd, 1) := dk_96 (dk_at dksX2_placeOf_1 5 rfl rfl)
theorem dX2_placeOf_30 : decode cX2_placeOf 30 = .ok (.iaload, 1) := dk_46 (dk_at dksX2_placeOf_1 6 rfl rfl)
theorem dX2_placeOf_31 : decode cX2_placeOf 31 = .ok (.iconst 1, 1) := dk_4 (dk_at dksX2_placeOf_1 7 rfl rfl)
theorem dX2_placeOf_32 : decode cX2_placeOf 32 = .ok (.if_icmp .ne 18, 3) := dk_160 0 18 (dk_at dksX2_placeOf_1 8 rfl rfl)
theorem dX2_placeOf_35 : decode cX2_placeOf 35 = .ok (.aload_n 0, 1) := dk_42 (dk_at dksX2_placeOf_1 11 rfl rfl)
theorem dX2_placeOf_36 : decode cX2_placeOf 36 = .ok (.aload_n 1, 1) := dk_43 (dk_at dksX2_placeOf_1 12 rfl rfl)
theorem dX2_placeOf_37 : decode cX2_placeOf 37 = .ok (.iload 4, 2) := dk_21 4 (dk_at dksX2_placeOf_1 13 rfl rfl)
theorem dX2_placeOf_39 : decode cX2_placeOf 39 = .ok (.iload_n 2, 1) := dk_28 (dk_at dksX2_placeOf_1 15 rfl rfl)
theorem dX2_placeOf_40 : decode cX2_placeOf 40 = .ok (.invokevirtual 425, 3) := dk_182 1 169 (dk_at dksX2_placeOf_1 16 rfl rfl)
theorem dX2_placeOf_43 : decode cX2_placeOf 43 = .ok (.ifCond .eq 7, 3) := dk_153 0 7 (dk_at dksX2_placeOf_1 19 rfl rfl)
theorem dX2_placeOf_46 : decode cX2_placeOf 46 = .ok (.iconst 1, 1) := dk_4 (dk_at dksX2_placeOf_1 22 rfl rfl)
theorem dX2_placeOf_47 : decode cX2_placeOf 47 = .ok (.goto 4, 3) := dk_167 0 4 (dk_at dksX2_placeOf_2 0 rfl rfl)
theorem dX2_placeOf_50 : decode cX2_placeOf 50 = .ok (.iconst 0, 1) := dk_3 (dk_at dksX2_placeOf_2 3 rfl rfl)
theorem dX2_placeOf_51 : decode cX2_placeOf 51 = .ok (.iadd, 1) := dk_96 (dk_at dksX2_placeOf_2 4 rfl rfl)
theorem dX2_placeOf_52 : decode cX2_placeOf 52 = .ok (.istore_n 3, 1) := dk_62 (dk_at dksX2_placeOf_2 5 rfl rfl)
theorem dX2_placeOf_53 : decode cX2_placeOf 53 = .ok (.iinc 4 1, 3) := dk_132 4 1 (dk_at dksX2_placeOf_2 6 rfl rfl)
theorem dX2_placeOf_56 : decode cX2_placeOf 56 = .ok (.goto (-51), 3) := dk_167 255 205 (dk_at dksX2_placeOf_2 9 rfl rfl)
theorem dX2_placeOf_59 : decode cX2_placeOf 59 = .ok (.iload_n 3, 1) := dk_29 (dk_at dksX2_placeOf_2 12 rfl rfl)
theorem dX2_placeOf_60 : decode cX2_placeOf 60 = .ok (.ireturn, 1) := dk_172 (dk_at dksX2_placeOf_2 13 rfl rfl)
abbrev cX2_isAhead : ByteArray := prog_22_method_75_code
def yX2_isAhead : MethodName := ⟨RX2, "isAhead", "([III)Z"⟩
def dkwX2_isAhead_2 : List UInt8 := [162, 0, 7, 4, 167, 0, 17, 3, 167, 0, 13, 28, 29, 162, 0, 7, 4, 167, 0, 4, 3, 172]
abbrev dktX2_isAhead_2 : List UInt8 := dkwX2_isAhead_2 ++ []
def dkwX2_isAhead_1 : List UInt8 := [46, 43, 16, 22, 29, 96, 46, 159, 0, 26, 43, 16, 22, 28, 96, 46, 43, 16, 22, 29, 96, 46]
abbrev dktX2_isAhead_1 : List UInt8 := dkwX2_isAhead_1 ++ dktX2_isAhead_2
def dkwX2_isAhead_0 : List UInt8 := [42, 28, 182, 1, 4, 42, 29, 182, 1, 4, 159, 0, 9, 42, 28, 182, 1, 4, 172, 43, 16, 22, 28, 96]
abbrev dktX2_isAhead_0 : List UInt8 := dkwX2_isAhead_0 ++ dktX2_isAhead_1
theorem dksX2_isAhead_0 : cX2_isAhead.data.toList.drop 0 = dktX2_isAhead_0 := by decide +kernel
theorem dksX2_isAhead_1 : cX2_isAhead.data.toList.drop 24 = dktX2_isAhead_1 := dk_seg dksX2_isAhead_0 24 rfl rfl
theorem dksX2_isAhead_2 : cX2_isAhead.data.toList.drop 46 = dktX2_isAhead_2 := dk_seg dksX2_isAhead_1 22 rfl rfl
theorem dX2_isAhead_0 : decode cX2_isAhead 0 = .ok (.aload_n 0, 1) := dk_42 (dk_at dksX2_isAhead_0 0 rfl rfl)
theorem dX2_isAhead_1 : decode cX2_isAhead 1 = .ok (.iload_n 2, 1) := dk_28 (dk_at dksX2_isAhead_0 1 rfl rfl)
theorem dX2_isAhead_2 : decode cX2_isAhead 2 = .ok (.invokevirtual 260, 3) := dk_182 1 4 (dk_at dksX2_isAhead_0 2 rfl rfl)
theorem dX2_isAhead_5 : decode cX2_isAhead 5 = .ok (.aload_n 0, 1) := dk_42 (dk_at dksX2_isAhead_0 5 rfl rfl)
theorem dX2_isAhead_6 : decode cX2_isAhead 6 = .ok (.iload_n 3, 1) := dk_29 (dk_at dksX2_isAhead_0 6 rfl rfl)
theorem dX2_isAhead_7 : decode cX2_isAhead 7 = .ok (.invokevirtual 260, 3) := dk_182 1 4 (dk_at dksX2_isAhead_0 7 rfl rfl)
theorem dX2_isAhead_10 : decode cX2_isAhead 10 = .ok (.if_icmp .eq 9, 3) := dk_159 0 9 (dk_at dksX2_isAhead_0 10 rfl rfl)
theorem dX2_isAhead_13 : decode cX2_isAhead 13 = .ok (.aload_n 0, 1) := dk_42 (dk_at dksX2_isAhead_0 13 rfl rfl)
theorem dX2_isAhead_14 : decode cX2_isAhead 14 = .ok (.iload_n 2, 1) := dk_28 (dk_at dksX2_isAhead_0 14 rfl rfl)
theorem dX2_isAhead_15 : decode cX2_isAhead 15 = .ok (.invokevirtual 260, 3) := dk_182 1 4 (dk_at dksX2_isAhead_0 15 rfl rfl)
theorem dX2_isAhead_18 : decode cX2_isAhead 18 = .ok (.ireturn, 1) := dk_172 (dk_at dksX2_isAhead_0 18 rfl rfl)
theorem dX2_isAhead_19 : decode cX2_isAhead 19 = .ok (.aload_n 1, 1) := dk_43 (dk_at dksX2_isAhead_0 19 rfl rfl)
theorem dX2_isAhead_20 : decode cX2_isAhead 20 = .ok (.bipush 22, 2) := dk_16 22 (dk_at dksX2_isAhead_0 20 rfl rfl)
theorem dX2_isAhead_22 : decode cX2_isAhead 22 = .ok (.iload_n 2, 1) := dk_28 (dk_at dksX2_isAhead_0 22 rfl rfl)
theorem dX2_isAhead_23 : decode cX2_isAhead 23 = .ok (.iadd, 1) := dk_96 (dk_at dksX2_isAhead_0 23 rfl rfl)
theorem dX2_isAhead_24 : decode cX2_isAhead 24 = .ok (.iaload, 1) := dk_46 (dk_at dksX2_isAhead_1 0 rfl rfl)
theorem dX2_isAhead_25 : decode cX2_isAhead 25 = .ok (.aload_n 1, 1) := dk_43 (dk_at dksX2_isAhead_1 1 rfl rfl)
theorem dX2_isAhead_26 : decode cX2_isAhead 26 = .ok (.bipush 22, 2) := dk_16 22 (dk_at dksX2_isAhead_1 2 rfl rfl)
theorem dX2_isAhead_28 : decode cX2_isAhead 28 = .ok (.iload_n 3, 1) := dk_29 (dk_at dksX2_isAhead_1 4 rfl rfl)
theorem dX2_isAhead_29 : decode cX2_isAhead 29 = .ok (.iadd, 1) := dk_96 (dk_at dksX2_isAhead_1 5 rfl rfl)
theorem dX2_isAhead_30 : decode cX2_isAhead 30 = .ok (.iaload, 1) := dk_46 (dk_at dksX2_isAhead_1 6 rfl rfl)
theorem dX2_isAhead_31 : decode cX2_isAhead 31 = .ok (.if_icmp .eq 26, 3) := dk_159 0 26 (dk_at dksX2_isAhead_1 7 rfl rfl)
theorem dX2_isAhead_34 : decode cX2_isAhead 34 = .ok (.aload_n 1, 1) := dk_43 (dk_at dksX2_isAhead_1 10 rfl rfl)
theorem dX2_isAhead_35 : decode cX2_isAhead 35 = .ok (.bipush 22, 2) := dk_16 22 (dk_at dksX2_isAhead_1 11 rfl rfl)
theorem dX2_isAhead_37 : decode cX2_isAhead 37 = .ok (.iload_n 2, 1) := dk_28 (dk_at dksX2_isAhead_1 13 rfl rfl)
theorem dX2_isAhead_38 : decode cX2_isAhead 38 = .ok (.iadd, 1) := dk_96 (dk_at dksX2_isAhead_1 14 rfl rfl)
theorem dX2_isAhead_39 : decode cX2_isAhead 39 = .ok (.iaload, 1) := dk_46 (dk_at dksX2_isAhead_1 15 rfl rfl)
theorem dX2_isAhead_40 : decode cX2_isAhead 40 = .ok (.aload_n 1, 1) := dk_43 (dk_at dksX2_isAhead_1 16 rfl rfl)
theorem dX2_isAhead_41 : decode cX2_isAhead 41 = .ok (.bipush 22, 2) := dk_16 22 (dk_at dksX2_isAhead_1 17 rfl rfl)
theorem dX2_isAhead_43 : decode cX2_isAhead 43 = .ok (.iload_n 3, 1) := dk_29 (dk_at dksX2_isAhead_1 19 rfl rfl)
theorem dX2_isAhead_44 : decode cX2_isAhead 44 = .ok (.iadd, 1) := dk_96 (dk_at dksX2_isAhead_1 20 rfl rfl)
theorem dX2_isAhead_45 : decode cX2_isAhead 45 = .ok (.iaload, 1) := dk_46 (dk_at dksX2_isAhead_1 21 rfl rfl)
theorem dX2_isAhead_46 : decode cX2_isAhead 46 = .ok (.if_icmp .ge 7, 3) := dk_162 0 7 (dk_at dksX2_isAhead_2 0 rfl rfl)
theorem dX2_isAhead_49 : decode cX2_isAhead 49 = .ok (.iconst 1, 1) := dk_4 (dk_at dksX2_isAhead_2 3 rfl rfl)
theorem dX2_isAhead_50 : decode cX2_isAhead 50 = .ok (.goto 17, 3) := dk_167 0 17 (dk_at dksX2_isAhead_2 4 rfl rfl)
theorem dX2_isAhead_53 : decode cX2_isAhead 53 = .ok (.iconst 0, 1) := dk_3 (dk_at dksX2_isAhead_2 7 rfl rfl)
theorem dX2_isAhead_54 : decode cX2_isAhead 54 = .ok (.goto 13, 3) := dk_167 0 13 (dk_at dksX2_isAhead_2 8 rfl rfl)
theorem dX2_isAhead_57 : decode cX2_isAhead 57 = .ok (.iload_n 2, 1) := dk_28 (dk_at dksX2_isAhead_2 11 rfl rfl)
theorem dX2_isAhead_58 : decode cX2_isAhead 58 = .ok (.iload_n 3, 1) := dk_29 (dk_at dksX2_isAhead_2 12 rfl rfl)
theorem dX2_isAhead_59 : decode cX2_isAhead 59 = .ok (.if_icmp .ge 7, 3) := dk_162 0 7 (dk_at dksX2_isAhead_2 13 rfl rfl)
theorem dX2_isAhead_62 : decode cX2_isAhead 62 = .ok (.iconst 1, 1) := dk_4 (dk_at dksX2_isAhead_2 16 rfl rfl)
theorem dX2_isAhead_63 : decode cX2_isAhead 63 = .ok (.goto 4, 3) := dk_167 0 4 (dk_at dksX2_isAhead_2 17 rfl rfl)
theorem dX2_isAhead_66 : decode cX2_isAhead 66 = .ok (.iconst 0, 1) := dk_3 (dk_at dksX2_isAhead_2 20 rfl rfl)
theorem dX2_isAhead_67 : decode cX2_isAhead 67 = .ok (.ireturn, 1) := dk_172 (dk_at dksX2_isAhead_2 21 rfl rfl)
abbrev cX2_transmitting : ByteArray := prog_22_method_126_code
def yX2_transmitting : MethodName := ⟨RX2, "transmitting", "(I)I"⟩
def dkwX2_transmitting_2 : List UInt8 := [3, 96, 61, 132, 3, 1, 167, 255, 221, 28, 172]
abbrev dktX2_transmitting_2 : List UInt8 := dkwX2_transmitting_2 ++ []
def dkwX2_transmitting_1 : List UInt8 := [16, 10, 46, 162, 0, 30, 28, 42, 180, 0, 23, 16, 38, 29, 96, 46, 27, 160, 0, 7, 4, 167, 0, 4]
abbrev dktX2_transmitting_1 : List UInt8 := dkwX2_transmitting_1 ++ dktX2_transmitting_2
def dkwX2_transmitting_0 : List UInt8 := [42, 42, 27, 182, 1, 218, 182, 1, 205, 154, 0, 5, 3, 172, 3, 61, 3, 62, 29, 42, 180, 0, 17]
abbrev dktX2_transmitting_0 : List UInt8 := dkwX2_transmitting_0 ++ dktX2_transmitting_1
theorem dksX2_transmitting_0 : cX2_transmitting.data.toList.drop 0 = dktX2_transmitting_0 := by decide +kernel
theorem dksX2_transmitting_1 : cX2_transmitting.data.toList.drop 23 = dktX2_transmitting_1 := dk_seg dksX2_transmitting_0 23 rfl rfl
theorem dksX2_transmitting_2 : cX2_transmitting.data.toList.drop 47 = dktX2_transmitting_2 := dk_seg dksX2_transmitting_1 24 rfl rfl
theorem dX2_transmitting_0 : decode cX2_transmitting 0 = .ok (.aload_n 0, 1) := dk_42 (dk_at dksX2_transmitting_0 0 rfl rfl)
theorem dX2_transmitting_1 : decode cX2_transmitting 1 = .ok (.aload_n 0, 1) := dk_42 (dk_at dksX2_transmitting_0 1 rfl rfl)
theorem dX2_transmitting_2 : decode cX2_transmitting 2 = .ok (.iload_n 1, 1) := dk_27 (dk_at dksX2_transmitting_0 2 rfl rfl)
theorem dX2_transmitting_3 : decode cX2_transmitting 3 = .ok (.invokevirtual 474, 3) := dk_182 1 218 (dk_at dksX2_transmitting_0 3 rfl rfl)
theorem dX2_transmitting_6 : decode cX2_transmitting 6 = .ok (.invokevirtual 461, 3) := dk_182 1 205 (dk_at dksX2_transmitting_0 6 rfl rfl)
theorem dX2_transmitting_9 : decode cX2_transmitting 9 = .ok (.ifCond .ne 5, 3) := dk_154 0 5 (dk_at dksX2_transmitting_0 9 rfl rfl)
theorem dX2_transmitting_12 : decode cX2_transmitting 12 = .ok (.iconst 0, 1) := dk_3 (dk_at dksX2_transmitting_0 12 rfl rfl)
theorem dX2_transmitting_13 : decode cX2_transmitting 13 = .ok (.ireturn, 1) := dk_172 (dk_at dksX2_transmitting_0 13 rfl rfl)
theorem dX2_transmitting_14 : decode cX2_transmitting 14 = .ok (.iconst 0, 1) := dk_3 (dk_at dksX2_transmitting_0 14 rfl rfl)
theorem dX2_transmitting_15 : decode cX2_transmitting 15 = .ok (.istore_n 2, 1) := dk_61 (dk_at dksX2_transmitting_0 15 rfl rfl)
theorem dX2_transmitting_16 : decode cX2_transmitting 16 = .ok (.iconst 0, 1) := dk_3 (dk_at dksX2_transmitting_0 16 rfl rfl)
theorem dX2_transmitting_17 : decode cX2_transmitting 17 = .ok (.istore_n 3, 1) := dk_62 (dk_at dksX2_transmitting_0 17 rfl rfl)
theorem dX2_transmitting_18 : decode cX2_transmitting 18 = .ok (.iload_n 3, 1) := dk_29 (dk_at dksX2_transmitting_0 18 rfl rfl)
theorem dX2_transmitting_19 : decode cX2_transmitting 19 = .ok (.aload_n 0, 1) := dk_42 (dk_at dksX2_transmitting_0 19 rfl rfl)
theorem dX2_transmitting_20 : decode cX2_transmitting 20 = .ok (.getfield 17, 3) := dk_180 0 17 (dk_at dksX2_transmitting_0 20 rfl rfl)
theorem dX2_transmitting_23 : decode cX2_transmitting 23 = .ok (.bipush 10, 2) := dk_16 10 (dk_at dksX2_transmitting_1 0 rfl rfl)
theorem dX2_transmitting_25 : decode cX2_transmitting 25 = .ok (.iaload, 1) := dk_46 (dk_at dksX2_transmitting_1 2 rfl rfl)
theorem dX2_transmitting_26 : decode cX2_transmitting 26 = .ok (.if_icmp .ge 30, 3) := dk_162 0 30 (dk_at dksX2_transmitting_1 3 rfl rfl)
theorem dX2_transmitting_29 : decode cX2_transmitting 29 = .ok (.iload_n 2, 1) := dk_28 (dk_at dksX2_transmitting_1 6 rfl rfl)
theorem dX2_transmitting_30 : decode cX2_transmitting 30 = .ok (.aload_n 0, 1) := dk_42 (dk_at dksX2_transmitting_1 7 rfl rfl)
theorem dX2_transmitting_31 : decode cX2_transmitting 31 = .ok (.getfield 23, 3) := dk_180 0 23 (dk_at dksX2_transmitting_1 8 rfl rfl)
theorem dX2_transmitting_34 : decode cX2_transmitting 34 = .ok (.bipush 38, 2) := dk_16 38 (dk_at dksX2_transmitting_1 11 rfl rfl)
theorem dX2_transmitting_36 : decode cX2_transmitting 36 = .ok (.iload_n 3, 1) := dk_29 (dk_at dksX2_transmitting_1 13 rfl rfl)
theorem dX2_transmitting_37 : decode cX2_transmitting 37 = .ok (.iadd, 1) := dk_96 (dk_at dksX2_transmitting_1 14 rfl rfl)
theorem dX2_transmitting_38 : decode cX2_transmitting 38 = .ok (.iaload, 1) := dk_46 (dk_at dksX2_transmitting_1 15 rfl rfl)
theorem dX2_transmitting_39 : decode cX2_transmitting 39 = .ok (.iload_n 1, 1) := dk_27 (dk_at dksX2_transmitting_1 16 rfl rfl)
theorem dX2_transmitting_40 : decode cX2_transmitting 40 = .ok (.if_icmp .ne 7, 3) := dk_160 0 7 (dk_at dksX2_transmitting_1 17 rfl rfl)
theorem dX2_transmitting_43 : decode cX2_transmitting 43 = .ok (.iconst 1, 1) := dk_4 (dk_at dksX2_transmitting_1 20 rfl rfl)
theorem dX2_transmitting_44 : decode cX2_transmitting 44 = .ok (.goto 4, 3) := dk_167 0 4 (dk_at dksX2_transmitting_1 21 rfl rfl)
theorem dX2_transmitting_47 : decode cX2_transmitting 47 = .ok (.iconst 0, 1) := dk_3 (dk_at dksX2_transmitting_2 0 rfl rfl)
theorem dX2_transmitting_48 : decode cX2_transmitting 48 = .ok (.iadd, 1) := dk_96 (dk_at dksX2_transmitting_2 1 rfl rfl)
theorem dX2_transmitting_49 : decode cX2_transmitting 49 = .ok (.istore_n 2, 1) := dk_61 (dk_at dksX2_transmitting_2 2 rfl rfl)
theorem dX2_transmitting_50 : decode cX2_transmitting 50 = .ok (.iinc 3 1, 3) := dk_132 3 1 (dk_at dksX2_transmitting_2 3 rfl rfl)
theorem dX2_transmitting_53 : decode cX2_transmitting 53 = .ok (.goto (-35), 3) := dk_167 255 221 (dk_at dksX2_transmitting_2 6 rfl rfl)
theorem dX2_transmitting_56 : decode cX2_transmitting 56 = .ok (.iload_n 2, 1) := dk_28 (dk_at dksX2_transmitting_2 9 rfl rfl)
theorem dX2_transmitting_57 : decode cX2_transmitting 57 = .ok (.ireturn, 1) := dk_172 (dk_at dksX2_transmitting_2 10 rfl rfl)
abbrev cX2_moves : ByteArray := prog_22_method_127_code
def yX2_moves : MethodName := ⟨RX2, "moves", "()I"⟩
def dkwX2_moves_0 : List UInt8 := [42, 42, 180, 0, 23, 4, 46, 182, 1, 199, 172]
abbrev dktX2_moves_0 : List UInt8 := dkwX2_moves_0 ++ []
theorem dksX2_moves_0 : cX2_moves.data.toList.drop 0 = dktX2_moves_0 := by decide +kernel
theorem dX2_moves_0 : decode cX2_moves 0 = .ok (.aload_n 0, 1) := dk_42 (dk_at dksX2_moves_0 0 rfl rfl)
theorem dX2_moves_1 : decode cX2_moves 1 = .ok (.aload_n 0, 1) := dk_42 (dk_at dksX2_moves_0 1 rfl rfl)
theorem dX2_moves_2 : decode cX2_moves 2 = .ok (.getfield 23, 3) := dk_180 0 23 (dk_at dksX2_moves_0 2 rfl rfl)
theorem dX2_moves_5 : decode cX2_moves 5 = .ok (.iconst 1, 1) := dk_4 (dk_at dksX2_moves_0 5 rfl rfl)
theorem dX2_moves_6 : decode cX2_moves 6 = .ok (.iaload, 1) := dk_46 (dk_at dksX2_moves_0 6 rfl rfl)
theorem dX2_moves_7 : decode cX2_moves 7 = .ok (.invokevirtual 455, 3) := dk_182 1 199 (dk_at dksX2_moves_0 7 rfl rfl)
theorem dX2_moves_10 : decode cX2_moves 10 = .ok (.ireturn, 1) := dk_172 (dk_at dksX2_moves_0 10 rfl rfl)
abbrev cX2_leaseEnds : ByteArray := prog_22_method_128_code
def yX2_leaseEnds : MethodName := ⟨RX2, "leaseEnds", "()I"⟩
def dkwX2_leaseEnds_0 : List UInt8 := [42, 42, 180, 0, 23, 5, 46, 182, 1, 199, 172]
abbrev dktX2_leaseEnds_0 : List UInt8 := dkwX2_leaseEnds_0 ++ []
theorem dksX2_leaseEnds_0 : cX2_leaseEnds.data.toList.drop 0 = dktX2_leaseEnds_0 := by decide +kernel
theorem dX2_leaseEnds_0 : decode cX2_leaseEnds 0 = .ok (.aload_n 0, 1) := dk_42 (dk_at dksX2_leaseEnds_0 0 rfl rfl)
theorem dX2_leaseEnds_1 : decode cX2_leaseEnds 1 = .ok (.aload_n 0, 1) := dk_42 (dk_at dksX2_leaseEnds_0 1 rfl rfl)
theorem dX2_leaseEnds_2 : decode cX2_leaseEnds 2 = .ok (.getfield 23, 3) := dk_180 0 23 (dk_at dksX2_leaseEnds_0 2 rfl rfl)
theorem dX2_leaseEnds_5 : decode cX2_leaseEnds 5 = .ok (.iconst 2, 1) := dk_5 (dk_at dksX2_leaseEnds_0 5 rfl rfl)
theorem dX2_leaseEnds_6 : decode cX2_leaseEnds 6 = .ok (.iaload, 1) := dk_46 (dk_at dksX2_leaseEnds_0 6 rfl rfl)
theorem dX2_leaseEnds_7 : decode cX2_leaseEnds 7 = .ok (.invokevirtual 455, 3) := dk_182 1 199 (dk_at dksX2_leaseEnds_0 7 rfl rfl)
theorem dX2_leaseEnds_10 : decode cX2_leaseEnds 10 = .ok (.ireturn, 1) := dk_172 (dk_at dksX2_leaseEnds_0 10 rfl rfl)
abbrev cX2_events : ByteArray := prog_22_method_129_code
def yX2_events : MethodName := ⟨RX2, "events", "()I"⟩
def dkwX2_events_0 : List UInt8 := [42, 42, 180, 0, 23, 6, 46, 182, 1, 199, 172]
abbrev dktX2_events_0 : List UInt8 := dkwX2_events_0 ++ []
theorem dksX2_events_0 : cX2_events.data.toList.drop 0 = dktX2_events_0 := by decide +kernel
theorem dX2_events_0 : decode cX2_events 0 = .ok (.aload_n 0, 1) := dk_42 (dk_at dksX2_events_0 0 rfl rfl)
theorem dX2_events_1 : decode cX2_events 1 = .ok (.aload_n 0, 1) := dk_42 (dk_at dksX2_events_0 1 rfl rfl)
theorem dX2_events_2 : decode cX2_events 2 = .ok (.getfield 23, 3) := dk_180 0 23 (dk_at dksX2_events_0 2 rfl rfl)
theorem dX2_events_5 : decode cX2_events 5 = .ok (.iconst 3, 1) := dk_6 (dk_at dksX2_events_0 5 rfl rfl)
theorem dX2_events_6 : decode cX2_events 6 = .ok (.iaload, 1) := dk_46 (dk_at dksX2_events_0 6 rfl rfl)
theorem dX2_events_7 : decode cX2_events 7 = .ok (.invokevirtual 455, 3) := dk_182 1 199 (dk_at dksX2_events_0 7 rfl rfl)
theorem dX2_events_10 : decode cX2_events 10 = .ok (.ireturn, 1) := dk_172 (dk_at dksX2_events_0 10 rfl rfl)
abbrev cX2_event : ByteArray := prog_22_method_130_code
def yX2_event : MethodName := ⟨RX2, "event", "(II)I"⟩
def dkwX2_event_2 : List UInt8 := [42, 6, 182, 1, 40, 172]
abbrev dktX2_event_2 : List UInt8 := dkwX2_event_2 ++ []
def dkwX2_event_1 : List UInt8 := [6, 184, 0, 114, 153, 0, 20, 42, 180, 0, 23, 17, 0, 198, 7, 27, 104, 96, 28, 96, 46, 167, 0, 8]
abbrev dktX2_event_1 : List UInt8 := dkwX2_event_1 ++ dktX2_event_2
def dkwX2_event_0 : List UInt8 := [42, 27, 3, 42, 180, 0, 23, 6, 46, 4, 100, 184, 0, 114, 182, 1, 205, 154, 0, 5, 3, 172, 28, 3]
abbrev dktX2_event_0 : List UInt8 := dkwX2_event_0 ++ dktX2_event_1
theorem dksX2_event_0 : cX2_event.data.toList.drop 0 = dktX2_event_0 := by decide +kernel
theorem dksX2_event_1 : cX2_event.data.toList.drop 24 = dktX2_event_1 := dk_seg dksX2_event_0 24 rfl rfl
theorem dksX2_event_2 : cX2_event.data.toList.drop 48 = dktX2_event_2 := dk_seg dksX2_event_1 24 rfl rfl
theorem dX2_event_0 : decode cX2_event 0 = .ok (.aload_n 0, 1) := dk_42 (dk_at dksX2_event_0 0 rfl rfl)
theorem dX2_event_1 : decode cX2_event 1 = .ok (.iload_n 1, 1) := dk_27 (dk_at dksX2_event_0 1 rfl rfl)
theorem dX2_event_2 : decode cX2_event 2 = .ok (.iconst 0, 1) := dk_3 (dk_at dksX2_event_0 2 rfl rfl)
theorem dX2_event_3 : decode cX2_event 3 = .ok (.aload_n 0, 1) := dk_42 (dk_at dksX2_event_0 3 rfl rfl)
theorem dX2_event_4 : decode cX2_event 4 = .ok (.getfield 23, 3) := dk_180 0 23 (dk_at dksX2_event_0 4 rfl rfl)
theorem dX2_event_7 : decode cX2_event 7 = .ok (.iconst 3, 1) := dk_6 (dk_at dksX2_event_0 7 rfl rfl)
theorem dX2_event_8 : decode cX2_event 8 = .ok (.iaload, 1) := dk_46 (dk_at dksX2_event_0 8 rfl rfl)
theorem dX2_event_9 : decode cX2_event 9 = .ok (.iconst 1, 1) := dk_4 (dk_at dksX2_event_0 9 rfl rfl)
theorem dX2_event_10 : decode cX2_event 10 = .ok (.isub, 1) := dk_100 (dk_at dksX2_event_0 10 rfl rfl)
theorem dX2_event_11 : decode cX2_event 11 = .ok (.invokestatic 114, 3) := dk_184 0 114 (dk_at dksX2_event_0 11 rfl rfl)
theorem dX2_event_14 : decode cX2_event 14 = .ok (.invokevirtual 461, 3) := dk_182 1 205 (dk_at dksX2_event_0 14 rfl rfl)
theorem dX2_event_17 : decode cX2_event 17 = .ok (.ifCond .ne 5, 3) := dk_154 0 5 (dk_at dksX2_event_0 17 rfl rfl)
theorem dX2_event_20 : decode cX2_event 20 = .ok (.iconst 0, 1) := dk_3 (dk_at dksX2_event_0 20 rfl rfl)
theorem dX2_event_21 : decode cX2_event 21 = .ok (.ireturn, 1) := dk_172 (dk_at dksX2_event_0 21 rfl rfl)
theorem dX2_event_22 : decode cX2_event 22 = .ok (.iload_n 2, 1) := dk_28 (dk_at dksX2_event_0 22 rfl rfl)
theorem dX2_event_23 : decode cX2_event 23 = .ok (.iconst 0, 1) := dk_3 (dk_at dksX2_event_0 23 rfl rfl)
theorem dX2_event_24 : decode cX2_event 24 = .ok (.iconst 3, 1) := dk_6 (dk_at dksX2_event_1 0 rfl rfl)
theorem dX2_event_25 : decode cX2_event 25 = .ok (.invokestatic 114, 3) := dk_184 0 114 (dk_at dksX2_event_1 1 rfl rfl)
theorem dX2_event_28 : decode cX2_event 28 = .ok (.ifCond .eq 20, 3) := dk_153 0 20 (dk_at dksX2_event_1 4 rfl rfl)
theorem dX2_event_31 : decode cX2_event 31 = .ok (.aload_n 0, 1) := dk_42 (dk_at dksX2_event_1 7 rfl rfl)
theorem dX2_event_32 : decode cX2_event 32 = .ok (.getfield 23, 3) := dk_180 0 23 (dk_at dksX2_event_1 8 rfl rfl)
theorem dX2_event_35 : decode cX2_event 35 = .ok (.sipush 198, 3) := dk_17 0 198 (dk_at dksX2_event_1 11 rfl rfl)
theorem dX2_event_38 : decode cX2_event 38 = .ok (.iconst 4, 1) := dk_7 (dk_at dksX2_event_1 14 rfl rfl)
theorem dX2_event_39 : decode cX2_event 39 = .ok (.iload_n 1, 1) := dk_27 (dk_at dksX2_event_1 15 rfl rfl)
theorem dX2_event_40 : decode cX2_event 40 = .ok (.imul, 1) := dk_104 (dk_at dksX2_event_1 16 rfl rfl)
theorem dX2_event_41 : decode cX2_event 41 = .ok (.iadd, 1) := dk_96 (dk_at dksX2_event_1 17 rfl rfl)
theorem dX2_event_42 : decode cX2_event 42 = .ok (.iload_n 2, 1) := dk_28 (dk_at dksX2_event_1 18 rfl rfl)
theorem dX2_event_43 : decode cX2_event 43 = .ok (.iadd, 1) := dk_96 (dk_at dksX2_event_1 19 rfl rfl)
theorem dX2_event_44 : decode cX2_event 44 = .ok (.iaload, 1) := dk_46 (dk_at dksX2_event_1 20 rfl rfl)
theorem dX2_event_45 : decode cX2_event 45 = .ok (.goto 8, 3) := dk_167 0 8 (dk_at dksX2_event_1 21 rfl rfl)
theorem dX2_event_48 : decode cX2_event 48 = .ok (.aload_n 0, 1) := dk_42 (dk_at dksX2_event_2 0 rfl rfl)
theorem dX2_event_49 : decode cX2_event 49 = .ok (.iconst 3, 1) := dk_6 (dk_at dksX2_event_2 1 rfl rfl)
theorem dX2_event_50 : decode cX2_event 50 = .ok (.invokevirtual 296, 3) := dk_182 1 40 (dk_at dksX2_event_2 2 rfl rfl)
theorem dX2_event_53 : decode cX2_event 53 = .ok (.ireturn, 1) := dk_172 (dk_at dksX2_event_2 5 rfl rfl)
abbrev cX2_movesIn : ByteArray := prog_22_method_133_code
def yX2_movesIn : MethodName := ⟨RX2, "movesIn", "(I)I"⟩
def dkwX2_movesIn_0 : List UInt8 := [42, 27, 182, 1, 248, 153, 0, 12, 42, 27, 4, 182, 1, 251, 167, 0, 4, 3, 172]
abbrev dktX2_movesIn_0 : List UInt8 := dkwX2_movesIn_0 ++ []
theorem dksX2_movesIn_0 : cX2_movesIn.data.toList.drop 0 = dktX2_movesIn_0 := by decide +kernel
theorem dX2_movesIn_0 : decode cX2_movesIn 0 = .ok (.aload_n 0, 1) := dk_42 (dk_at dksX2_movesIn_0 0 rfl rfl)
theorem dX2_movesIn_1 : decode cX2_movesIn 1 = .ok (.iload_n 1, 1) := dk_27 (dk_at dksX2_movesIn_0 1 rfl rfl)
theorem dX2_movesIn_2 : decode cX2_movesIn 2 = .ok (.invokevirtual 504, 3) := dk_182 1 248 (dk_at dksX2_movesIn_0 2 rfl rfl)
theorem dX2_movesIn_5 : decode cX2_movesIn 5 = .ok (.ifCond .eq 12, 3) := dk_153 0 12 (dk_at dksX2_movesIn_0 5 rfl rfl)
theorem dX2_movesIn_8 : decode cX2_movesIn 8 = .ok (.aload_n 0, 1) := dk_42 (dk_at dksX2_movesIn_0 8 rfl rfl)
theorem dX2_movesIn_9 : decode cX2_movesIn 9 = .ok (.iload_n 1, 1) := dk_27 (dk_at dksX2_movesIn_0 9 rfl rfl)
theorem dX2_movesIn_10 : decode cX2_movesIn 10 = .ok (.iconst 1, 1) := dk_4 (dk_at dksX2_movesIn_0 10 rfl rfl)
theorem dX2_movesIn_11 : decode cX2_movesIn 11 = .ok (.invokevirtual 507, 3) := dk_182 1 251 (dk_at dksX2_movesIn_0 11 rfl rfl)
theorem dX2_movesIn_14 : decode cX2_movesIn 14 = .ok (.goto 4, 3) := dk_167 0 4 (dk_at dksX2_movesIn_0 14 rfl rfl)
theorem dX2_movesIn_17 : decode cX2_movesIn 17 = .ok (.iconst 0, 1) := dk_3 (dk_at dksX2_movesIn_0 17 rfl rfl)
theorem dX2_movesIn_18 : decode cX2_movesIn 18 = .ok (.ireturn, 1) := dk_172 (dk_at dksX2_movesIn_0 18 rfl rfl)
abbrev cX2_areTicks : ByteArray := prog_22_method_131_code
def yX2_areTicks : MethodName := ⟨RX2, "areTicks", "(I)Z"⟩
def dkwX2_areTicks_1 : List UInt8 := [167, 0, 4, 5, 181, 0, 85, 42, 180, 0, 85, 154, 0, 7, 4, 167, 0, 4, 3, 172]
abbrev dktX2_areTicks_1 : List UInt8 := dkwX2_areTicks_1 ++ []
def dkwX2_areTicks_0 : List UInt8 := [42, 4, 182, 1, 205, 154, 0, 5, 3, 172, 42, 27, 4, 17, 0, 200, 184, 0, 114, 153, 0, 7, 3]
abbrev dktX2_areTicks_0 : List UInt8 := dkwX2_areTicks_0 ++ dktX2_areTicks_1
theorem dksX2_areTicks_0 : cX2_areTicks.data.toList.drop 0 = dktX2_areTicks_0 := by decide +kernel
theorem dksX2_areTicks_1 : cX2_areTicks.data.toList.drop 23 = dktX2_areTicks_1 := dk_seg dksX2_areTicks_0 23 rfl rfl
theorem dX2_areTicks_0 : decode cX2_areTicks 0 = .ok (.aload_n 0, 1) := dk_42 (dk_at dksX2_areTicks_0 0 rfl rfl)
theorem dX2_areTicks_1 : decode cX2_areTicks 1 = .ok (.iconst 1, 1) := dk_4 (dk_at dksX2_areTicks_0 1 rfl rfl)
theorem dX2_areTicks_2 : decode cX2_areTicks 2 = .ok (.invokevirtual 461, 3) := dk_182 1 205 (dk_at dksX2_areTicks_0 2 rfl rfl)
theorem dX2_areTicks_5 : decode cX2_areTicks 5 = .ok (.ifCond .ne 5, 3) := dk_154 0 5 (dk_at dksX2_areTicks_0 5 rfl rfl)
theorem dX2_areTicks_8 : decode cX2_areTicks 8 = .ok (.iconst 0, 1) := dk_3 (dk_at dksX2_areTicks_0 8 rfl rfl)
theorem dX2_areTicks_9 : decode cX2_areTicks 9 = .ok (.ireturn, 1) := dk_172 (dk_at dksX2_areTicks_0 9 rfl rfl)
theorem dX2_areTicks_10 : decode cX2_areTicks 10 = .ok (.aload_n 0, 1) := dk_42 (dk_at dksX2_areTicks_0 10 rfl rfl)
theorem dX2_areTicks_11 : decode cX2_areTicks 11 = .ok (.iload_n 1, 1) := dk_27 (dk_at dksX2_areTicks_0 11 rfl rfl)
theorem dX2_areTicks_12 : decode cX2_areTicks 12 = .ok (.iconst 1, 1) := dk_4 (dk_at dksX2_areTicks_0 12 rfl rfl)
theorem dX2_areTicks_13 : decode cX2_areTicks 13 = .ok (.sipush 200, 3) := dk_17 0 200 (dk_at dksX2_areTicks_0 13 rfl rfl)
theorem dX2_areTicks_16 : decode cX2_areTicks 16 = .ok (.invokestatic 114, 3) := dk_184 0 114 (dk_at dksX2_areTicks_0 16 rfl rfl)
theorem dX2_areTicks_19 : decode cX2_areTicks 19 = .ok (.ifCond .eq 7, 3) := dk_153 0 7 (dk_at dksX2_areTicks_0 19 rfl rfl)
theorem dX2_areTicks_22 : decode cX2_areTicks 22 = .ok (.iconst 0, 1) := dk_3 (dk_at dksX2_areTicks_0 22 rfl rfl)
theorem dX2_areTicks_23 : decode cX2_areTicks 23 = .ok (.goto 4, 3) := dk_167 0 4 (dk_at dksX2_areTicks_1 0 rfl rfl)
theorem dX2_areTicks_26 : decode cX2_areTicks 26 = .ok (.iconst 2, 1) := dk_5 (dk_at dksX2_areTicks_1 3 rfl rfl)
theorem dX2_areTicks_27 : decode cX2_areTicks 27 = .ok (.putfield 85, 3) := dk_181 0 85 (dk_at dksX2_areTicks_1 4 rfl rfl)
theorem dX2_areTicks_30 : decode cX2_areTicks 30 = .ok (.aload_n 0, 1) := dk_42 (dk_at dksX2_areTicks_1 7 rfl rfl)
theorem dX2_areTicks_31 : decode cX2_areTicks 31 = .ok (.getfield 85, 3) := dk_180 0 85 (dk_at dksX2_areTicks_1 8 rfl rfl)
theorem dX2_areTicks_34 : decode cX2_areTicks 34 = .ok (.ifCond .ne 7, 3) := dk_154 0 7 (dk_at dksX2_areTicks_1 11 rfl rfl)
theorem dX2_areTicks_37 : decode cX2_areTicks 37 = .ok (.iconst 1, 1) := dk_4 (dk_at dksX2_areTicks_1 14 rfl rfl)
theorem dX2_areTicks_38 : decode cX2_areTicks 38 = .ok (.goto 4, 3) := dk_167 0 4 (dk_at dksX2_areTicks_1 15 rfl rfl)
theorem dX2_areTicks_41 : decode cX2_areTicks 41 = .ok (.iconst 0, 1) := dk_3 (dk_at dksX2_areTicks_1 18 rfl rfl)
theorem dX2_areTicks_42 : decode cX2_areTicks 42 = .ok (.ireturn, 1) := dk_172 (dk_at dksX2_areTicks_1 19 rfl rfl)
abbrev cX2_grows : ByteArray := prog_22_method_132_code
def yX2_grows : MethodName := ⟨RX2, "grows", "(II)I"⟩
def dkwX2_grows_1 : List UInt8 := [46, 100, 172]
abbrev dktX2_grows_1 : List UInt8 := dkwX2_grows_1 ++ []
def dkwX2_grows_0 : List UInt8 := [42, 182, 1, 239, 42, 42, 180, 0, 29, 27, 182, 1, 245, 42, 180, 0, 29, 28, 46, 42, 180, 0, 23, 28]
abbrev dktX2_grows_0 : List UInt8 := dkwX2_grows_0 ++ dktX2_grows_1
theorem dksX2_grows_0 : cX2_grows.data.toList.drop 0 = dktX2_grows_0 := by decide +kernel
theorem dksX2_grows_1 : cX2_grows.data.toList.drop 24 = dktX2_grows_1 := dk_seg dksX2_grows_0 24 rfl rfl
theorem dX2_grows_0 : decode cX2_grows 0 = .ok (.aload_n 0, 1) := dk_42 (dk_at dksX2_grows_0 0 rfl rfl)
theorem dX2_grows_1 : decode cX2_grows 1 = .ok (.invokevirtual 495, 3) := dk_182 1 239 (dk_at dksX2_grows_0 1 rfl rfl)
theorem dX2_grows_4 : decode cX2_grows 4 = .ok (.aload_n 0, 1) := dk_42 (dk_at dksX2_grows_0 4 rfl rfl)
theorem dX2_grows_5 : decode cX2_grows 5 = .ok (.aload_n 0, 1) := dk_42 (dk_at dksX2_grows_0 5 rfl rfl)
theorem dX2_grows_6 : decode cX2_grows 6 = .ok (.getfield 29, 3) := dk_180 0 29 (dk_at dksX2_grows_0 6 rfl rfl)
theorem dX2_grows_9 : decode cX2_grows 9 = .ok (.iload_n 1, 1) := dk_27 (dk_at dksX2_grows_0 9 rfl rfl)
theorem dX2_grows_10 : decode cX2_grows 10 = .ok (.invokevirtual 501, 3) := dk_182 1 245 (dk_at dksX2_grows_0 10 rfl rfl)
theorem dX2_grows_13 : decode cX2_grows 13 = .ok (.aload_n 0, 1) := dk_42 (dk_at dksX2_grows_0 13 rfl rfl)
theorem dX2_grows_14 : decode cX2_grows 14 = .ok (.getfield 29, 3) := dk_180 0 29 (dk_at dksX2_grows_0 14 rfl rfl)
theorem dX2_grows_17 : decode cX2_grows 17 = .ok (.iload_n 2, 1) := dk_28 (dk_at dksX2_grows_0 17 rfl rfl)
theorem dX2_grows_18 : decode cX2_grows 18 = .ok (.iaload, 1) := dk_46 (dk_at dksX2_grows_0 18 rfl rfl)
theorem dX2_grows_19 : decode cX2_grows 19 = .ok (.aload_n 0, 1) := dk_42 (dk_at dksX2_grows_0 19 rfl rfl)
theorem dX2_grows_20 : decode cX2_grows 20 = .ok (.getfield 23, 3) := dk_180 0 23 (dk_at dksX2_grows_0 20 rfl rfl)
theorem dX2_grows_23 : decode cX2_grows 23 = .ok (.iload_n 2, 1) := dk_28 (dk_at dksX2_grows_0 23 rfl rfl)
theorem dX2_grows_24 : decode cX2_grows 24 = .ok (.iaload, 1) := dk_46 (dk_at dksX2_grows_1 0 rfl rfl)
theorem dX2_grows_25 : decode cX2_grows 25 = .ok (.isub, 1) := dk_100 (dk_at dksX2_grows_1 1 rfl rfl)
theorem dX2_grows_26 : decode cX2_grows 26 = .ok (.ireturn, 1) := dk_172 (dk_at dksX2_grows_1 2 rfl rfl)
abbrev cX2_ticks : ByteArray := prog_22_method_79_code
def yX2_ticks : MethodName := ⟨RX2, "ticks", "([II)V"⟩
def dkwX2_ticks_0 : List UInt8 := [3, 62, 29, 28, 162, 0, 14, 42, 43, 182, 1, 196, 132, 3, 1, 167, 255, 243, 177]
abbrev dktX2_ticks_0 : List UInt8 := dkwX2_ticks_0 ++ []
theorem dksX2_ticks_0 : cX2_ticks.data.toList.drop 0 = dktX2_ticks_0 := by decide +kernel
theorem dX2_ticks_0 : decode cX2_ticks 0 = .ok (.iconst 0, 1) := dk_3 (dk_at dksX2_ticks_0 0 rfl rfl)
theorem dX2_ticks_1 : decode cX2_ticks 1 = .ok (.istore_n 3, 1) := dk_62 (dk_at dksX2_ticks_0 1 rfl rfl)
theorem dX2_ticks_2 : decode cX2_ticks 2 = .ok (.iload_n 3, 1) := dk_29 (dk_at dksX2_ticks_0 2 rfl rfl)
theorem dX2_ticks_3 : decode cX2_ticks 3 = .ok (.iload_n 2, 1) := dk_28 (dk_at dksX2_ticks_0 3 rfl rfl)
theorem dX2_ticks_4 : decode cX2_ticks 4 = .ok (.if_icmp .ge 14, 3) := dk_162 0 14 (dk_at dksX2_ticks_0 4 rfl rfl)
theorem dX2_ticks_7 : decode cX2_ticks 7 = .ok (.aload_n 0, 1) := dk_42 (dk_at dksX2_ticks_0 7 rfl rfl)
theorem dX2_ticks_8 : decode cX2_ticks 8 = .ok (.aload_n 1, 1) := dk_43 (dk_at dksX2_ticks_0 8 rfl rfl)
theorem dX2_ticks_9 : decode cX2_ticks 9 = .ok (.invokevirtual 452, 3) := dk_182 1 196 (dk_at dksX2_ticks_0 9 rfl rfl)
theorem dX2_ticks_12 : decode cX2_ticks 12 = .ok (.iinc 3 1, 3) := dk_132 3 1 (dk_at dksX2_ticks_0 12 rfl rfl)
theorem dX2_ticks_15 : decode cX2_ticks 15 = .ok (.goto (-13), 3) := dk_167 255 243 (dk_at dksX2_ticks_0 15 rfl rfl)
theorem dX2_ticks_18 : decode cX2_ticks 18 = .ok (.return_, 1) := dk_177 (dk_at dksX2_ticks_0 18 rfl rfl)
abbrev cX2_tick : ByteArray := prog_22_method_78_code
def yX2_tick : MethodName := ⟨RX2, "tick", "([I)V"⟩
def dkwX2_tick_3 : List UInt8 := [16, 102, 28, 96, 92, 46, 4, 96, 79, 43, 8, 92, 46, 4, 96, 79, 132, 2, 1, 167, 255, 212, 177]
abbrev dktX2_tick_3 : List UInt8 := dkwX2_tick_3 ++ []
def dkwX2_tick_2 : List UInt8 := [180, 0, 17, 16, 10, 46, 162, 0, 39, 43, 16, 6, 28, 96, 46, 5, 159, 0, 6, 167, 0, 20, 43]
abbrev dktX2_tick_2 : List UInt8 := dkwX2_tick_2 ++ dktX2_tick_3
def dkwX2_tick_1 : List UInt8 := [182, 1, 190, 132, 2, 1, 167, 255, 236, 42, 43, 182, 1, 183, 42, 43, 182, 1, 193, 3, 61, 28, 42]
abbrev dktX2_tick_1 : List UInt8 := dkwX2_tick_1 ++ dktX2_tick_2
def dkwX2_tick_0 : List UInt8 := [43, 3, 92, 46, 4, 96, 79, 3, 61, 28, 42, 180, 0, 17, 16, 10, 46, 162, 0, 15, 42, 43, 28]
abbrev dktX2_tick_0 : List UInt8 := dkwX2_tick_0 ++ dktX2_tick_1
theorem dksX2_tick_0 : cX2_tick.data.toList.drop 0 = dktX2_tick_0 := by decide +kernel
theorem dksX2_tick_1 : cX2_tick.data.toList.drop 23 = dktX2_tick_1 := dk_seg dksX2_tick_0 23 rfl rfl
theorem dksX2_tick_2 : cX2_tick.data.toList.drop 46 = dktX2_tick_2 := dk_seg dksX2_tick_1 23 rfl rfl
theorem dksX2_tick_3 : cX2_tick.data.toList.drop 69 = dktX2_tick_3 := dk_seg dksX2_tick_2 23 rfl rfl
theorem dX2_tick_0 : decode cX2_tick 0 = .ok (.aload_n 1, 1) := dk_43 (dk_at dksX2_tick_0 0 rfl rfl)
theorem dX2_tick_1 : decode cX2_tick 1 = .ok (.iconst 0, 1) := dk_3 (dk_at dksX2_tick_0 1 rfl rfl)
theorem dX2_tick_2 : decode cX2_tick 2 = .ok (.dup2, 1) := dk_92 (dk_at dksX2_tick_0 2 rfl rfl)
theorem dX2_tick_3 : decode cX2_tick 3 = .ok (.iaload, 1) := dk_46 (dk_at dksX2_tick_0 3 rfl rfl)
theorem dX2_tick_4 : decode cX2_tick 4 = .ok (.iconst 1, 1) := dk_4 (dk_at dksX2_tick_0 4 rfl rfl)
theorem dX2_tick_5 : decode cX2_tick 5 = .ok (.iadd, 1) := dk_96 (dk_at dksX2_tick_0 5 rfl rfl)
theorem dX2_tick_6 : decode cX2_tick 6 = .ok (.iastore, 1) := dk_79 (dk_at dksX2_tick_0 6 rfl rfl)
theorem dX2_tick_7 : decode cX2_tick 7 = .ok (.iconst 0, 1) := dk_3 (dk_at dksX2_tick_0 7 rfl rfl)
theorem dX2_tick_8 : decode cX2_tick 8 = .ok (.istore_n 2, 1) := dk_61 (dk_at dksX2_tick_0 8 rfl rfl)
theorem dX2_tick_9 : decode cX2_tick 9 = .ok (.iload_n 2, 1) := dk_28 (dk_at dksX2_tick_0 9 rfl rfl)
theorem dX2_tick_10 : decode cX2_tick 10 = .ok (.aload_n 0, 1) := dk_42 (dk_at dksX2_tick_0 10 rfl rfl)
theorem dX2_tick_11 : decode cX2_tick 11 = .ok (.getfield 17, 3) := dk_180 0 17 (dk_at dksX2_tick_0 11 rfl rfl)
theorem dX2_tick_14 : decode cX2_tick 14 = .ok (.bipush 10, 2) := dk_16 10 (dk_at dksX2_tick_0 14 rfl rfl)
theorem dX2_tick_16 : decode cX2_tick 16 = .ok (.iaload, 1) := dk_46 (dk_at dksX2_tick_0 16 rfl rfl)
theorem dX2_tick_17 : decode cX2_tick 17 = .ok (.if_icmp .ge 15, 3) := dk_162 0 15 (dk_at dksX2_tick_0 17 rfl rfl)
theorem dX2_tick_20 : decode cX2_tick 20 = .ok (.aload_n 0, 1) := dk_42 (dk_at dksX2_tick_0 20 rfl rfl)
theorem dX2_tick_21 : decode cX2_tick 21 = .ok (.aload_n 1, 1) := dk_43 (dk_at dksX2_tick_0 21 rfl rfl)
theorem dX2_tick_22 : decode cX2_tick 22 = .ok (.iload_n 2, 1) := dk_28 (dk_at dksX2_tick_0 22 rfl rfl)
theorem dX2_tick_23 : decode cX2_tick 23 = .ok (.invokevirtual 446, 3) := dk_182 1 190 (dk_at dksX2_tick_1 0 rfl rfl)
theorem dX2_tick_26 : decode cX2_tick 26 = .ok (.iinc 2 1, 3) := dk_132 2 1 (dk_at dksX2_tick_1 3 rfl rfl)
theorem dX2_tick_29 : decode cX2_tick 29 = .ok (.goto (-20), 3) := dk_167 255 236 (dk_at dksX2_tick_1 6 rfl rfl)
theorem dX2_tick_32 : decode cX2_tick 32 = .ok (.aload_n 0, 1) := dk_42 (dk_at dksX2_tick_1 9 rfl rfl)
theorem dX2_tick_33 : decode cX2_tick 33 = .ok (.aload_n 1, 1) := dk_43 (dk_at dksX2_tick_1 10 rfl rfl)
theorem dX2_tick_34 : decode cX2_tick 34 = .ok (.invokevirtual 439, 3) := dk_182 1 183 (dk_at dksX2_tick_1 11 rfl rfl)
theorem dX2_tick_37 : decode cX2_tick 37 = .ok (.aload_n 0, 1) := dk_42 (dk_at dksX2_tick_1 14 rfl rfl)
theorem dX2_tick_38 : decode cX2_tick 38 = .ok (.aload_n 1, 1) := dk_43 (dk_at dksX2_tick_1 15 rfl rfl)
theorem dX2_tick_39 : decode cX2_tick 39 = .ok (.invokevirtual 449, 3) := dk_182 1 193 (dk_at dksX2_tick_1 16 rfl rfl)
theorem dX2_tick_42 : decode cX2_tick 42 = .ok (.iconst 0, 1) := dk_3 (dk_at dksX2_tick_1 19 rfl rfl)
theorem dX2_tick_43 : decode cX2_tick 43 = .ok (.istore_n 2, 1) := dk_61 (dk_at dksX2_tick_1 20 rfl rfl)
theorem dX2_tick_44 : decode cX2_tick 44 = .ok (.iload_n 2, 1) := dk_28 (dk_at dksX2_tick_1 21 rfl rfl)
theorem dX2_tick_45 : decode cX2_tick 45 = .ok (.aload_n 0, 1) := dk_42 (dk_at dksX2_tick_1 22 rfl rfl)
theorem dX2_tick_46 : decode cX2_tick 46 = .ok (.getfield 17, 3) := dk_180 0 17 (dk_at dksX2_tick_2 0 rfl rfl)
theorem dX2_tick_49 : decode cX2_tick 49 = .ok (.bipush 10, 2) := dk_16 10 (dk_at dksX2_tick_2 3 rfl rfl)
theorem dX2_tick_51 : decode cX2_tick 51 = .ok (.iaload, 1) := dk_46 (dk_at dksX2_tick_2 5 rfl rfl)
theorem dX2_tick_52 : decode cX2_tick 52 = .ok (.if_icmp .ge 39, 3) := dk_162 0 39 (dk_at dksX2_tick_2 6 rfl rfl)
theorem dX2_tick_55 : decode cX2_tick 55 = .ok (.aload_n 1, 1) := dk_43 (dk_at dksX2_tick_2 9 rfl rfl)
theorem dX2_tick_56 : decode cX2_tick 56 = .ok (.bipush 6, 2) := dk_16 6 (dk_at dksX2_tick_2 10 rfl rfl)
theorem dX2_tick_58 : decode cX2_tick 58 = .ok (.iload_n 2, 1) := dk_28 (dk_at dksX2_tick_2 12 rfl rfl)
theorem dX2_tick_59 : decode cX2_tick 59 = .ok (.iadd, 1) := dk_96 (dk_at dksX2_tick_2 13 rfl rfl)
theorem dX2_tick_60 : decode cX2_tick 60 = .ok (.iaload, 1) := dk_46 (dk_at dksX2_tick_2 14 rfl rfl)
theorem dX2_tick_61 : decode cX2_tick 61 = .ok (.iconst 2, 1) := dk_5 (dk_at dksX2_tick_2 15 rfl rfl)
theorem dX2_tick_62 : decode cX2_tick 62 = .ok (.if_icmp .eq 6, 3) := dk_159 0 6 (dk_at dksX2_tick_2 16 rfl rfl)
theorem dX2_tick_65 : decode cX2_tick 65 = .ok (.goto 20, 3) := dk_167 0 20 (dk_at dksX2_tick_2 19 rfl rfl)
theorem dX2_tick_68 : decode cX2_tick 68 = .ok (.aload_n 1, 1) := dk_43 (dk_at dksX2_tick_2 22 rfl rfl)
theorem dX2_tick_69 : decode cX2_tick 69 = .ok (.bipush 102, 2) := dk_16 102 (dk_at dksX2_tick_3 0 rfl rfl)
theorem dX2_tick_71 : decode cX2_tick 71 = .ok (.iload_n 2, 1) := dk_28 (dk_at dksX2_tick_3 2 rfl rfl)
theorem dX2_tick_72 : decode cX2_tick 72 = .ok (.iadd, 1) := dk_96 (dk_at dksX2_tick_3 3 rfl rfl)
theorem dX2_tick_73 : decode cX2_tick 73 = .ok (.dup2, 1) := dk_92 (dk_at dksX2_tick_3 4 rfl rfl)
theorem dX2_tick_74 : decode cX2_tick 74 = .ok (.iaload, 1) := dk_46 (dk_at dksX2_tick_3 5 rfl rfl)
theorem dX2_tick_75 : decode cX2_tick 75 = .ok (.iconst 1, 1) := dk_4 (dk_at dksX2_tick_3 6 rfl rfl)
theorem dX2_tick_76 : decode cX2_tick 76 = .ok (.iadd, 1) := dk_96 (dk_at dksX2_tick_3 7 rfl rfl)
theorem dX2_tick_77 : decode cX2_tick 77 = .ok (.iastore, 1) := dk_79 (dk_at dksX2_tick_3 8 rfl rfl)
theorem dX2_tick_78 : decode cX2_tick 78 = .ok (.aload_n 1, 1) := dk_43 (dk_at dksX2_tick_3 9 rfl rfl)
theorem dX2_tick_79 : decode cX2_tick 79 = .ok (.iconst 5, 1) := dk_8 (dk_at dksX2_tick_3 10 rfl rfl)
theorem dX2_tick_80 : decode cX2_tick 80 = .ok (.dup2, 1) := dk_92 (dk_at dksX2_tick_3 11 rfl rfl)
theorem dX2_tick_81 : decode cX2_tick 81 = .ok (.iaload, 1) := dk_46 (dk_at dksX2_tick_3 12 rfl rfl)
theorem dX2_tick_82 : decode cX2_tick 82 = .ok (.iconst 1, 1) := dk_4 (dk_at dksX2_tick_3 13 rfl rfl)
theorem dX2_tick_83 : decode cX2_tick 83 = .ok (.iadd, 1) := dk_96 (dk_at dksX2_tick_3 14 rfl rfl)
theorem dX2_tick_84 : decode cX2_tick 84 = .ok (.iastore, 1) := dk_79 (dk_at dksX2_tick_3 15 rfl rfl)
theorem dX2_tick_85 : decode cX2_tick 85 = .ok (.iinc 2 1, 3) := dk_132 2 1 (dk_at dksX2_tick_3 16 rfl rfl)
theorem dX2_tick_88 : decode cX2_tick 88 = .ok (.goto (-44), 3) := dk_167 255 212 (dk_at dksX2_tick_3 19 rfl rfl)
theorem dX2_tick_91 : decode cX2_tick 91 = .ok (.return_, 1) := dk_177 (dk_at dksX2_tick_3 22 rfl rfl)
abbrev cX2_endsLease : ByteArray := prog_22_method_69_code
def yX2_endsLease : MethodName := ⟨RX2, "endsLease", "([II)V"⟩
def dkwX2_endsLease_2 : List UInt8 := [46, 4, 96, 79, 43, 28, 4, 184, 1, 150, 177]
abbrev dktX2_endsLease_2 : List UInt8 := dkwX2_endsLease_2 ++ []
def dkwX2_endsLease_1 : List UInt8 := [43, 3, 46, 42, 180, 0, 17, 16, 6, 46, 100, 164, 0, 4, 177, 43, 4, 28, 184, 1, 146, 43, 5, 92]
abbrev dktX2_endsLease_1 : List UInt8 := dkwX2_endsLease_1 ++ dktX2_endsLease_2
def dkwX2_endsLease_0 : List UInt8 := [42, 28, 182, 1, 4, 154, 0, 33, 43, 16, 6, 28, 96, 46, 5, 160, 0, 23, 43, 16, 22, 28, 96, 46]
abbrev dktX2_endsLease_0 : List UInt8 := dkwX2_endsLease_0 ++ dktX2_endsLease_1
theorem dksX2_endsLease_0 : cX2_endsLease.data.toList.drop 0 = dktX2_endsLease_0 := by decide +kernel
theorem dksX2_endsLease_1 : cX2_endsLease.data.toList.drop 24 = dktX2_endsLease_1 := dk_seg dksX2_endsLease_0 24 rfl rfl
theorem dksX2_endsLease_2 : cX2_endsLease.data.toList.drop 48 = dktX2_endsLease_2 := dk_seg dksX2_endsLease_1 24 rfl rfl
theorem dX2_endsLease_0 : decode cX2_endsLease 0 = .ok (.aload_n 0, 1) := dk_42 (dk_at dksX2_endsLease_0 0 rfl rfl)
theorem dX2_endsLease_1 : decode cX2_endsLease 1 = .ok (.iload_n 2, 1) := dk_28 (dk_at dksX2_endsLease_0 1 rfl rfl)
theorem dX2_endsLease_2 : decode cX2_endsLease 2 = .ok (.invokevirtual 260, 3) := dk_182 1 4 (dk_at dksX2_endsLease_0 2 rfl rfl)
theorem dX2_endsLease_5 : decode cX2_endsLease 5 = .ok (.ifCond .ne 33, 3) := dk_154 0 33 (dk_at dksX2_endsLease_0 5 rfl rfl)
theorem dX2_endsLease_8 : decode cX2_endsLease 8 = .ok (.aload_n 1, 1) := dk_43 (dk_at dksX2_endsLease_0 8 rfl rfl)
theorem dX2_endsLease_9 : decode cX2_endsLease 9 = .ok (.bipush 6, 2) := dk_16 6 (dk_at dksX2_endsLease_0 9 rfl rfl)
theorem dX2_endsLease_11 : decode cX2_endsLease 11 = .ok (.iload_n 2, 1) := dk_28 (dk_at dksX2_endsLease_0 11 rfl rfl)
theorem dX2_endsLease_12 : decode cX2_endsLease 12 = .ok (.iadd, 1) := dk_96 (dk_at dksX2_endsLease_0 12 rfl rfl)
theorem dX2_endsLease_13 : decode cX2_endsLease 13 = .ok (.iaload, 1) := dk_46 (dk_at dksX2_endsLease_0 13 rfl rfl)
theorem dX2_endsLease_14 : decode cX2_endsLease 14 = .ok (.iconst 2, 1) := dk_5 (dk_at dksX2_endsLease_0 14 rfl rfl)
theorem dX2_endsLease_15 : decode cX2_endsLease 15 = .ok (.if_icmp .ne 23, 3) := dk_160 0 23 (dk_at dksX2_endsLease_0 15 rfl rfl)
theorem dX2_endsLease_18 : decode cX2_endsLease 18 = .ok (.aload_n 1, 1) := dk_43 (dk_at dksX2_endsLease_0 18 rfl rfl)
theorem dX2_endsLease_19 : decode cX2_endsLease 19 = .ok (.bipush 22, 2) := dk_16 22 (dk_at dksX2_endsLease_0 19 rfl rfl)
theorem dX2_endsLease_21 : decode cX2_endsLease 21 = .ok (.iload_n 2, 1) := dk_28 (dk_at dksX2_endsLease_0 21 rfl rfl)
theorem dX2_endsLease_22 : decode cX2_endsLease 22 = .ok (.iadd, 1) := dk_96 (dk_at dksX2_endsLease_0 22 rfl rfl)
theorem dX2_endsLease_23 : decode cX2_endsLease 23 = .ok (.iaload, 1) := dk_46 (dk_at dksX2_endsLease_0 23 rfl rfl)
theorem dX2_endsLease_24 : decode cX2_endsLease 24 = .ok (.aload_n 1, 1) := dk_43 (dk_at dksX2_endsLease_1 0 rfl rfl)
theorem dX2_endsLease_25 : decode cX2_endsLease 25 = .ok (.iconst 0, 1) := dk_3 (dk_at dksX2_endsLease_1 1 rfl rfl)
theorem dX2_endsLease_26 : decode cX2_endsLease 26 = .ok (.iaload, 1) := dk_46 (dk_at dksX2_endsLease_1 2 rfl rfl)
theorem dX2_endsLease_27 : decode cX2_endsLease 27 = .ok (.aload_n 0, 1) := dk_42 (dk_at dksX2_endsLease_1 3 rfl rfl)
theorem dX2_endsLease_28 : decode cX2_endsLease 28 = .ok (.getfield 17, 3) := dk_180 0 17 (dk_at dksX2_endsLease_1 4 rfl rfl)
theorem dX2_endsLease_31 : decode cX2_endsLease 31 = .ok (.bipush 6, 2) := dk_16 6 (dk_at dksX2_endsLease_1 7 rfl rfl)
theorem dX2_endsLease_33 : decode cX2_endsLease 33 = .ok (.iaload, 1) := dk_46 (dk_at dksX2_endsLease_1 9 rfl rfl)
theorem dX2_endsLease_34 : decode cX2_endsLease 34 = .ok (.isub, 1) := dk_100 (dk_at dksX2_endsLease_1 10 rfl rfl)
theorem dX2_endsLease_35 : decode cX2_endsLease 35 = .ok (.if_icmp .le 4, 3) := dk_164 0 4 (dk_at dksX2_endsLease_1 11 rfl rfl)
theorem dX2_endsLease_38 : decode cX2_endsLease 38 = .ok (.return_, 1) := dk_177 (dk_at dksX2_endsLease_1 14 rfl rfl)
theorem dX2_endsLease_39 : decode cX2_endsLease 39 = .ok (.aload_n 1, 1) := dk_43 (dk_at dksX2_endsLease_1 15 rfl rfl)
theorem dX2_endsLease_40 : decode cX2_endsLease 40 = .ok (.iconst 1, 1) := dk_4 (dk_at dksX2_endsLease_1 16 rfl rfl)
theorem dX2_endsLease_41 : decode cX2_endsLease 41 = .ok (.iload_n 2, 1) := dk_28 (dk_at dksX2_endsLease_1 17 rfl rfl)
theorem dX2_endsLease_42 : decode cX2_endsLease 42 = .ok (.invokestatic 402, 3) := dk_184 1 146 (dk_at dksX2_endsLease_1 18 rfl rfl)
theorem dX2_endsLease_45 : decode cX2_endsLease 45 = .ok (.aload_n 1, 1) := dk_43 (dk_at dksX2_endsLease_1 21 rfl rfl)
theorem dX2_endsLease_46 : decode cX2_endsLease 46 = .ok (.iconst 2, 1) := dk_5 (dk_at dksX2_endsLease_1 22 rfl rfl)
theorem dX2_endsLease_47 : decode cX2_endsLease 47 = .ok (.dup2, 1) := dk_92 (dk_at dksX2_endsLease_1 23 rfl rfl)
theorem dX2_endsLease_48 : decode cX2_endsLease 48 = .ok (.iaload, 1) := dk_46 (dk_at dksX2_endsLease_2 0 rfl rfl)
theorem dX2_endsLease_49 : decode cX2_endsLease 49 = .ok (.iconst 1, 1) := dk_4 (dk_at dksX2_endsLease_2 1 rfl rfl)
theorem dX2_endsLease_50 : decode cX2_endsLease 50 = .ok (.iadd, 1) := dk_96 (dk_at dksX2_endsLease_2 2 rfl rfl)
theorem dX2_endsLease_51 : decode cX2_endsLease 51 = .ok (.iastore, 1) := dk_79 (dk_at dksX2_endsLease_2 3 rfl rfl)
theorem dX2_endsLease_52 : decode cX2_endsLease 52 = .ok (.aload_n 1, 1) := dk_43 (dk_at dksX2_endsLease_2 4 rfl rfl)
theorem dX2_endsLease_53 : decode cX2_endsLease 53 = .ok (.iload_n 2, 1) := dk_28 (dk_at dksX2_endsLease_2 5 rfl rfl)
theorem dX2_endsLease_54 : decode cX2_endsLease 54 = .ok (.iconst 1, 1) := dk_4 (dk_at dksX2_endsLease_2 6 rfl rfl)
theorem dX2_endsLease_55 : decode cX2_endsLease 55 = .ok (.invokestatic 406, 3) := dk_184 1 150 (dk_at dksX2_endsLease_2 7 rfl rfl)
theorem dX2_endsLease_58 : decode cX2_endsLease 58 = .ok (.return_, 1) := dk_177 (dk_at dksX2_endsLease_2 10 rfl rfl)
abbrev cX2_keeps : ByteArray := prog_22_method_67_code
def yX2_keeps : MethodName := ⟨RX2, "keeps", "([III)V"⟩
def dkwX2_keeps_2 : List UInt8 := [79, 42, 6, 92, 46, 4, 96, 79, 177]
abbrev dktX2_keeps_2 : List UInt8 := dkwX2_keeps_2 ++ []
def dkwX2_keeps_1 : List UInt8 := [46, 79, 42, 29, 4, 96, 27, 79, 42, 29, 5, 96, 28, 79, 42, 29, 6, 96, 42, 16, 38, 28, 96, 46]
abbrev dktX2_keeps_1 : List UInt8 := dkwX2_keeps_1 ++ dktX2_keeps_2
def dkwX2_keeps_0 : List UInt8 := [42, 6, 46, 17, 1, 44, 160, 0, 4, 177, 17, 0, 198, 7, 42, 6, 46, 104, 96, 62, 42, 29, 42, 3]
abbrev dktX2_keeps_0 : List UInt8 := dkwX2_keeps_0 ++ dktX2_keeps_1
theorem dksX2_keeps_0 : cX2_keeps.data.toList.drop 0 = dktX2_keeps_0 := by decide +kernel
theorem dksX2_keeps_1 : cX2_keeps.data.toList.drop 24 = dktX2_keeps_1 := dk_seg dksX2_keeps_0 24 rfl rfl
theorem dksX2_keeps_2 : cX2_keeps.data.toList.drop 48 = dktX2_keeps_2 := dk_seg dksX2_keeps_1 24 rfl rfl
theorem dX2_keeps_0 : decode cX2_keeps 0 = .ok (.aload_n 0, 1) := dk_42 (dk_at dksX2_keeps_0 0 rfl rfl)
theorem dX2_keeps_1 : decode cX2_keeps 1 = .ok (.iconst 3, 1) := dk_6 (dk_at dksX2_keeps_0 1 rfl rfl)
theorem dX2_keeps_2 : decode cX2_keeps 2 = .ok (.iaload, 1) := dk_46 (dk_at dksX2_keeps_0 2 rfl rfl)
theorem dX2_keeps_3 : decode cX2_keeps 3 = .ok (.sipush 300, 3) := dk_17 1 44 (dk_at dksX2_keeps_0 3 rfl rfl)
theorem dX2_keeps_6 : decode cX2_keeps 6 = .ok (.if_icmp .ne 4, 3) := dk_160 0 4 (dk_at dksX2_keeps_0 6 rfl rfl)
theorem dX2_keeps_9 : decode cX2_keeps 9 = .ok (.return_, 1) := dk_177 (dk_at dksX2_keeps_0 9 rfl rfl)
theorem dX2_keeps_10 : decode cX2_keeps 10 = .ok (.sipush 198, 3) := dk_17 0 198 (dk_at dksX2_keeps_0 10 rfl rfl)
theorem dX2_keeps_13 : decode cX2_keeps 13 = .ok (.iconst 4, 1) := dk_7 (dk_at dksX2_keeps_0 13 rfl rfl)
theorem dX2_keeps_14 : decode cX2_keeps 14 = .ok (.aload_n 0, 1) := dk_42 (dk_at dksX2_keeps_0 14 rfl rfl)
theorem dX2_keeps_15 : decode cX2_keeps 15 = .ok (.iconst 3, 1) := dk_6 (dk_at dksX2_keeps_0 15 rfl rfl)
theorem dX2_keeps_16 : decode cX2_keeps 16 = .ok (.iaload, 1) := dk_46 (dk_at dksX2_keeps_0 16 rfl rfl)
theorem dX2_keeps_17 : decode cX2_keeps 17 = .ok (.imul, 1) := dk_104 (dk_at dksX2_keeps_0 17 rfl rfl)
theorem dX2_keeps_18 : decode cX2_keeps 18 = .ok (.iadd, 1) := dk_96 (dk_at dksX2_keeps_0 18 rfl rfl)
theorem dX2_keeps_19 : decode cX2_keeps 19 = .ok (.istore_n 3, 1) := dk_62 (dk_at dksX2_keeps_0 19 rfl rfl)
theorem dX2_keeps_20 : decode cX2_keeps 20 = .ok (.aload_n 0, 1) := dk_42 (dk_at dksX2_keeps_0 20 rfl rfl)
theorem dX2_keeps_21 : decode cX2_keeps 21 = .ok (.iload_n 3, 1) := dk_29 (dk_at dksX2_keeps_0 21 rfl rfl)
theorem dX2_keeps_22 : decode cX2_keeps 22 = .ok (.aload_n 0, 1) := dk_42 (dk_at dksX2_keeps_0 22 rfl rfl)
theorem dX2_keeps_23 : decode cX2_keeps 23 = .ok (.iconst 0, 1) := dk_3 (dk_at dksX2_keeps_0 23 rfl rfl)
theorem dX2_keeps_24 : decode cX2_keeps 24 = .ok (.iaload, 1) := dk_46 (dk_at dksX2_keeps_1 0 rfl rfl)
theorem dX2_keeps_25 : decode cX2_keeps 25 = .ok (.iastore, 1) := dk_79 (dk_at dksX2_keeps_1 1 rfl rfl)
theorem dX2_keeps_26 : decode cX2_keeps 26 = .ok (.aload_n 0, 1) := dk_42 (dk_at dksX2_keeps_1 2 rfl rfl)
theorem dX2_keeps_27 : decode cX2_keeps 27 = .ok (.iload_n 3, 1) := dk_29 (dk_at dksX2_keeps_1 3 rfl rfl)
theorem dX2_keeps_28 : decode cX2_keeps 28 = .ok (.iconst 1, 1) := dk_4 (dk_at dksX2_keeps_1 4 rfl rfl)
theorem dX2_keeps_29 : decode cX2_keeps 29 = .ok (.iadd, 1) := dk_96 (dk_at dksX2_keeps_1 5 rfl rfl)
theorem dX2_keeps_30 : decode cX2_keeps 30 = .ok (.iload_n 1, 1) := dk_27 (dk_at dksX2_keeps_1 6 rfl rfl)
theorem dX2_keeps_31 : decode cX2_keeps 31 = .ok (.iastore, 1) := dk_79 (dk_at dksX2_keeps_1 7 rfl rfl)
theorem dX2_keeps_32 : decode cX2_keeps 32 = .ok (.aload_n 0, 1) := dk_42 (dk_at dksX2_keeps_1 8 rfl rfl)
theorem dX2_keeps_33 : decode cX2_keeps 33 = .ok (.iload_n 3, 1) := dk_29 (dk_at dksX2_keeps_1 9 rfl rfl)
theorem dX2_keeps_34 : decode cX2_keeps 34 = .ok (.iconst 2, 1) := dk_5 (dk_at dksX2_keeps_1 10 rfl rfl)
theorem dX2_keeps_35 : decode cX2_keeps 35 = .ok (.iadd, 1) := dk_96 (dk_at dksX2_keeps_1 11 rfl rfl)
theorem dX2_keeps_36 : decode cX2_keeps 36 = .ok (.iload_n 2, 1) := dk_28 (dk_at dksX2_keeps_1 12 rfl rfl)
theorem dX2_keeps_37 : decode cX2_keeps 37 = .ok (.iastore, 1) := dk_79 (dk_at dksX2_keeps_1 13 rfl rfl)
theorem dX2_keeps_38 : decode cX2_keeps 38 = .ok (.aload_n 0, 1) := dk_42 (dk_at dksX2_keeps_1 14 rfl rfl)
theorem dX2_keeps_39 : decode cX2_keeps 39 = .ok (.iload_n 3, 1) := dk_29 (dk_at dksX2_keeps_1 15 rfl rfl)
theorem dX2_keeps_40 : decode cX2_keeps 40 = .ok (.iconst 3, 1) := dk_6 (dk_at dksX2_keeps_1 16 rfl rfl)
theorem dX2_keeps_41 : decode cX2_keeps 41 = .ok (.iadd, 1) := dk_96 (dk_at dksX2_keeps_1 17 rfl rfl)
theorem dX2_keeps_42 : decode cX2_keeps 42 = .ok (.aload_n 0, 1) := dk_42 (dk_at dksX2_keeps_1 18 rfl rfl)
theorem dX2_keeps_43 : decode cX2_keeps 43 = .ok (.bipush 38, 2) := dk_16 38 (dk_at dksX2_keeps_1 19 rfl rfl)
theorem dX2_keeps_45 : decode cX2_keeps 45 = .ok (.iload_n 2, 1) := dk_28 (dk_at dksX2_keeps_1 21 rfl rfl)
theorem dX2_keeps_46 : decode cX2_keeps 46 = .ok (.iadd, 1) := dk_96 (dk_at dksX2_keeps_1 22 rfl rfl)
theorem dX2_keeps_47 : decode cX2_keeps 47 = .ok (.iaload, 1) := dk_46 (dk_at dksX2_keeps_1 23 rfl rfl)
theorem dX2_keeps_48 : decode cX2_keeps 48 = .ok (.iastore, 1) := dk_79 (dk_at dksX2_keeps_2 0 rfl rfl)
theorem dX2_keeps_49 : decode cX2_keeps 49 = .ok (.aload_n 0, 1) := dk_42 (dk_at dksX2_keeps_2 1 rfl rfl)
theorem dX2_keeps_50 : decode cX2_keeps 50 = .ok (.iconst 3, 1) := dk_6 (dk_at dksX2_keeps_2 2 rfl rfl)
theorem dX2_keeps_51 : decode cX2_keeps 51 = .ok (.dup2, 1) := dk_92 (dk_at dksX2_keeps_2 3 rfl rfl)
theorem dX2_keeps_52 : decode cX2_keeps 52 = .ok (.iaload, 1) := dk_46 (dk_at dksX2_keeps_2 4 rfl rfl)
theorem dX2_keeps_53 : decode cX2_keeps 53 = .ok (.iconst 1, 1) := dk_4 (dk_at dksX2_keeps_2 5 rfl rfl)
theorem dX2_keeps_54 : decode cX2_keeps 54 = .ok (.iadd, 1) := dk_96 (dk_at dksX2_keeps_2 6 rfl rfl)
theorem dX2_keeps_55 : decode cX2_keeps 55 = .ok (.iastore, 1) := dk_79 (dk_at dksX2_keeps_2 7 rfl rfl)
theorem dX2_keeps_56 : decode cX2_keeps 56 = .ok (.return_, 1) := dk_177 (dk_at dksX2_keeps_2 8 rfl rfl)
abbrev cX2_movesAll : ByteArray := prog_22_method_74_code
def yX2_movesAll : MethodName := ⟨RX2, "movesAll", "([I)V"⟩
def dkwX2_movesAll_5 : List UInt8 := [132, 2, 1, 167, 255, 218, 177]
abbrev dktX2_movesAll_5 : List UInt8 := dkwX2_movesAll_5 ++ []
def dkwX2_movesAll_4 : List UInt8 := [182, 1, 4, 153, 0, 19, 43, 16, 6, 28, 96, 46, 5, 160, 0, 9, 42, 43, 28, 182, 1, 166]
abbrev dktX2_movesAll_4 : List UInt8 := dkwX2_movesAll_4 ++ dktX2_movesAll_5
def dkwX2_movesAll_3 : List UInt8 := [182, 1, 163, 132, 2, 1, 167, 255, 231, 3, 61, 28, 42, 180, 0, 17, 16, 10, 46, 162, 0, 33, 42, 28]
abbrev dktX2_movesAll_3 : List UInt8 := dkwX2_movesAll_3 ++ dktX2_movesAll_4
def dkwX2_movesAll_2 : List UInt8 := [167, 255, 212, 3, 61, 28, 43, 7, 46, 162, 0, 24, 42, 43, 28, 182, 1, 114, 153, 0, 9, 42, 43, 28]
abbrev dktX2_movesAll_2 : List UInt8 := dkwX2_movesAll_2 ++ dktX2_movesAll_3
def dkwX2_movesAll_1 : List UInt8 := [43, 28, 43, 16, 38, 28, 96, 46, 182, 1, 159, 153, 0, 8, 43, 28, 184, 1, 156, 132, 2, 1]
abbrev dktX2_movesAll_1 : List UInt8 := dkwX2_movesAll_1 ++ dktX2_movesAll_2
def dkwX2_movesAll_0 : List UInt8 := [3, 61, 28, 42, 180, 0, 17, 16, 10, 46, 162, 0, 39, 43, 16, 6, 28, 96, 46, 5, 160, 0, 23, 42]
abbrev dktX2_movesAll_0 : List UInt8 := dkwX2_movesAll_0 ++ dktX2_movesAll_1
theorem dksX2_movesAll_0 : cX2_movesAll.data.toList.drop 0 = dktX2_movesAll_0 := by decide +kernel
theorem dksX2_movesAll_1 : cX2_movesAll.data.toList.drop 24 = dktX2_movesAll_1 := dk_seg dksX2_movesAll_0 24 rfl rfl
theorem dksX2_movesAll_2 : cX2_movesAll.data.toList.drop 46 = dktX2_movesAll_2 := dk_seg dksX2_movesAll_1 22 rfl rfl
theorem dksX2_movesAll_3 : cX2_movesAll.data.toList.drop 70 = dktX2_movesAll_3 := dk_seg dksX2_movesAll_2 24 rfl rfl
theorem dksX2_movesAll_4 : cX2_movesAll.data.toList.drop 94 = dktX2_movesAll_4 := dk_seg dksX2_movesAll_3 24 rfl rfl
theorem dksX2_movesAll_5 : cX2_movesAll.data.toList.drop 116 = dktX2_movesAll_5 := dk_seg dksX2_movesAll_4 22 rfl rfl
theorem dX2_movesAll_0 : decode cX2_movesAll 0 = .ok (.iconst 0, 1) := dk_3 (dk_at dksX2_movesAll_0 0 rfl rfl)
theorem dX2_movesAll_1 : decode cX2_movesAll 1 = .ok (.istore_n 2, 1) := dk_61 (dk_at dksX2_movesAll_0 1 rfl rfl)
theorem dX2_movesAll_2 : decode cX2_movesAll 2 = .ok (.iload_n 2, 1) := dk_28 (dk_at dksX2_movesAll_0 2 rfl rfl)
theorem dX2_movesAll_3 : decode cX2_movesAll 3 = .ok (.aload_n 0, 1) := dk_42 (dk_at dksX2_movesAll_0 3 rfl rfl)
theorem dX2_movesAll_4 : decode cX2_movesAll 4 = .ok (.getfield 17, 3) := dk_180 0 17 (dk_at dksX2_movesAll_0 4 rfl rfl)
theorem dX2_movesAll_7 : decode cX2_movesAll 7 = .ok (.bipush 10, 2) := dk_16 10 (dk_at dksX2_movesAll_0 7 rfl rfl)
theorem dX2_movesAll_9 : decode cX2_movesAll 9 = .ok (.iaload, 1) := dk_46 (dk_at dksX2_movesAll_0 9 rfl rfl)
theorem dX2_movesAll_10 : decode cX2_movesAll 10 = .ok (.if_icmp .ge 39, 3) := dk_162 0 39 (dk_at dksX2_movesAll_0 10 rfl rfl)
theorem dX2_movesAll_13 : decode cX2_movesAll 13 = .ok (.aload_n 1, 1) := dk_43 (dk_at dksX2_movesAll_0 13 rfl rfl)
theorem dX2_movesAll_14 : decode cX2_movesAll 14 = .ok (.bipush 6, 2) := dk_16 6 (dk_at dksX2_movesAll_0 14 rfl rfl)
theorem dX2_movesAll_16 : decode cX2_movesAll 16 = .ok (.iload_n 2, 1) := dk_28 (dk_at dksX2_movesAll_0 16 rfl rfl)
theorem dX2_movesAll_17 : decode cX2_movesAll 17 = .ok (.iadd, 1) := dk_96 (dk_at dksX2_movesAll_0 17 rfl rfl)
theorem dX2_movesAll_18 : decode cX2_movesAll 18 = .ok (.iaload, 1) := dk_46 (dk_at dksX2_movesAll_0 18 rfl rfl)
theorem dX2_movesAll_19 : decode cX2_movesAll 19 = .ok (.iconst 2, 1) := dk_5 (dk_at dksX2_movesAll_0 19 rfl rfl)
theorem dX2_movesAll_20 : decode cX2_movesAll 20 = .ok (.if_icmp .ne 23, 3) := dk_160 0 23 (dk_at dksX2_movesAll_0 20 rfl rfl)
theorem dX2_movesAll_23 : decode cX2_movesAll 23 = .ok (.aload_n 0, 1) := dk_42 (dk_at dksX2_movesAll_0 23 rfl rfl)
theorem dX2_movesAll_24 : decode cX2_movesAll 24 = .ok (.aload_n 1, 1) := dk_43 (dk_at dksX2_movesAll_1 0 rfl rfl)
theorem dX2_movesAll_25 : decode cX2_movesAll 25 = .ok (.iload_n 2, 1) := dk_28 (dk_at dksX2_movesAll_1 1 rfl rfl)
theorem dX2_movesAll_26 : decode cX2_movesAll 26 = .ok (.aload_n 1, 1) := dk_43 (dk_at dksX2_movesAll_1 2 rfl rfl)
theorem dX2_movesAll_27 : decode cX2_movesAll 27 = .ok (.bipush 38, 2) := dk_16 38 (dk_at dksX2_movesAll_1 3 rfl rfl)
theorem dX2_movesAll_29 : decode cX2_movesAll 29 = .ok (.iload_n 2, 1) := dk_28 (dk_at dksX2_movesAll_1 5 rfl rfl)
theorem dX2_movesAll_30 : decode cX2_movesAll 30 = .ok (.iadd, 1) := dk_96 (dk_at dksX2_movesAll_1 6 rfl rfl)
theorem dX2_movesAll_31 : decode cX2_movesAll 31 = .ok (.iaload, 1) := dk_46 (dk_at dksX2_movesAll_1 7 rfl rfl)
theorem dX2_movesAll_32 : decode cX2_movesAll 32 = .ok (.invokevirtual 415, 3) := dk_182 1 159 (dk_at dksX2_movesAll_1 8 rfl rfl)
theorem dX2_movesAll_35 : decode cX2_movesAll 35 = .ok (.ifCond .eq 8, 3) := dk_153 0 8 (dk_at dksX2_movesAll_1 11 rfl rfl)
theorem dX2_movesAll_38 : decode cX2_movesAll 38 = .ok (.aload_n 1, 1) := dk_43 (dk_at dksX2_movesAll_1 14 rfl rfl)
theorem dX2_movesAll_39 : decode cX2_movesAll 39 = .ok (.iload_n 2, 1) := dk_28 (dk_at dksX2_movesAll_1 15 rfl rfl)
theorem dX2_movesAll_40 : decode cX2_movesAll 40 = .ok (.invokestatic 412, 3) := dk_184 1 156 (dk_at dksX2_movesAll_1 16 rfl rfl)
theorem dX2_movesAll_43 : decode cX2_movesAll 43 = .ok (.iinc 2 1, 3) := dk_132 2 1 (dk_at dksX2_movesAll_1 19 rfl rfl)
theorem dX2_movesAll_46 : decode cX2_movesAll 46 = .ok (.goto (-44), 3) := dk_167 255 212 (dk_at dksX2_movesAll_2 0 rfl rfl)
theorem dX2_movesAll_49 : decode cX2_movesAll 49 = .ok (.iconst 0, 1) := dk_3 (dk_at dksX2_movesAll_2 3 rfl rfl)
theorem dX2_movesAll_50 : decode cX2_movesAll 50 = .ok (.istore_n 2, 1) := dk_61 (dk_at dksX2_movesAll_2 4 rfl rfl)
theorem dX2_movesAll_51 : decode cX2_movesAll 51 = .ok (.iload_n 2, 1) := dk_28 (dk_at dksX2_movesAll_2 5 rfl rfl)
theorem dX2_movesAll_52 : decode cX2_movesAll 52 = .ok (.aload_n 1, 1) := dk_43 (dk_at dksX2_movesAll_2 6 rfl rfl)
theorem dX2_movesAll_53 : decode cX2_movesAll 53 = .ok (.iconst 4, 1) := dk_7 (dk_at dksX2_movesAll_2 7 rfl rfl)
theorem dX2_movesAll_54 : decode cX2_movesAll 54 = .ok (.iaload, 1) := dk_46 (dk_at dksX2_movesAll_2 8 rfl rfl)
theorem dX2_movesAll_55 : decode cX2_movesAll 55 = .ok (.if_icmp .ge 24, 3) := dk_162 0 24 (dk_at dksX2_movesAll_2 9 rfl rfl)
theorem dX2_movesAll_58 : decode cX2_movesAll 58 = .ok (.aload_n 0, 1) := dk_42 (dk_at dksX2_movesAll_2 12 rfl rfl)
theorem dX2_movesAll_59 : decode cX2_movesAll 59 = .ok (.aload_n 1, 1) := dk_43 (dk_at dksX2_movesAll_2 13 rfl rfl)
theorem dX2_movesAll_60 : decode cX2_movesAll 60 = .ok (.iload_n 2, 1) := dk_28 (dk_at dksX2_movesAll_2 14 rfl rfl)
theorem dX2_movesAll_61 : decode cX2_movesAll 61 = .ok (.invokevirtual 370, 3) := dk_182 1 114 (dk_at dksX2_movesAll_2 15 rfl rfl)
theorem dX2_movesAll_64 : decode cX2_movesAll 64 = .ok (.ifCond .eq 9, 3) := dk_153 0 9 (dk_at dksX2_movesAll_2 18 rfl rfl)
theorem dX2_movesAll_67 : decode cX2_movesAll 67 = .ok (.aload_n 0, 1) := dk_42 (dk_at dksX2_movesAll_2 21 rfl rfl)
theorem dX2_movesAll_68 : decode cX2_movesAll 68 = .ok (.aload_n 1, 1) := dk_43 (dk_at dksX2_movesAll_2 22 rfl rfl)
theorem dX2_movesAll_69 : decode cX2_movesAll 69 = .ok (.iload_n 2, 1) := dk_28 (dk_at dksX2_movesAll_2 23 rfl rfl)
theorem dX2_movesAll_70 : decode cX2_movesAll 70 = .ok (.invokevirtual 419, 3) := dk_182 1 163 (dk_at dksX2_movesAll_3 0 rfl rfl)
theorem dX2_movesAll_73 : decode cX2_movesAll 73 = .ok (.iinc 2 1, 3) := dk_132 2 1 (dk_at dksX2_movesAll_3 3 rfl rfl)
theorem dX2_movesAll_76 : decode cX2_movesAll 76 = .ok (.goto (-25), 3) := dk_167 255 231 (dk_at dksX2_movesAll_3 6 rfl rfl)
theorem dX2_movesAll_79 : decode cX2_movesAll 79 = .ok (.iconst 0, 1) := dk_3 (dk_at dksX2_movesAll_3 9 rfl rfl)
theorem dX2_movesAll_80 : decode cX2_movesAll 80 = .ok (.istore_n 2, 1) := dk_61 (dk_at dksX2_movesAll_3 10 rfl rfl)
theorem dX2_movesAll_81 : decode cX2_movesAll 81 = .ok (.iload_n 2, 1) := dk_28 (dk_at dksX2_movesAll_3 11 rfl rfl)
theorem dX2_movesAll_82 : decode cX2_movesAll 82 = .ok (.aload_n 0, 1) := dk_42 (dk_at dksX2_movesAll_3 12 rfl rfl)
theorem dX2_movesAll_83 : decode cX2_movesAll 83 = .ok (.getfield 17, 3) := dk_180 0 17 (dk_at dksX2_movesAll_3 13 rfl rfl)
theorem dX2_movesAll_86 : decode cX2_movesAll 86 = .ok (.bipush 10, 2) := dk_16 10 (dk_at dksX2_movesAll_3 16 rfl rfl)
theorem dX2_movesAll_88 : decode cX2_movesAll 88 = .ok (.iaload, 1) := dk_46 (dk_at dksX2_movesAll_3 18 rfl rfl)
theorem dX2_movesAll_89 : decode cX2_movesAll 89 = .ok (.if_icmp .ge 33, 3) := dk_162 0 33 (dk_at dksX2_movesAll_3 19 rfl rfl)
theorem dX2_movesAll_92 : decode cX2_movesAll 92 = .ok (.aload_n 0, 1) := dk_42 (dk_at dksX2_movesAll_3 22 rfl rfl)
theorem dX2_movesAll_93 : decode cX2_movesAll 93 = .ok (.iload_n 2, 1) := dk_28 (dk_at dksX2_movesAll_3 23 rfl rfl)
theorem dX2_movesAll_94 : decode cX2_movesAll 94 = .ok (.invokevirtual 260, 3) := dk_182 1 4 (dk_at dksX2_movesAll_4 0 rfl rfl)
theorem dX2_movesAll_97 : decode cX2_movesAll 97 = .ok (.ifCond .eq 19, 3) := dk_153 0 19 (dk_at dksX2_movesAll_4 3 rfl rfl)
theorem dX2_movesAll_100 : decode cX2_movesAll 100 = .ok (.aload_n 1, 1) := dk_43 (dk_at dksX2_movesAll_4 6 rfl rfl)
theorem dX2_movesAll_101 : decode cX2_movesAll 101 = .ok (.bipush 6, 2) := dk_16 6 (dk_at dksX2_movesAll_4 7 rfl rfl)
theorem dX2_movesAll_103 : decode cX2_movesAll 103 = .ok (.iload_n 2, 1) := dk_28 (dk_at dksX2_movesAll_4 9 rfl rfl)
theorem dX2_movesAll_104 : decode cX2_movesAll 104 = .ok (.iadd, 1) := dk_96 (dk_at dksX2_movesAll_4 10 rfl rfl)
theorem dX2_movesAll_105 : decode cX2_movesAll 105 = .ok (.iaload, 1) := dk_46 (dk_at dksX2_movesAll_4 11 rfl rfl)
theorem dX2_movesAll_106 : decode cX2_movesAll 106 = .ok (.iconst 2, 1) := dk_5 (dk_at dksX2_movesAll_4 12 rfl rfl)
theorem dX2_movesAll_107 : decode cX2_movesAll 107 = .ok (.if_icmp .ne 9, 3) := dk_160 0 9 (dk_at dksX2_movesAll_4 13 rfl rfl)
theorem dX2_movesAll_110 : decode cX2_movesAll 110 = .ok (.aload_n 0, 1) := dk_42 (dk_at dksX2_movesAll_4 16 rfl rfl)
theorem dX2_movesAll_111 : decode cX2_movesAll 111 = .ok (.aload_n 1, 1) := dk_43 (dk_at dksX2_movesAll_4 17 rfl rfl)
theorem dX2_movesAll_112 : decode cX2_movesAll 112 = .ok (.iload_n 2, 1) := dk_28 (dk_at dksX2_movesAll_4 18 rfl rfl)
theorem dX2_movesAll_113 : decode cX2_movesAll 113 = .ok (.invokevirtual 422, 3) := dk_182 1 166 (dk_at dksX2_movesAll_4 19 rfl rfl)
theorem dX2_movesAll_116 : decode cX2_movesAll 116 = .ok (.iinc 2 1, 3) := dk_132 2 1 (dk_at dksX2_movesAll_5 0 rfl rfl)
theorem dX2_movesAll_119 : decode cX2_movesAll 119 = .ok (.goto (-38), 3) := dk_167 255 218 (dk_at dksX2_movesAll_5 3 rfl rfl)
theorem dX2_movesAll_122 : decode cX2_movesAll 122 = .ok (.return_, 1) := dk_177 (dk_at dksX2_movesAll_5 6 rfl rfl)
abbrev cX2_forces : ByteArray := prog_22_method_70_code
def yX2_forces : MethodName := ⟨RX2, "forces", "([II)V"⟩
def dkwX2_forces_1 : List UInt8 := [27, 4, 184, 1, 150, 177]
abbrev dktX2_forces_1 : List UInt8 := dkwX2_forces_1 ++ []
def dkwX2_forces_0 : List UInt8 := [42, 5, 27, 184, 1, 146, 42, 4, 92, 46, 4, 96, 79, 42, 16, 86, 27, 96, 92, 46, 4, 96, 79, 42]
abbrev dktX2_forces_0 : List UInt8 := dkwX2_forces_0 ++ dktX2_forces_1
theorem dksX2_forces_0 : cX2_forces.data.toList.drop 0 = dktX2_forces_0 := by decide +kernel
theorem dksX2_forces_1 : cX2_forces.data.toList.drop 24 = dktX2_forces_1 := dk_seg dksX2_forces_0 24 rfl rfl
theorem dX2_forces_0 : decode cX2_forces 0 = .ok (.aload_n 0, 1) := dk_42 (dk_at dksX2_forces_0 0 rfl rfl)
theorem dX2_forces_1 : decode cX2_forces 1 = .ok (.iconst 2, 1) := dk_5 (dk_at dksX2_forces_0 1 rfl rfl)
theorem dX2_forces_2 : decode cX2_forces 2 = .ok (.iload_n 1, 1) := dk_27 (dk_at dksX2_forces_0 2 rfl rfl)
theorem dX2_forces_3 : decode cX2_forces 3 = .ok (.invokestatic 402, 3) := dk_184 1 146 (dk_at dksX2_forces_0 3 rfl rfl)
theorem dX2_forces_6 : decode cX2_forces 6 = .ok (.aload_n 0, 1) := dk_42 (dk_at dksX2_forces_0 6 rfl rfl)
theorem dX2_forces_7 : decode cX2_forces 7 = .ok (.iconst 1, 1) := dk_4 (dk_at dksX2_forces_0 7 rfl rfl)
theorem dX2_forces_8 : decode cX2_forces 8 = .ok (.dup2, 1) := dk_92 (dk_at dksX2_forces_0 8 rfl rfl)
theorem dX2_forces_9 : decode cX2_forces 9 = .ok (.iaload, 1) := dk_46 (dk_at dksX2_forces_0 9 rfl rfl)
theorem dX2_forces_10 : decode cX2_forces 10 = .ok (.iconst 1, 1) := dk_4 (dk_at dksX2_forces_0 10 rfl rfl)
theorem dX2_forces_11 : decode cX2_forces 11 = .ok (.iadd, 1) := dk_96 (dk_at dksX2_forces_0 11 rfl rfl)
theorem dX2_forces_12 : decode cX2_forces 12 = .ok (.iastore, 1) := dk_79 (dk_at dksX2_forces_0 12 rfl rfl)
theorem dX2_forces_13 : decode cX2_forces 13 = .ok (.aload_n 0, 1) := dk_42 (dk_at dksX2_forces_0 13 rfl rfl)
theorem dX2_forces_14 : decode cX2_forces 14 = .ok (.bipush 86, 2) := dk_16 86 (dk_at dksX2_forces_0 14 rfl rfl)
theorem dX2_forces_16 : decode cX2_forces 16 = .ok (.iload_n 1, 1) := dk_27 (dk_at dksX2_forces_0 16 rfl rfl)
theorem dX2_forces_17 : decode cX2_forces 17 = .ok (.iadd, 1) := dk_96 (dk_at dksX2_forces_0 17 rfl rfl)
theorem dX2_forces_18 : decode cX2_forces 18 = .ok (.dup2, 1) := dk_92 (dk_at dksX2_forces_0 18 rfl rfl)
theorem dX2_forces_19 : decode cX2_forces 19 = .ok (.iaload, 1) := dk_46 (dk_at dksX2_forces_0 19 rfl rfl)
theorem dX2_forces_20 : decode cX2_forces 20 = .ok (.iconst 1, 1) := dk_4 (dk_at dksX2_forces_0 20 rfl rfl)
theorem dX2_forces_21 : decode cX2_forces 21 = .ok (.iadd, 1) := dk_96 (dk_at dksX2_forces_0 21 rfl rfl)
theorem dX2_forces_22 : decode cX2_forces 22 = .ok (.iastore, 1) := dk_79 (dk_at dksX2_forces_0 22 rfl rfl)
theorem dX2_forces_23 : decode cX2_forces 23 = .ok (.aload_n 0, 1) := dk_42 (dk_at dksX2_forces_0 23 rfl rfl)
theorem dX2_forces_24 : decode cX2_forces 24 = .ok (.iload_n 1, 1) := dk_27 (dk_at dksX2_forces_1 0 rfl rfl)
theorem dX2_forces_25 : decode cX2_forces 25 = .ok (.iconst 1, 1) := dk_4 (dk_at dksX2_forces_1 1 rfl rfl)
theorem dX2_forces_26 : decode cX2_forces 26 = .ok (.invokestatic 406, 3) := dk_184 1 150 (dk_at dksX2_forces_1 2 rfl rfl)
theorem dX2_forces_29 : decode cX2_forces 29 = .ok (.return_, 1) := dk_177 (dk_at dksX2_forces_1 5 rfl rfl)
abbrev cX2_clears : ByteArray := prog_22_method_72_code
def yX2_clears : MethodName := ⟨RX2, "clears", "([II)V"⟩
def dkwX2_clears_4 : List UInt8 := [182, 1, 153, 167, 0, 5, 21, 5, 184, 1, 156, 167, 255, 177, 132, 4, 1, 167, 255, 161, 177]
abbrev dktX2_clears_4 : List UInt8 := dkwX2_clears_4 ++ []
def dkwX2_clears_3 : List UInt8 := [54, 5, 43, 21, 5, 2, 160, 0, 24, 42, 43, 43, 29, 3, 96, 46, 43, 29, 4, 96, 46, 21, 4, 5]
abbrev dktX2_clears_3 : List UInt8 := dkwX2_clears_3 ++ dktX2_clears_4
def dkwX2_clears_2 : List UInt8 := [96, 46, 164, 0, 59, 42, 43, 43, 29, 3, 96, 46, 43, 29, 4, 96, 46, 21, 4, 6, 182, 1, 153]
abbrev dktX2_clears_2 : List UInt8 := dkwX2_clears_2 ++ dktX2_clears_3
def dkwX2_clears_1 : List UInt8 := [163, 0, 91, 42, 43, 43, 29, 3, 96, 46, 43, 29, 4, 96, 46, 21, 4, 3, 182, 1, 117, 43, 29, 7]
abbrev dktX2_clears_1 : List UInt8 := dkwX2_clears_1 ++ dktX2_clears_2
def dkwX2_clears_0 : List UInt8 := [16, 118, 16, 8, 28, 104, 96, 62, 43, 29, 5, 96, 46, 54, 4, 21, 4, 43, 29, 6, 96, 46]
abbrev dktX2_clears_0 : List UInt8 := dkwX2_clears_0 ++ dktX2_clears_1
theorem dksX2_clears_0 : cX2_clears.data.toList.drop 0 = dktX2_clears_0 := by decide +kernel
theorem dksX2_clears_1 : cX2_clears.data.toList.drop 22 = dktX2_clears_1 := dk_seg dksX2_clears_0 22 rfl rfl
theorem dksX2_clears_2 : cX2_clears.data.toList.drop 46 = dktX2_clears_2 := dk_seg dksX2_clears_1 24 rfl rfl
theorem dksX2_clears_3 : cX2_clears.data.toList.drop 69 = dktX2_clears_3 := dk_seg dksX2_clears_2 23 rfl rfl
theorem dksX2_clears_4 : cX2_clears.data.toList.drop 93 = dktX2_clears_4 := dk_seg dksX2_clears_3 24 rfl rfl
theorem dX2_clears_0 : decode cX2_clears 0 = .ok (.bipush 118, 2) := dk_16 118 (dk_at dksX2_clears_0 0 rfl rfl)
theorem dX2_clears_2 : decode cX2_clears 2 = .ok (.bipush 8, 2) := dk_16 8 (dk_at dksX2_clears_0 2 rfl rfl)
theorem dX2_clears_4 : decode cX2_clears 4 = .ok (.iload_n 2, 1) := dk_28 (dk_at dksX2_clears_0 4 rfl rfl)
theorem dX2_clears_5 : decode cX2_clears 5 = .ok (.imul, 1) := dk_104 (dk_at dksX2_clears_0 5 rfl rfl)
theorem dX2_clears_6 : decode cX2_clears 6 = .ok (.iadd, 1) := dk_96 (dk_at dksX2_clears_0 6 rfl rfl)
theorem dX2_clears_7 : decode cX2_clears 7 = .ok (.istore_n 3, 1) := dk_62 (dk_at dksX2_clears_0 7 rfl rfl)
theorem dX2_clears_8 : decode cX2_clears 8 = .ok (.aload_n 1, 1) := dk_43 (dk_at dksX2_clears_0 8 rfl rfl)
theorem dX2_clears_9 : decode cX2_clears 9 = .ok (.iload_n 3, 1) := dk_29 (dk_at dksX2_clears_0 9 rfl rfl)
theorem dX2_clears_10 : decode cX2_clears 10 = .ok (.iconst 2, 1) := dk_5 (dk_at dksX2_clears_0 10 rfl rfl)
theorem dX2_clears_11 : decode cX2_clears 11 = .ok (.iadd, 1) := dk_96 (dk_at dksX2_clears_0 11 rfl rfl)
theorem dX2_clears_12 : decode cX2_clears 12 = .ok (.iaload, 1) := dk_46 (dk_at dksX2_clears_0 12 rfl rfl)
theorem dX2_clears_13 : decode cX2_clears 13 = .ok (.istore 4, 2) := dk_54 4 (dk_at dksX2_clears_0 13 rfl rfl)
theorem dX2_clears_15 : decode cX2_clears 15 = .ok (.iload 4, 2) := dk_21 4 (dk_at dksX2_clears_0 15 rfl rfl)
theorem dX2_clears_17 : decode cX2_clears 17 = .ok (.aload_n 1, 1) := dk_43 (dk_at dksX2_clears_0 17 rfl rfl)
theorem dX2_clears_18 : decode cX2_clears 18 = .ok (.iload_n 3, 1) := dk_29 (dk_at dksX2_clears_0 18 rfl rfl)
theorem dX2_clears_19 : decode cX2_clears 19 = .ok (.iconst 3, 1) := dk_6 (dk_at dksX2_clears_0 19 rfl rfl)
theorem dX2_clears_20 : decode cX2_clears 20 = .ok (.iadd, 1) := dk_96 (dk_at dksX2_clears_0 20 rfl rfl)
theorem dX2_clears_21 : decode cX2_clears 21 = .ok (.iaload, 1) := dk_46 (dk_at dksX2_clears_0 21 rfl rfl)
theorem dX2_clears_22 : decode cX2_clears 22 = .ok (.if_icmp .gt 91, 3) := dk_163 0 91 (dk_at dksX2_clears_1 0 rfl rfl)
theorem dX2_clears_25 : decode cX2_clears 25 = .ok (.aload_n 0, 1) := dk_42 (dk_at dksX2_clears_1 3 rfl rfl)
theorem dX2_clears_26 : decode cX2_clears 26 = .ok (.aload_n 1, 1) := dk_43 (dk_at dksX2_clears_1 4 rfl rfl)
theorem dX2_clears_27 : decode cX2_clears 27 = .ok (.aload_n 1, 1) := dk_43 (dk_at dksX2_clears_1 5 rfl rfl)
theorem dX2_clears_28 : decode cX2_clears 28 = .ok (.iload_n 3, 1) := dk_29 (dk_at dksX2_clears_1 6 rfl rfl)
theorem dX2_clears_29 : decode cX2_clears 29 = .ok (.iconst 0, 1) := dk_3 (dk_at dksX2_clears_1 7 rfl rfl)
theorem dX2_clears_30 : decode cX2_clears 30 = .ok (.iadd, 1) := dk_96 (dk_at dksX2_clears_1 8 rfl rfl)
theorem dX2_clears_31 : decode cX2_clears 31 = .ok (.iaload, 1) := dk_46 (dk_at dksX2_clears_1 9 rfl rfl)
theorem dX2_clears_32 : decode cX2_clears 32 = .ok (.aload_n 1, 1) := dk_43 (dk_at dksX2_clears_1 10 rfl rfl)
theorem dX2_clears_33 : decode cX2_clears 33 = .ok (.iload_n 3, 1) := dk_29 (dk_at dksX2_clears_1 11 rfl rfl)
theorem dX2_clears_34 : decode cX2_clears 34 = .ok (.iconst 1, 1) := dk_4 (dk_at dksX2_clears_1 12 rfl rfl)
theorem dX2_clears_35 : decode cX2_clears 35 = .ok (.iadd, 1) := dk_96 (dk_at dksX2_clears_1 13 rfl rfl)
theorem dX2_clears_36 : decode cX2_clears 36 = .ok (.iaload, 1) := dk_46 (dk_at dksX2_clears_1 14 rfl rfl)
theorem dX2_clears_37 : decode cX2_clears 37 = .ok (.iload 4, 2) := dk_21 4 (dk_at dksX2_clears_1 15 rfl rfl)
theorem dX2_clears_39 : decode cX2_clears 39 = .ok (.iconst 0, 1) := dk_3 (dk_at dksX2_clears_1 17 rfl rfl)
theorem dX2_clears_40 : decode cX2_clears 40 = .ok (.invokevirtual 373, 3) := dk_182 1 117 (dk_at dksX2_clears_1 18 rfl rfl)
theorem dX2_clears_43 : decode cX2_clears 43 = .ok (.aload_n 1, 1) := dk_43 (dk_at dksX2_clears_1 21 rfl rfl)
theorem dX2_clears_44 : decode cX2_clears 44 = .ok (.iload_n 3, 1) := dk_29 (dk_at dksX2_clears_1 22 rfl rfl)
theorem dX2_clears_45 : decode cX2_clears 45 = .ok (.iconst 4, 1) := dk_7 (dk_at dksX2_clears_1 23 rfl rfl)
theorem dX2_clears_46 : decode cX2_clears 46 = .ok (.iadd, 1) := dk_96 (dk_at dksX2_clears_2 0 rfl rfl)
theorem dX2_clears_47 : decode cX2_clears 47 = .ok (.iaload, 1) := dk_46 (dk_at dksX2_clears_2 1 rfl rfl)
theorem dX2_clears_48 : decode cX2_clears 48 = .ok (.if_icmp .le 59, 3) := dk_164 0 59 (dk_at dksX2_clears_2 2 rfl rfl)
theorem dX2_clears_51 : decode cX2_clears 51 = .ok (.aload_n 0, 1) := dk_42 (dk_at dksX2_clears_2 5 rfl rfl)
theorem dX2_clears_52 : decode cX2_clears 52 = .ok (.aload_n 1, 1) := dk_43 (dk_at dksX2_clears_2 6 rfl rfl)
theorem dX2_clears_53 : decode cX2_clears 53 = .ok (.aload_n 1, 1) := dk_43 (dk_at dksX2_clears_2 7 rfl rfl)
theorem dX2_clears_54 : decode cX2_clears 54 = .ok (.iload_n 3, 1) := dk_29 (dk_at dksX2_clears_2 8 rfl rfl)
theorem dX2_clears_55 : decode cX2_clears 55 = .ok (.iconst 0, 1) := dk_3 (dk_at dksX2_clears_2 9 rfl rfl)
theorem dX2_clears_56 : decode cX2_clears 56 = .ok (.iadd, 1) := dk_96 (dk_at dksX2_clears_2 10 rfl rfl)
theorem dX2_clears_57 : decode cX2_clears 57 = .ok (.iaload, 1) := dk_46 (dk_at dksX2_clears_2 11 rfl rfl)
theorem dX2_clears_58 : decode cX2_clears 58 = .ok (.aload_n 1, 1) := dk_43 (dk_at dksX2_clears_2 12 rfl rfl)
theorem dX2_clears_59 : decode cX2_clears 59 = .ok (.iload_n 3, 1) := dk_29 (dk_at dksX2_clears_2 13 rfl rfl)
theorem dX2_clears_60 : decode cX2_clears 60 = .ok (.iconst 1, 1) := dk_4 (dk_at dksX2_clears_2 14 rfl rfl)
theorem dX2_clears_61 : decode cX2_clears 61 = .ok (.iadd, 1) := dk_96 (dk_at dksX2_clears_2 15 rfl rfl)
theorem dX2_clears_62 : decode cX2_clears 62 = .ok (.iaload, 1) := dk_46 (dk_at dksX2_clears_2 16 rfl rfl)
theorem dX2_clears_63 : decode cX2_clears 63 = .ok (.iload 4, 2) := dk_21 4 (dk_at dksX2_clears_2 17 rfl rfl)
theorem dX2_clears_65 : decode cX2_clears 65 = .ok (.iconst 3, 1) := dk_6 (dk_at dksX2_clears_2 19 rfl rfl)
theorem dX2_clears_66 : decode cX2_clears 66 = .ok (.invokevirtual 409, 3) := dk_182 1 153 (dk_at dksX2_clears_2 20 rfl rfl)
theorem dX2_clears_69 : decode cX2_clears 69 = .ok (.istore 5, 2) := dk_54 5 (dk_at dksX2_clears_3 0 rfl rfl)
theorem dX2_clears_71 : decode cX2_clears 71 = .ok (.aload_n 1, 1) := dk_43 (dk_at dksX2_clears_3 2 rfl rfl)
theorem dX2_clears_72 : decode cX2_clears 72 = .ok (.iload 5, 2) := dk_21 5 (dk_at dksX2_clears_3 3 rfl rfl)
theorem dX2_clears_74 : decode cX2_clears 74 = .ok (.iconst (-1), 1) := dk_2 (dk_at dksX2_clears_3 5 rfl rfl)
theorem dX2_clears_75 : decode cX2_clears 75 = .ok (.if_icmp .ne 24, 3) := dk_160 0 24 (dk_at dksX2_clears_3 6 rfl rfl)
theorem dX2_clears_78 : decode cX2_clears 78 = .ok (.aload_n 0, 1) := dk_42 (dk_at dksX2_clears_3 9 rfl rfl)
theorem dX2_clears_79 : decode cX2_clears 79 = .ok (.aload_n 1, 1) := dk_43 (dk_at dksX2_clears_3 10 rfl rfl)
theorem dX2_clears_80 : decode cX2_clears 80 = .ok (.aload_n 1, 1) := dk_43 (dk_at dksX2_clears_3 11 rfl rfl)
theorem dX2_clears_81 : decode cX2_clears 81 = .ok (.iload_n 3, 1) := dk_29 (dk_at dksX2_clears_3 12 rfl rfl)
theorem dX2_clears_82 : decode cX2_clears 82 = .ok (.iconst 0, 1) := dk_3 (dk_at dksX2_clears_3 13 rfl rfl)
theorem dX2_clears_83 : decode cX2_clears 83 = .ok (.iadd, 1) := dk_96 (dk_at dksX2_clears_3 14 rfl rfl)
theorem dX2_clears_84 : decode cX2_clears 84 = .ok (.iaload, 1) := dk_46 (dk_at dksX2_clears_3 15 rfl rfl)
theorem dX2_clears_85 : decode cX2_clears 85 = .ok (.aload_n 1, 1) := dk_43 (dk_at dksX2_clears_3 16 rfl rfl)
theorem dX2_clears_86 : decode cX2_clears 86 = .ok (.iload_n 3, 1) := dk_29 (dk_at dksX2_clears_3 17 rfl rfl)
theorem dX2_clears_87 : decode cX2_clears 87 = .ok (.iconst 1, 1) := dk_4 (dk_at dksX2_clears_3 18 rfl rfl)
theorem dX2_clears_88 : decode cX2_clears 88 = .ok (.iadd, 1) := dk_96 (dk_at dksX2_clears_3 19 rfl rfl)
theorem dX2_clears_89 : decode cX2_clears 89 = .ok (.iaload, 1) := dk_46 (dk_at dksX2_clears_3 20 rfl rfl)
theorem dX2_clears_90 : decode cX2_clears 90 = .ok (.iload 4, 2) := dk_21 4 (dk_at dksX2_clears_3 21 rfl rfl)
theorem dX2_clears_92 : decode cX2_clears 92 = .ok (.iconst 2, 1) := dk_5 (dk_at dksX2_clears_3 23 rfl rfl)
theorem dX2_clears_93 : decode cX2_clears 93 = .ok (.invokevirtual 409, 3) := dk_182 1 153 (dk_at dksX2_clears_4 0 rfl rfl)
theorem dX2_clears_96 : decode cX2_clears 96 = .ok (.goto 5, 3) := dk_167 0 5 (dk_at dksX2_clears_4 3 rfl rfl)
theorem dX2_clears_99 : decode cX2_clears 99 = .ok (.iload 5, 2) := dk_21 5 (dk_at dksX2_clears_4 6 rfl rfl)
theorem dX2_clears_101 : decode cX2_clears 101 = .ok (.invokestatic 412, 3) := dk_184 1 156 (dk_at dksX2_clears_4 8 rfl rfl)
theorem dX2_clears_104 : decode cX2_clears 104 = .ok (.goto (-79), 3) := dk_167 255 177 (dk_at dksX2_clears_4 11 rfl rfl)
theorem dX2_clears_107 : decode cX2_clears 107 = .ok (.iinc 4 1, 3) := dk_132 4 1 (dk_at dksX2_clears_4 14 rfl rfl)
theorem dX2_clears_110 : decode cX2_clears 110 = .ok (.goto (-95), 3) := dk_167 255 161 (dk_at dksX2_clears_4 17 rfl rfl)
theorem dX2_clears_113 : decode cX2_clears 113 = .ok (.return_, 1) := dk_177 (dk_at dksX2_clears_4 20 rfl rfl)
abbrev cX2_loudest : ByteArray := prog_22_method_71_code
def yX2_loudest : MethodName := ⟨RX2, "loudest", "([IIIII)I"⟩
def dkwX2_loudest_3 : List UInt8 := [167, 255, 195, 21, 6, 172]
abbrev dktX2_loudest_3 : List UInt8 := dkwX2_loudest_3 ++ []
def dkwX2_loudest_2 : List UInt8 := [54, 9, 21, 9, 21, 7, 162, 0, 6, 167, 0, 11, 21, 8, 54, 6, 21, 9, 54, 7, 132, 8, 1]
abbrev dktX2_loudest_2 : List UInt8 := dkwX2_loudest_2 ++ dktX2_loudest_3
def dkwX2_loudest_1 : List UInt8 := [21, 5, 182, 1, 70, 153, 0, 17, 42, 43, 21, 8, 28, 29, 21, 4, 182, 1, 73, 167, 0, 4, 3]
abbrev dktX2_loudest_1 : List UInt8 := dkwX2_loudest_1 ++ dktX2_loudest_2
def dkwX2_loudest_0 : List UInt8 := [2, 54, 6, 4, 54, 7, 3, 54, 8, 21, 8, 42, 180, 0, 17, 16, 10, 46, 162, 0, 55, 42, 21, 8]
abbrev dktX2_loudest_0 : List UInt8 := dkwX2_loudest_0 ++ dktX2_loudest_1
theorem dksX2_loudest_0 : cX2_loudest.data.toList.drop 0 = dktX2_loudest_0 := by decide +kernel
theorem dksX2_loudest_1 : cX2_loudest.data.toList.drop 24 = dktX2_loudest_1 := dk_seg dksX2_loudest_0 24 rfl rfl
theorem dksX2_loudest_2 : cX2_loudest.data.toList.drop 47 = dktX2_loudest_2 := dk_seg dksX2_loudest_1 23 rfl rfl
theorem dksX2_loudest_3 : cX2_loudest.data.toList.drop 70 = dktX2_loudest_3 := dk_seg dksX2_loudest_2 23 rfl rfl
theorem dX2_loudest_0 : decode cX2_loudest 0 = .ok (.iconst (-1), 1) := dk_2 (dk_at dksX2_loudest_0 0 rfl rfl)
theorem dX2_loudest_1 : decode cX2_loudest 1 = .ok (.istore 6, 2) := dk_54 6 (dk_at dksX2_loudest_0 1 rfl rfl)
theorem dX2_loudest_3 : decode cX2_loudest 3 = .ok (.iconst 1, 1) := dk_4 (dk_at dksX2_loudest_0 3 rfl rfl)
theorem dX2_loudest_4 : decode cX2_loudest 4 = .ok (.istore 7, 2) := dk_54 7 (dk_at dksX2_loudest_0 4 rfl rfl)
theorem dX2_loudest_6 : decode cX2_loudest 6 = .ok (.iconst 0, 1) := dk_3 (dk_at dksX2_loudest_0 6 rfl rfl)
theorem dX2_loudest_7 : decode cX2_loudest 7 = .ok (.istore 8, 2) := dk_54 8 (dk_at dksX2_loudest_0 7 rfl rfl)
theorem dX2_loudest_9 : decode cX2_loudest 9 = .ok (.iload 8, 2) := dk_21 8 (dk_at dksX2_loudest_0 9 rfl rfl)
theorem dX2_loudest_11 : decode cX2_loudest 11 = .ok (.aload_n 0, 1) := dk_42 (dk_at dksX2_loudest_0 11 rfl rfl)
theorem dX2_loudest_12 : decode cX2_loudest 12 = .ok (.getfield 17, 3) := dk_180 0 17 (dk_at dksX2_loudest_0 12 rfl rfl)
theorem dX2_loudest_15 : decode cX2_loudest 15 = .ok (.bipush 10, 2) := dk_16 10 (dk_at dksX2_loudest_0 15 rfl rfl)
theorem dX2_loudest_17 : decode cX2_loudest 17 = .ok (.iaload, 1) := dk_46 (dk_at dksX2_loudest_0 17 rfl rfl)
theorem dX2_loudest_18 : decode cX2_loudest 18 = .ok (.if_icmp .ge 55, 3) := dk_162 0 55 (dk_at dksX2_loudest_0 18 rfl rfl)
theorem dX2_loudest_21 : decode cX2_loudest 21 = .ok (.aload_n 0, 1) := dk_42 (dk_at dksX2_loudest_0 21 rfl rfl)
theorem dX2_loudest_22 : decode cX2_loudest 22 = .ok (.iload 8, 2) := dk_21 8 (dk_at dksX2_loudest_0 22 rfl rfl)
theorem dX2_loudest_24 : decode cX2_loudest 24 = .ok (.iload 5, 2) := dk_21 5 (dk_at dksX2_loudest_1 0 rfl rfl)
theorem dX2_loudest_26 : decode cX2_loudest 26 = .ok (.invokevirtual 326, 3) := dk_182 1 70 (dk_at dksX2_loudest_1 2 rfl rfl)
theorem dX2_loudest_29 : decode cX2_loudest 29 = .ok (.ifCond .eq 17, 3) := dk_153 0 17 (dk_at dksX2_loudest_1 5 rfl rfl)
theorem dX2_loudest_32 : decode cX2_loudest 32 = .ok (.aload_n 0, 1) := dk_42 (dk_at dksX2_loudest_1 8 rfl rfl)
theorem dX2_loudest_33 : decode cX2_loudest 33 = .ok (.aload_n 1, 1) := dk_43 (dk_at dksX2_loudest_1 9 rfl rfl)
theorem dX2_loudest_34 : decode cX2_loudest 34 = .ok (.iload 8, 2) := dk_21 8 (dk_at dksX2_loudest_1 10 rfl rfl)
theorem dX2_loudest_36 : decode cX2_loudest 36 = .ok (.iload_n 2, 1) := dk_28 (dk_at dksX2_loudest_1 12 rfl rfl)
theorem dX2_loudest_37 : decode cX2_loudest 37 = .ok (.iload_n 3, 1) := dk_29 (dk_at dksX2_loudest_1 13 rfl rfl)
theorem dX2_loudest_38 : decode cX2_loudest 38 = .ok (.iload 4, 2) := dk_21 4 (dk_at dksX2_loudest_1 14 rfl rfl)
theorem dX2_loudest_40 : decode cX2_loudest 40 = .ok (.invokevirtual 329, 3) := dk_182 1 73 (dk_at dksX2_loudest_1 16 rfl rfl)
theorem dX2_loudest_43 : decode cX2_loudest 43 = .ok (.goto 4, 3) := dk_167 0 4 (dk_at dksX2_loudest_1 19 rfl rfl)
theorem dX2_loudest_46 : decode cX2_loudest 46 = .ok (.iconst 0, 1) := dk_3 (dk_at dksX2_loudest_1 22 rfl rfl)
theorem dX2_loudest_47 : decode cX2_loudest 47 = .ok (.istore 9, 2) := dk_54 9 (dk_at dksX2_loudest_2 0 rfl rfl)
theorem dX2_loudest_49 : decode cX2_loudest 49 = .ok (.iload 9, 2) := dk_21 9 (dk_at dksX2_loudest_2 2 rfl rfl)
theorem dX2_loudest_51 : decode cX2_loudest 51 = .ok (.iload 7, 2) := dk_21 7 (dk_at dksX2_loudest_2 4 rfl rfl)
theorem dX2_loudest_53 : decode cX2_loudest 53 = .ok (.if_icmp .ge 6, 3) := dk_162 0 6 (dk_at dksX2_loudest_2 6 rfl rfl)
theorem dX2_loudest_56 : decode cX2_loudest 56 = .ok (.goto 11, 3) := dk_167 0 11 (dk_at dksX2_loudest_2 9 rfl rfl)
theorem dX2_loudest_59 : decode cX2_loudest 59 = .ok (.iload 8, 2) := dk_21 8 (dk_at dksX2_loudest_2 12 rfl rfl)
theorem dX2_loudest_61 : decode cX2_loudest 61 = .ok (.istore 6, 2) := dk_54 6 (dk_at dksX2_loudest_2 14 rfl rfl)
theorem dX2_loudest_63 : decode cX2_loudest 63 = .ok (.iload 9, 2) := dk_21 9 (dk_at dksX2_loudest_2 16 rfl rfl)
theorem dX2_loudest_65 : decode cX2_loudest 65 = .ok (.istore 7, 2) := dk_54 7 (dk_at dksX2_loudest_2 18 rfl rfl)
theorem dX2_loudest_67 : decode cX2_loudest 67 = .ok (.iinc 8 1, 3) := dk_132 8 1 (dk_at dksX2_loudest_2 20 rfl rfl)
theorem dX2_loudest_70 : decode cX2_loudest 70 = .ok (.goto (-61), 3) := dk_167 255 195 (dk_at dksX2_loudest_3 0 rfl rfl)
theorem dX2_loudest_73 : decode cX2_loudest 73 = .ok (.iload 6, 2) := dk_21 6 (dk_at dksX2_loudest_3 3 rfl rfl)
theorem dX2_loudest_75 : decode cX2_loudest 75 = .ok (.ireturn, 1) := dk_172 (dk_at dksX2_loudest_3 5 rfl rfl)
abbrev cX2_shields : ByteArray := prog_22_method_73_code
def yX2_shields : MethodName := ⟨RX2, "shields", "([II)V"⟩
def dkwX2_shields_6 : List UInt8 := [16, 70, 28, 96, 46, 29, 6, 182, 1, 153, 184, 1, 156, 167, 255, 193, 177]
abbrev dktX2_shields_6 : List UInt8 := dkwX2_shields_6 ++ []
def dkwX2_shields_5 : List UInt8 := [180, 0, 17, 7, 46, 164, 0, 35, 43, 42, 43, 42, 180, 0, 17, 16, 54, 28, 96, 46, 42, 180, 0, 17]
abbrev dktX2_shields_5 : List UInt8 := dkwX2_shields_5 ++ dktX2_shields_6
def dkwX2_shields_4 : List UInt8 := [42, 180, 0, 17, 16, 54, 28, 96, 46, 42, 180, 0, 17, 16, 70, 28, 96, 46, 29, 6, 182, 1, 117, 42]
abbrev dktX2_shields_4 : List UInt8 := dkwX2_shields_4 ++ dktX2_shields_5
def dkwX2_shields_3 : List UInt8 := [21, 4, 96, 46, 184, 0, 193, 153, 0, 9, 43, 21, 4, 184, 1, 156, 132, 4, 1, 167, 255, 176, 42, 43]
abbrev dktX2_shields_3 : List UInt8 := dkwX2_shields_3 ++ dktX2_shields_4
def dkwX2_shields_2 : List UInt8 := [180, 0, 17, 16, 86, 28, 96, 46, 42, 180, 0, 17, 16, 54, 21, 4, 96, 46, 42, 180, 0, 17, 16, 70]
abbrev dktX2_shields_2 : List UInt8 := dkwX2_shields_2 ++ dktX2_shields_3
def dkwX2_shields_1 : List UInt8 := [21, 4, 182, 1, 4, 154, 0, 59, 43, 16, 38, 21, 4, 96, 46, 29, 160, 0, 48, 42, 180, 0, 17, 42]
abbrev dktX2_shields_1 : List UInt8 := dkwX2_shields_1 ++ dktX2_shields_2
def dkwX2_shields_0 : List UInt8 := [43, 16, 38, 28, 96, 46, 62, 3, 54, 4, 21, 4, 42, 180, 0, 17, 16, 10, 46, 162, 0, 74, 42]
abbrev dktX2_shields_0 : List UInt8 := dkwX2_shields_0 ++ dktX2_shields_1
theorem dksX2_shields_0 : cX2_shields.data.toList.drop 0 = dktX2_shields_0 := by decide +kernel
theorem dksX2_shields_1 : cX2_shields.data.toList.drop 23 = dktX2_shields_1 := dk_seg dksX2_shields_0 23 rfl rfl
theorem dksX2_shields_2 : cX2_shields.data.toList.drop 47 = dktX2_shields_2 := dk_seg dksX2_shields_1 24 rfl rfl
theorem dksX2_shields_3 : cX2_shields.data.toList.drop 71 = dktX2_shields_3 := dk_seg dksX2_shields_2 24 rfl rfl
theorem dksX2_shields_4 : cX2_shields.data.toList.drop 95 = dktX2_shields_4 := dk_seg dksX2_shields_3 24 rfl rfl
theorem dksX2_shields_5 : cX2_shields.data.toList.drop 119 = dktX2_shields_5 := dk_seg dksX2_shields_4 24 rfl rfl
theorem dksX2_shields_6 : cX2_shields.data.toList.drop 143 = dktX2_shields_6 := dk_seg dksX2_shields_5 24 rfl rfl
theorem dX2_shields_0 : decode cX2_shields 0 = .ok (.aload_n 1, 1) := dk_43 (dk_at dksX2_shields_0 0 rfl rfl)
theorem dX2_shields_1 : decode cX2_shields 1 = .ok (.bipush 38, 2) := dk_16 38 (dk_at dksX2_shields_0 1 rfl rfl)
theorem dX2_shields_3 : decode cX2_shields 3 = .ok (.iload_n 2, 1) := dk_28 (dk_at dksX2_shields_0 3 rfl rfl)
theorem dX2_shields_4 : decode cX2_shields 4 = .ok (.iadd, 1) := dk_96 (dk_at dksX2_shields_0 4 rfl rfl)
theorem dX2_shields_5 : decode cX2_shields 5 = .ok (.iaload, 1) := dk_46 (dk_at dksX2_shields_0 5 rfl rfl)
theorem dX2_shields_6 : decode cX2_shields 6 = .ok (.istore_n 3, 1) := dk_62 (dk_at dksX2_shields_0 6 rfl rfl)
theorem dX2_shields_7 : decode cX2_shields 7 = .ok (.iconst 0, 1) := dk_3 (dk_at dksX2_shields_0 7 rfl rfl)
theorem dX2_shields_8 : decode cX2_shields 8 = .ok (.istore 4, 2) := dk_54 4 (dk_at dksX2_shields_0 8 rfl rfl)
theorem dX2_shields_10 : decode cX2_shields 10 = .ok (.iload 4, 2) := dk_21 4 (dk_at dksX2_shields_0 10 rfl rfl)
theorem dX2_shields_12 : decode cX2_shields 12 = .ok (.aload_n 0, 1) := dk_42 (dk_at dksX2_shields_0 12 rfl rfl)
theorem dX2_shields_13 : decode cX2_shields 13 = .ok (.getfield 17, 3) := dk_180 0 17 (dk_at dksX2_shields_0 13 rfl rfl)
theorem dX2_shields_16 : decode cX2_shields 16 = .ok (.bipush 10, 2) := dk_16 10 (dk_at dksX2_shields_0 16 rfl rfl)
theorem dX2_shields_18 : decode cX2_shields 18 = .ok (.iaload, 1) := dk_46 (dk_at dksX2_shields_0 18 rfl rfl)
theorem dX2_shields_19 : decode cX2_shields 19 = .ok (.if_icmp .ge 74, 3) := dk_162 0 74 (dk_at dksX2_shields_0 19 rfl rfl)
theorem dX2_shields_22 : decode cX2_shields 22 = .ok (.aload_n 0, 1) := dk_42 (dk_at dksX2_shields_0 22 rfl rfl)
theorem dX2_shields_23 : decode cX2_shields 23 = .ok (.iload 4, 2) := dk_21 4 (dk_at dksX2_shields_1 0 rfl rfl)
theorem dX2_shields_25 : decode cX2_shields 25 = .ok (.invokevirtual 260, 3) := dk_182 1 4 (dk_at dksX2_shields_1 2 rfl rfl)
theorem dX2_shields_28 : decode cX2_shields 28 = .ok (.ifCond .ne 59, 3) := dk_154 0 59 (dk_at dksX2_shields_1 5 rfl rfl)
theorem dX2_shields_31 : decode cX2_shields 31 = .ok (.aload_n 1, 1) := dk_43 (dk_at dksX2_shields_1 8 rfl rfl)
theorem dX2_shields_32 : decode cX2_shields 32 = .ok (.bipush 38, 2) := dk_16 38 (dk_at dksX2_shields_1 9 rfl rfl)
theorem dX2_shields_34 : decode cX2_shields 34 = .ok (.iload 4, 2) := dk_21 4 (dk_at dksX2_shields_1 11 rfl rfl)
theorem dX2_shields_36 : decode cX2_shields 36 = .ok (.iadd, 1) := dk_96 (dk_at dksX2_shields_1 13 rfl rfl)
theorem dX2_shields_37 : decode cX2_shields 37 = .ok (.iaload, 1) := dk_46 (dk_at dksX2_shields_1 14 rfl rfl)
theorem dX2_shields_38 : decode cX2_shields 38 = .ok (.iload_n 3, 1) := dk_29 (dk_at dksX2_shields_1 15 rfl rfl)
theorem dX2_shields_39 : decode cX2_shields 39 = .ok (.if_icmp .ne 48, 3) := dk_160 0 48 (dk_at dksX2_shields_1 16 rfl rfl)
theorem dX2_shields_42 : decode cX2_shields 42 = .ok (.aload_n 0, 1) := dk_42 (dk_at dksX2_shields_1 19 rfl rfl)
theorem dX2_shields_43 : decode cX2_shields 43 = .ok (.getfield 17, 3) := dk_180 0 17 (dk_at dksX2_shields_1 20 rfl rfl)
theorem dX2_shields_46 : decode cX2_shields 46 = .ok (.aload_n 0, 1) := dk_42 (dk_at dksX2_shields_1 23 rfl rfl)
theorem dX2_shields_47 : decode cX2_shields 47 = .ok (.getfield 17, 3) := dk_180 0 17 (dk_at dksX2_shields_2 0 rfl rfl)
theorem dX2_shields_50 : decode cX2_shields 50 = .ok (.bipush 86, 2) := dk_16 86 (dk_at dksX2_shields_2 3 rfl rfl)
theorem dX2_shields_52 : decode cX2_shields 52 = .ok (.iload_n 2, 1) := dk_28 (dk_at dksX2_shields_2 5 rfl rfl)
theorem dX2_shields_53 : decode cX2_shields 53 = .ok (.iadd, 1) := dk_96 (dk_at dksX2_shields_2 6 rfl rfl)
theorem dX2_shields_54 : decode cX2_shields 54 = .ok (.iaload, 1) := dk_46 (dk_at dksX2_shields_2 7 rfl rfl)
theorem dX2_shields_55 : decode cX2_shields 55 = .ok (.aload_n 0, 1) := dk_42 (dk_at dksX2_shields_2 8 rfl rfl)
theorem dX2_shields_56 : decode cX2_shields 56 = .ok (.getfield 17, 3) := dk_180 0 17 (dk_at dksX2_shields_2 9 rfl rfl)
theorem dX2_shields_59 : decode cX2_shields 59 = .ok (.bipush 54, 2) := dk_16 54 (dk_at dksX2_shields_2 12 rfl rfl)
theorem dX2_shields_61 : decode cX2_shields 61 = .ok (.iload 4, 2) := dk_21 4 (dk_at dksX2_shields_2 14 rfl rfl)
theorem dX2_shields_63 : decode cX2_shields 63 = .ok (.iadd, 1) := dk_96 (dk_at dksX2_shields_2 16 rfl rfl)
theorem dX2_shields_64 : decode cX2_shields 64 = .ok (.iaload, 1) := dk_46 (dk_at dksX2_shields_2 17 rfl rfl)
theorem dX2_shields_65 : decode cX2_shields 65 = .ok (.aload_n 0, 1) := dk_42 (dk_at dksX2_shields_2 18 rfl rfl)
theorem dX2_shields_66 : decode cX2_shields 66 = .ok (.getfield 17, 3) := dk_180 0 17 (dk_at dksX2_shields_2 19 rfl rfl)
theorem dX2_shields_69 : decode cX2_shields 69 = .ok (.bipush 70, 2) := dk_16 70 (dk_at dksX2_shields_2 22 rfl rfl)
theorem dX2_shields_71 : decode cX2_shields 71 = .ok (.iload 4, 2) := dk_21 4 (dk_at dksX2_shields_3 0 rfl rfl)
theorem dX2_shields_73 : decode cX2_shields 73 = .ok (.iadd, 1) := dk_96 (dk_at dksX2_shields_3 2 rfl rfl)
theorem dX2_shields_74 : decode cX2_shields 74 = .ok (.iaload, 1) := dk_46 (dk_at dksX2_shields_3 3 rfl rfl)
theorem dX2_shields_75 : decode cX2_shields 75 = .ok (.invokestatic 193, 3) := dk_184 0 193 (dk_at dksX2_shields_3 4 rfl rfl)
theorem dX2_shields_78 : decode cX2_shields 78 = .ok (.ifCond .eq 9, 3) := dk_153 0 9 (dk_at dksX2_shields_3 7 rfl rfl)
theorem dX2_shields_81 : decode cX2_shields 81 = .ok (.aload_n 1, 1) := dk_43 (dk_at dksX2_shields_3 10 rfl rfl)
theorem dX2_shields_82 : decode cX2_shields 82 = .ok (.iload 4, 2) := dk_21 4 (dk_at dksX2_shields_3 11 rfl rfl)
theorem dX2_shields_84 : decode cX2_shields 84 = .ok (.invokestatic 412, 3) := dk_184 1 156 (dk_at dksX2_shields_3 13 rfl rfl)
theorem dX2_shields_87 : decode cX2_shields 87 = .ok (.iinc 4 1, 3) := dk_132 4 1 (dk_at dksX2_shields_3 16 rfl rfl)
theorem dX2_shields_90 : decode cX2_shields 90 = .ok (.goto (-80), 3) := dk_167 255 176 (dk_at dksX2_shields_3 19 rfl rfl)
theorem dX2_shields_93 : decode cX2_shields 93 = .ok (.aload_n 0, 1) := dk_42 (dk_at dksX2_shields_3 22 rfl rfl)
theorem dX2_shields_94 : decode cX2_shields 94 = .ok (.aload_n 1, 1) := dk_43 (dk_at dksX2_shields_3 23 rfl rfl)
theorem dX2_shields_95 : decode cX2_shields 95 = .ok (.aload_n 0, 1) := dk_42 (dk_at dksX2_shields_4 0 rfl rfl)
theorem dX2_shields_96 : decode cX2_shields 96 = .ok (.getfield 17, 3) := dk_180 0 17 (dk_at dksX2_shields_4 1 rfl rfl)
theorem dX2_shields_99 : decode cX2_shields 99 = .ok (.bipush 54, 2) := dk_16 54 (dk_at dksX2_shields_4 4 rfl rfl)
theorem dX2_shields_101 : decode cX2_shields 101 = .ok (.iload_n 2, 1) := dk_28 (dk_at dksX2_shields_4 6 rfl rfl)
theorem dX2_shields_102 : decode cX2_shields 102 = .ok (.iadd, 1) := dk_96 (dk_at dksX2_shields_4 7 rfl rfl)
theorem dX2_shields_103 : decode cX2_shields 103 = .ok (.iaload, 1) := dk_46 (dk_at dksX2_shields_4 8 rfl rfl)
theorem dX2_shields_104 : decode cX2_shields 104 = .ok (.aload_n 0, 1) := dk_42 (dk_at dksX2_shields_4 9 rfl rfl)
theorem dX2_shields_105 : decode cX2_shields 105 = .ok (.getfield 17, 3) := dk_180 0 17 (dk_at dksX2_shields_4 10 rfl rfl)
theorem dX2_shields_108 : decode cX2_shields 108 = .ok (.bipush 70, 2) := dk_16 70 (dk_at dksX2_shields_4 13 rfl rfl)
theorem dX2_shields_110 : decode cX2_shields 110 = .ok (.iload_n 2, 1) := dk_28 (dk_at dksX2_shields_4 15 rfl rfl)
theorem dX2_shields_111 : decode cX2_shields 111 = .ok (.iadd, 1) := dk_96 (dk_at dksX2_shields_4 16 rfl rfl)
theorem dX2_shields_112 : decode cX2_shields 112 = .ok (.iaload, 1) := dk_46 (dk_at dksX2_shields_4 17 rfl rfl)
theorem dX2_shields_113 : decode cX2_shields 113 = .ok (.iload_n 3, 1) := dk_29 (dk_at dksX2_shields_4 18 rfl rfl)
theorem dX2_shields_114 : decode cX2_shields 114 = .ok (.iconst 3, 1) := dk_6 (dk_at dksX2_shields_4 19 rfl rfl)
theorem dX2_shields_115 : decode cX2_shields 115 = .ok (.invokevirtual 373, 3) := dk_182 1 117 (dk_at dksX2_shields_4 20 rfl rfl)
theorem dX2_shields_118 : decode cX2_shields 118 = .ok (.aload_n 0, 1) := dk_42 (dk_at dksX2_shields_4 23 rfl rfl)
theorem dX2_shields_119 : decode cX2_shields 119 = .ok (.getfield 17, 3) := dk_180 0 17 (dk_at dksX2_shields_5 0 rfl rfl)
theorem dX2_shields_122 : decode cX2_shields 122 = .ok (.iconst 4, 1) := dk_7 (dk_at dksX2_shields_5 3 rfl rfl)
theorem dX2_shields_123 : decode cX2_shields 123 = .ok (.iaload, 1) := dk_46 (dk_at dksX2_shields_5 4 rfl rfl)
theorem dX2_shields_124 : decode cX2_shields 124 = .ok (.if_icmp .le 35, 3) := dk_164 0 35 (dk_at dksX2_shields_5 5 rfl rfl)
theorem dX2_shields_127 : decode cX2_shields 127 = .ok (.aload_n 1, 1) := dk_43 (dk_at dksX2_shields_5 8 rfl rfl)
theorem dX2_shields_128 : decode cX2_shields 128 = .ok (.aload_n 0, 1) := dk_42 (dk_at dksX2_shields_5 9 rfl rfl)
theorem dX2_shields_129 : decode cX2_shields 129 = .ok (.aload_n 1, 1) := dk_43 (dk_at dksX2_shields_5 10 rfl rfl)
theorem dX2_shields_130 : decode cX2_shields 130 = .ok (.aload_n 0, 1) := dk_42 (dk_at dksX2_shields_5 11 rfl rfl)
theorem dX2_shields_131 : decode cX2_shields 131 = .ok (.getfield 17, 3) := dk_180 0 17 (dk_at dksX2_shields_5 12 rfl rfl)
theorem dX2_shields_134 : decode cX2_shields 134 = .ok (.bipush 54, 2) := dk_16 54 (dk_at dksX2_shields_5 15 rfl rfl)
theorem dX2_shields_136 : decode cX2_shields 136 = .ok (.iload_n 2, 1) := dk_28 (dk_at dksX2_shields_5 17 rfl rfl)
theorem dX2_shields_137 : decode cX2_shields 137 = .ok (.iadd, 1) := dk_96 (dk_at dksX2_shields_5 18 rfl rfl)
theorem dX2_shields_138 : decode cX2_shields 138 = .ok (.iaload, 1) := dk_46 (dk_at dksX2_shields_5 19 rfl rfl)
theorem dX2_shields_139 : decode cX2_shields 139 = .ok (.aload_n 0, 1) := dk_42 (dk_at dksX2_shields_5 20 rfl rfl)
theorem dX2_shields_140 : decode cX2_shields 140 = .ok (.getfield 17, 3) := dk_180 0 17 (dk_at dksX2_shields_5 21 rfl rfl)
theorem dX2_shields_143 : decode cX2_shields 143 = .ok (.bipush 70, 2) := dk_16 70 (dk_at dksX2_shields_6 0 rfl rfl)
theorem dX2_shields_145 : decode cX2_shields 145 = .ok (.iload_n 2, 1) := dk_28 (dk_at dksX2_shields_6 2 rfl rfl)
theorem dX2_shields_146 : decode cX2_shields 146 = .ok (.iadd, 1) := dk_96 (dk_at dksX2_shields_6 3 rfl rfl)
theorem dX2_shields_147 : decode cX2_shields 147 = .ok (.iaload, 1) := dk_46 (dk_at dksX2_shields_6 4 rfl rfl)
theorem dX2_shields_148 : decode cX2_shields 148 = .ok (.iload_n 3, 1) := dk_29 (dk_at dksX2_shields_6 5 rfl rfl)
theorem dX2_shields_149 : decode cX2_shields 149 = .ok (.iconst 3, 1) := dk_6 (dk_at dksX2_shields_6 6 rfl rfl)
theorem dX2_shields_150 : decode cX2_shields 150 = .ok (.invokevirtual 409, 3) := dk_182 1 153 (dk_at dksX2_shields_6 7 rfl rfl)
theorem dX2_shields_153 : decode cX2_shields 153 = .ok (.invokestatic 412, 3) := dk_184 1 156 (dk_at dksX2_shields_6 10 rfl rfl)
theorem dX2_shields_156 : decode cX2_shields 156 = .ok (.goto (-63), 3) := dk_167 255 193 (dk_at dksX2_shields_6 13 rfl rfl)
theorem dX2_shields_159 : decode cX2_shields 159 = .ok (.return_, 1) := dk_177 (dk_at dksX2_shields_6 16 rfl rfl)
abbrev cX2_grants : ByteArray := prog_22_method_77_code
def yX2_grants : MethodName := ⟨RX2, "grants", "([I)V"⟩
def dkwX2_grants_6 : List UInt8 := [167, 0, 10, 42, 43, 21, 4, 182, 1, 187, 132, 3, 1, 167, 255, 157, 42, 3, 182, 1, 176, 177]
abbrev dktX2_grants_6 : List UInt8 := dkwX2_grants_6 ++ []
def dkwX2_grants_5 : List UInt8 := [21, 4, 184, 1, 146, 42, 21, 4, 182, 1, 4, 153, 0, 16, 42, 43, 182, 1, 183, 42, 4, 182, 1, 176]
abbrev dktX2_grants_5 : List UInt8 := dkwX2_grants_5 ++ dktX2_grants_6
def dkwX2_grants_4 : List UInt8 := [43, 16, 38, 21, 4, 96, 42, 180, 1, 132, 79, 43, 16, 54, 21, 4, 96, 42, 180, 1, 135, 79, 43, 3]
abbrev dktX2_grants_4 : List UInt8 := dkwX2_grants_4 ++ dktX2_grants_5
def dkwX2_grants_3 : List UInt8 := [43, 21, 4, 182, 1, 180, 42, 180, 1, 132, 2, 160, 0, 6, 167, 0, 68, 43, 21, 4, 5, 184, 1, 150]
abbrev dktX2_grants_3 : List UInt8 := dkwX2_grants_3 ++ dktX2_grants_4
def dkwX2_grants_2 : List UInt8 := [167, 255, 214, 42, 4, 182, 1, 176, 3, 62, 29, 28, 162, 0, 100, 42, 180, 0, 79, 29, 46, 54, 4, 42]
abbrev dktX2_grants_2 : List UInt8 := dkwX2_grants_2 ++ dktX2_grants_3
def dkwX2_grants_1 : List UInt8 := [159, 0, 6, 167, 0, 18, 42, 180, 0, 79, 42, 43, 29, 182, 1, 172, 29, 79, 132, 2, 1, 132, 3, 1]
abbrev dktX2_grants_1 : List UInt8 := dkwX2_grants_1 ++ dktX2_grants_2
def dkwX2_grants_0 : List UInt8 := [3, 61, 3, 62, 29, 42, 180, 0, 17, 16, 10, 46, 162, 0, 37, 43, 16, 6, 29, 96, 46, 4]
abbrev dktX2_grants_0 : List UInt8 := dkwX2_grants_0 ++ dktX2_grants_1
theorem dksX2_grants_0 : cX2_grants.data.toList.drop 0 = dktX2_grants_0 := by decide +kernel
theorem dksX2_grants_1 : cX2_grants.data.toList.drop 22 = dktX2_grants_1 := dk_seg dksX2_grants_0 22 rfl rfl
theorem dksX2_grants_2 : cX2_grants.data.toList.drop 46 = dktX2_grants_2 := dk_seg dksX2_grants_1 24 rfl rfl
theorem dksX2_grants_3 : cX2_grants.data.toList.drop 70 = dktX2_grants_3 := dk_seg dksX2_grants_2 24 rfl rfl
theorem dksX2_grants_4 : cX2_grants.data.toList.drop 94 = dktX2_grants_4 := dk_seg dksX2_grants_3 24 rfl rfl
theorem dksX2_grants_5 : cX2_grants.data.toList.drop 118 = dktX2_grants_5 := dk_seg dksX2_grants_4 24 rfl rfl
theorem dksX2_grants_6 : cX2_grants.data.toList.drop 142 = dktX2_grants_6 := dk_seg dksX2_grants_5 24 rfl rfl
theorem dX2_grants_0 : decode cX2_grants 0 = .ok (.iconst 0, 1) := dk_3 (dk_at dksX2_grants_0 0 rfl rfl)
theorem dX2_grants_1 : decode cX2_grants 1 = .ok (.istore_n 2, 1) := dk_61 (dk_at dksX2_grants_0 1 rfl rfl)
theorem dX2_grants_2 : decode cX2_grants 2 = .ok (.iconst 0, 1) := dk_3 (dk_at dksX2_grants_0 2 rfl rfl)
theorem dX2_grants_3 : decode cX2_grants 3 = .ok (.istore_n 3, 1) := dk_62 (dk_at dksX2_grants_0 3 rfl rfl)
theorem dX2_grants_4 : decode cX2_grants 4 = .ok (.iload_n 3, 1) := dk_29 (dk_at dksX2_grants_0 4 rfl rfl)
theorem dX2_grants_5 : decode cX2_grants 5 = .ok (.aload_n 0, 1) := dk_42 (dk_at dksX2_grants_0 5 rfl rfl)
theorem dX2_grants_6 : decode cX2_grants 6 = .ok (.getfield 17, 3) := dk_180 0 17 (dk_at dksX2_grants_0 6 rfl rfl)
theorem dX2_grants_9 : decode cX2_grants 9 = .ok (.bipush 10, 2) := dk_16 10 (dk_at dksX2_grants_0 9 rfl rfl)
theorem dX2_grants_11 : decode cX2_grants 11 = .ok (.iaload, 1) := dk_46 (dk_at dksX2_grants_0 11 rfl rfl)
theorem dX2_grants_12 : decode cX2_grants 12 = .ok (.if_icmp .ge 37, 3) := dk_162 0 37 (dk_at dksX2_grants_0 12 rfl rfl)
theorem dX2_grants_15 : decode cX2_grants 15 = .ok (.aload_n 1, 1) := dk_43 (dk_at dksX2_grants_0 15 rfl rfl)
theorem dX2_grants_16 : decode cX2_grants 16 = .ok (.bipush 6, 2) := dk_16 6 (dk_at dksX2_grants_0 16 rfl rfl)
theorem dX2_grants_18 : decode cX2_grants 18 = .ok (.iload_n 3, 1) := dk_29 (dk_at dksX2_grants_0 18 rfl rfl)
theorem dX2_grants_19 : decode cX2_grants 19 = .ok (.iadd, 1) := dk_96 (dk_at dksX2_grants_0 19 rfl rfl)
theorem dX2_grants_20 : decode cX2_grants 20 = .ok (.iaload, 1) := dk_46 (dk_at dksX2_grants_0 20 rfl rfl)
theorem dX2_grants_21 : decode cX2_grants 21 = .ok (.iconst 1, 1) := dk_4 (dk_at dksX2_grants_0 21 rfl rfl)
theorem dX2_grants_22 : decode cX2_grants 22 = .ok (.if_icmp .eq 6, 3) := dk_159 0 6 (dk_at dksX2_grants_1 0 rfl rfl)
theorem dX2_grants_25 : decode cX2_grants 25 = .ok (.goto 18, 3) := dk_167 0 18 (dk_at dksX2_grants_1 3 rfl rfl)
theorem dX2_grants_28 : decode cX2_grants 28 = .ok (.aload_n 0, 1) := dk_42 (dk_at dksX2_grants_1 6 rfl rfl)
theorem dX2_grants_29 : decode cX2_grants 29 = .ok (.getfield 79, 3) := dk_180 0 79 (dk_at dksX2_grants_1 7 rfl rfl)
theorem dX2_grants_32 : decode cX2_grants 32 = .ok (.aload_n 0, 1) := dk_42 (dk_at dksX2_grants_1 10 rfl rfl)
theorem dX2_grants_33 : decode cX2_grants 33 = .ok (.aload_n 1, 1) := dk_43 (dk_at dksX2_grants_1 11 rfl rfl)
theorem dX2_grants_34 : decode cX2_grants 34 = .ok (.iload_n 3, 1) := dk_29 (dk_at dksX2_grants_1 12 rfl rfl)
theorem dX2_grants_35 : decode cX2_grants 35 = .ok (.invokevirtual 428, 3) := dk_182 1 172 (dk_at dksX2_grants_1 13 rfl rfl)
theorem dX2_grants_38 : decode cX2_grants 38 = .ok (.iload_n 3, 1) := dk_29 (dk_at dksX2_grants_1 16 rfl rfl)
theorem dX2_grants_39 : decode cX2_grants 39 = .ok (.iastore, 1) := dk_79 (dk_at dksX2_grants_1 17 rfl rfl)
theorem dX2_grants_40 : decode cX2_grants 40 = .ok (.iinc 2 1, 3) := dk_132 2 1 (dk_at dksX2_grants_1 18 rfl rfl)
theorem dX2_grants_43 : decode cX2_grants 43 = .ok (.iinc 3 1, 3) := dk_132 3 1 (dk_at dksX2_grants_1 21 rfl rfl)
theorem dX2_grants_46 : decode cX2_grants 46 = .ok (.goto (-42), 3) := dk_167 255 214 (dk_at dksX2_grants_2 0 rfl rfl)
theorem dX2_grants_49 : decode cX2_grants 49 = .ok (.aload_n 0, 1) := dk_42 (dk_at dksX2_grants_2 3 rfl rfl)
theorem dX2_grants_50 : decode cX2_grants 50 = .ok (.iconst 1, 1) := dk_4 (dk_at dksX2_grants_2 4 rfl rfl)
theorem dX2_grants_51 : decode cX2_grants 51 = .ok (.invokevirtual 432, 3) := dk_182 1 176 (dk_at dksX2_grants_2 5 rfl rfl)
theorem dX2_grants_54 : decode cX2_grants 54 = .ok (.iconst 0, 1) := dk_3 (dk_at dksX2_grants_2 8 rfl rfl)
theorem dX2_grants_55 : decode cX2_grants 55 = .ok (.istore_n 3, 1) := dk_62 (dk_at dksX2_grants_2 9 rfl rfl)
theorem dX2_grants_56 : decode cX2_grants 56 = .ok (.iload_n 3, 1) := dk_29 (dk_at dksX2_grants_2 10 rfl rfl)
theorem dX2_grants_57 : decode cX2_grants 57 = .ok (.iload_n 2, 1) := dk_28 (dk_at dksX2_grants_2 11 rfl rfl)
theorem dX2_grants_58 : decode cX2_grants 58 = .ok (.if_icmp .ge 100, 3) := dk_162 0 100 (dk_at dksX2_grants_2 12 rfl rfl)
theorem dX2_grants_61 : decode cX2_grants 61 = .ok (.aload_n 0, 1) := dk_42 (dk_at dksX2_grants_2 15 rfl rfl)
theorem dX2_grants_62 : decode cX2_grants 62 = .ok (.getfield 79, 3) := dk_180 0 79 (dk_at dksX2_grants_2 16 rfl rfl)
theorem dX2_grants_65 : decode cX2_grants 65 = .ok (.iload_n 3, 1) := dk_29 (dk_at dksX2_grants_2 19 rfl rfl)
theorem dX2_grants_66 : decode cX2_grants 66 = .ok (.iaload, 1) := dk_46 (dk_at dksX2_grants_2 20 rfl rfl)
theorem dX2_grants_67 : decode cX2_grants 67 = .ok (.istore 4, 2) := dk_54 4 (dk_at dksX2_grants_2 21 rfl rfl)
theorem dX2_grants_69 : decode cX2_grants 69 = .ok (.aload_n 0, 1) := dk_42 (dk_at dksX2_grants_2 23 rfl rfl)
theorem dX2_grants_70 : decode cX2_grants 70 = .ok (.aload_n 1, 1) := dk_43 (dk_at dksX2_grants_3 0 rfl rfl)
theorem dX2_grants_71 : decode cX2_grants 71 = .ok (.iload 4, 2) := dk_21 4 (dk_at dksX2_grants_3 1 rfl rfl)
theorem dX2_grants_73 : decode cX2_grants 73 = .ok (.invokevirtual 436, 3) := dk_182 1 180 (dk_at dksX2_grants_3 3 rfl rfl)
theorem dX2_grants_76 : decode cX2_grants 76 = .ok (.aload_n 0, 1) := dk_42 (dk_at dksX2_grants_3 6 rfl rfl)
theorem dX2_grants_77 : decode cX2_grants 77 = .ok (.getfield 388, 3) := dk_180 1 132 (dk_at dksX2_grants_3 7 rfl rfl)
theorem dX2_grants_80 : decode cX2_grants 80 = .ok (.iconst (-1), 1) := dk_2 (dk_at dksX2_grants_3 10 rfl rfl)
theorem dX2_grants_81 : decode cX2_grants 81 = .ok (.if_icmp .ne 6, 3) := dk_160 0 6 (dk_at dksX2_grants_3 11 rfl rfl)
theorem dX2_grants_84 : decode cX2_grants 84 = .ok (.goto 68, 3) := dk_167 0 68 (dk_at dksX2_grants_3 14 rfl rfl)
theorem dX2_grants_87 : decode cX2_grants 87 = .ok (.aload_n 1, 1) := dk_43 (dk_at dksX2_grants_3 17 rfl rfl)
theorem dX2_grants_88 : decode cX2_grants 88 = .ok (.iload 4, 2) := dk_21 4 (dk_at dksX2_grants_3 18 rfl rfl)
theorem dX2_grants_90 : decode cX2_grants 90 = .ok (.iconst 2, 1) := dk_5 (dk_at dksX2_grants_3 20 rfl rfl)
theorem dX2_grants_91 : decode cX2_grants 91 = .ok (.invokestatic 406, 3) := dk_184 1 150 (dk_at dksX2_grants_3 21 rfl rfl)
theorem dX2_grants_94 : decode cX2_grants 94 = .ok (.aload_n 1, 1) := dk_43 (dk_at dksX2_grants_4 0 rfl rfl)
theorem dX2_grants_95 : decode cX2_grants 95 = .ok (.bipush 38, 2) := dk_16 38 (dk_at dksX2_grants_4 1 rfl rfl)
theorem dX2_grants_97 : decode cX2_grants 97 = .ok (.iload 4, 2) := dk_21 4 (dk_at dksX2_grants_4 3 rfl rfl)
theorem dX2_grants_99 : decode cX2_grants 99 = .ok (.iadd, 1) := dk_96 (dk_at dksX2_grants_4 5 rfl rfl)
theorem dX2_grants_100 : decode cX2_grants 100 = .ok (.aload_n 0, 1) := dk_42 (dk_at dksX2_grants_4 6 rfl rfl)
theorem dX2_grants_101 : decode cX2_grants 101 = .ok (.getfield 388, 3) := dk_180 1 132 (dk_at dksX2_grants_4 7 rfl rfl)
theorem dX2_grants_104 : decode cX2_grants 104 = .ok (.iastore, 1) := dk_79 (dk_at dksX2_grants_4 10 rfl rfl)
theorem dX2_grants_105 : decode cX2_grants 105 = .ok (.aload_n 1, 1) := dk_43 (dk_at dksX2_grants_4 11 rfl rfl)
theorem dX2_grants_106 : decode cX2_grants 106 = .ok (.bipush 54, 2) := dk_16 54 (dk_at dksX2_grants_4 12 rfl rfl)
theorem dX2_grants_108 : decode cX2_grants 108 = .ok (.iload 4, 2) := dk_21 4 (dk_at dksX2_grants_4 14 rfl rfl)
theorem dX2_grants_110 : decode cX2_grants 110 = .ok (.iadd, 1) := dk_96 (dk_at dksX2_grants_4 16 rfl rfl)
theorem dX2_grants_111 : decode cX2_grants 111 = .ok (.aload_n 0, 1) := dk_42 (dk_at dksX2_grants_4 17 rfl rfl)
theorem dX2_grants_112 : decode cX2_grants 112 = .ok (.getfield 391, 3) := dk_180 1 135 (dk_at dksX2_grants_4 18 rfl rfl)
theorem dX2_grants_115 : decode cX2_grants 115 = .ok (.iastore, 1) := dk_79 (dk_at dksX2_grants_4 21 rfl rfl)
theorem dX2_grants_116 : decode cX2_grants 116 = .ok (.aload_n 1, 1) := dk_43 (dk_at dksX2_grants_4 22 rfl rfl)
theorem dX2_grants_117 : decode cX2_grants 117 = .ok (.iconst 0, 1) := dk_3 (dk_at dksX2_grants_4 23 rfl rfl)
theorem dX2_grants_118 : decode cX2_grants 118 = .ok (.iload 4, 2) := dk_21 4 (dk_at dksX2_grants_5 0 rfl rfl)
theorem dX2_grants_120 : decode cX2_grants 120 = .ok (.invokestatic 402, 3) := dk_184 1 146 (dk_at dksX2_grants_5 2 rfl rfl)
theorem dX2_grants_123 : decode cX2_grants 123 = .ok (.aload_n 0, 1) := dk_42 (dk_at dksX2_grants_5 5 rfl rfl)
theorem dX2_grants_124 : decode cX2_grants 124 = .ok (.iload 4, 2) := dk_21 4 (dk_at dksX2_grants_5 6 rfl rfl)
theorem dX2_grants_126 : decode cX2_grants 126 = .ok (.invokevirtual 260, 3) := dk_182 1 4 (dk_at dksX2_grants_5 8 rfl rfl)
theorem dX2_grants_129 : decode cX2_grants 129 = .ok (.ifCond .eq 16, 3) := dk_153 0 16 (dk_at dksX2_grants_5 11 rfl rfl)
theorem dX2_grants_132 : decode cX2_grants 132 = .ok (.aload_n 0, 1) := dk_42 (dk_at dksX2_grants_5 14 rfl rfl)
theorem dX2_grants_133 : decode cX2_grants 133 = .ok (.aload_n 1, 1) := dk_43 (dk_at dksX2_grants_5 15 rfl rfl)
theorem dX2_grants_134 : decode cX2_grants 134 = .ok (.invokevirtual 439, 3) := dk_182 1 183 (dk_at dksX2_grants_5 16 rfl rfl)
theorem dX2_grants_137 : decode cX2_grants 137 = .ok (.aload_n 0, 1) := dk_42 (dk_at dksX2_grants_5 19 rfl rfl)
theorem dX2_grants_138 : decode cX2_grants 138 = .ok (.iconst 1, 1) := dk_4 (dk_at dksX2_grants_5 20 rfl rfl)
theorem dX2_grants_139 : decode cX2_grants 139 = .ok (.invokevirtual 432, 3) := dk_182 1 176 (dk_at dksX2_grants_5 21 rfl rfl)
theorem dX2_grants_142 : decode cX2_grants 142 = .ok (.goto 10, 3) := dk_167 0 10 (dk_at dksX2_grants_6 0 rfl rfl)
theorem dX2_grants_145 : decode cX2_grants 145 = .ok (.aload_n 0, 1) := dk_42 (dk_at dksX2_grants_6 3 rfl rfl)
theorem dX2_grants_146 : decode cX2_grants 146 = .ok (.aload_n 1, 1) := dk_43 (dk_at dksX2_grants_6 4 rfl rfl)
theorem dX2_grants_147 : decode cX2_grants 147 = .ok (.iload 4, 2) := dk_21 4 (dk_at dksX2_grants_6 5 rfl rfl)
theorem dX2_grants_149 : decode cX2_grants 149 = .ok (.invokevirtual 443, 3) := dk_182 1 187 (dk_at dksX2_grants_6 7 rfl rfl)
theorem dX2_grants_152 : decode cX2_grants 152 = .ok (.iinc 3 1, 3) := dk_132 3 1 (dk_at dksX2_grants_6 10 rfl rfl)
theorem dX2_grants_155 : decode cX2_grants 155 = .ok (.goto (-99), 3) := dk_167 255 157 (dk_at dksX2_grants_6 13 rfl rfl)
theorem dX2_grants_158 : decode cX2_grants 158 = .ok (.aload_n 0, 1) := dk_42 (dk_at dksX2_grants_6 16 rfl rfl)
theorem dX2_grants_159 : decode cX2_grants 159 = .ok (.iconst 0, 1) := dk_3 (dk_at dksX2_grants_6 17 rfl rfl)
theorem dX2_grants_160 : decode cX2_grants 160 = .ok (.invokevirtual 432, 3) := dk_182 1 176 (dk_at dksX2_grants_6 18 rfl rfl)
theorem dX2_grants_163 : decode cX2_grants 163 = .ok (.return_, 1) := dk_177 (dk_at dksX2_grants_6 21 rfl rfl)
abbrev cX2_keepRooms : ByteArray := prog_22_method_60_code
def yX2_keepRooms : MethodName := ⟨RX2, "keepRooms", "(Z)V"⟩
def dkwX2_keepRooms_0 : List UInt8 := [42, 27, 181, 1, 105, 42, 3, 181, 1, 98, 42, 3, 181, 1, 108, 177]
abbrev dktX2_keepRooms_0 : List UInt8 := dkwX2_keepRooms_0 ++ []
theorem dksX2_keepRooms_0 : cX2_keepRooms.data.toList.drop 0 = dktX2_keepRooms_0 := by decide +kernel
theorem dX2_keepRooms_0 : decode cX2_keepRooms 0 = .ok (.aload_n 0, 1) := dk_42 (dk_at dksX2_keepRooms_0 0 rfl rfl)
theorem dX2_keepRooms_1 : decode cX2_keepRooms 1 = .ok (.iload_n 1, 1) := dk_27 (dk_at dksX2_keepRooms_0 1 rfl rfl)
theorem dX2_keepRooms_2 : decode cX2_keepRooms 2 = .ok (.putfield 361, 3) := dk_181 1 105 (dk_at dksX2_keepRooms_0 2 rfl rfl)
theorem dX2_keepRooms_5 : decode cX2_keepRooms 5 = .ok (.aload_n 0, 1) := dk_42 (dk_at dksX2_keepRooms_0 5 rfl rfl)
theorem dX2_keepRooms_6 : decode cX2_keepRooms 6 = .ok (.iconst 0, 1) := dk_3 (dk_at dksX2_keepRooms_0 6 rfl rfl)
theorem dX2_keepRooms_7 : decode cX2_keepRooms 7 = .ok (.putfield 354, 3) := dk_181 1 98 (dk_at dksX2_keepRooms_0 7 rfl rfl)
theorem dX2_keepRooms_10 : decode cX2_keepRooms 10 = .ok (.aload_n 0, 1) := dk_42 (dk_at dksX2_keepRooms_0 10 rfl rfl)
theorem dX2_keepRooms_11 : decode cX2_keepRooms 11 = .ok (.iconst 0, 1) := dk_3 (dk_at dksX2_keepRooms_0 11 rfl rfl)
theorem dX2_keepRooms_12 : decode cX2_keepRooms 12 = .ok (.putfield 364, 3) := dk_181 1 108 (dk_at dksX2_keepRooms_0 12 rfl rfl)
theorem dX2_keepRooms_15 : decode cX2_keepRooms 15 = .ok (.return_, 1) := dk_177 (dk_at dksX2_keepRooms_0 15 rfl rfl)
abbrev cX2_startsIn : ByteArray := prog_22_method_59_code
def yX2_startsIn : MethodName := ⟨RX2, "startsIn", "([II)V"⟩
def dkwX2_startsIn_4 : List UInt8 := [16, 70, 29, 96, 46, 43, 16, 38, 29, 96, 46, 182, 1, 73, 100, 79, 132, 3, 1, 167, 255, 185, 177]
abbrev dktX2_startsIn_4 : List UInt8 := dkwX2_startsIn_4 ++ []
def dkwX2_startsIn_3 : List UInt8 := [42, 180, 0, 73, 29, 92, 46, 42, 43, 28, 42, 180, 0, 17, 16, 54, 29, 96, 46, 42, 180, 0, 17]
abbrev dktX2_startsIn_3 : List UInt8 := dkwX2_startsIn_3 ++ dktX2_startsIn_4
def dkwX2_startsIn_2 : List UInt8 := [16, 10, 46, 162, 0, 66, 42, 29, 182, 1, 4, 153, 0, 52, 43, 16, 6, 29, 96, 46, 5, 160, 0, 42]
abbrev dktX2_startsIn_2 : List UInt8 := dkwX2_startsIn_2 ++ dktX2_startsIn_3
def dkwX2_startsIn_1 : List UInt8 := [153, 0, 11, 42, 43, 28, 29, 3, 182, 1, 101, 132, 3, 1, 167, 255, 222, 3, 62, 29, 42, 180, 0, 17]
abbrev dktX2_startsIn_1 : List UInt8 := dkwX2_startsIn_1 ++ dktX2_startsIn_2
def dkwX2_startsIn_0 : List UInt8 := [3, 62, 29, 43, 7, 46, 162, 0, 33, 42, 180, 1, 98, 153, 0, 26, 42, 180, 0, 76, 29, 51]
abbrev dktX2_startsIn_0 : List UInt8 := dkwX2_startsIn_0 ++ dktX2_startsIn_1
theorem dksX2_startsIn_0 : cX2_startsIn.data.toList.drop 0 = dktX2_startsIn_0 := by decide +kernel
theorem dksX2_startsIn_1 : cX2_startsIn.data.toList.drop 22 = dktX2_startsIn_1 := dk_seg dksX2_startsIn_0 22 rfl rfl
theorem dksX2_startsIn_2 : cX2_startsIn.data.toList.drop 46 = dktX2_startsIn_2 := dk_seg dksX2_startsIn_1 24 rfl rfl
theorem dksX2_startsIn_3 : cX2_startsIn.data.toList.drop 70 = dktX2_startsIn_3 := dk_seg dksX2_startsIn_2 24 rfl rfl
theorem dksX2_startsIn_4 : cX2_startsIn.data.toList.drop 93 = dktX2_startsIn_4 := dk_seg dksX2_startsIn_3 23 rfl rfl
theorem dX2_startsIn_0 : decode cX2_startsIn 0 = .ok (.iconst 0, 1) := dk_3 (dk_at dksX2_startsIn_0 0 rfl rfl)
theorem dX2_startsIn_1 : decode cX2_startsIn 1 = .ok (.istore_n 3, 1) := dk_62 (dk_at dksX2_startsIn_0 1 rfl rfl)
theorem dX2_startsIn_2 : decode cX2_startsIn 2 = .ok (.iload_n 3, 1) := dk_29 (dk_at dksX2_startsIn_0 2 rfl rfl)
theorem dX2_startsIn_3 : decode cX2_startsIn 3 = .ok (.aload_n 1, 1) := dk_43 (dk_at dksX2_startsIn_0 3 rfl rfl)
theorem dX2_startsIn_4 : decode cX2_startsIn 4 = .ok (.iconst 4, 1) := dk_7 (dk_at dksX2_startsIn_0 4 rfl rfl)
theorem dX2_startsIn_5 : decode cX2_startsIn 5 = .ok (.iaload, 1) := dk_46 (dk_at dksX2_startsIn_0 5 rfl rfl)
theorem dX2_startsIn_6 : decode cX2_startsIn 6 = .ok (.if_icmp .ge 33, 3) := dk_162 0 33 (dk_at dksX2_startsIn_0 6 rfl rfl)
theorem dX2_startsIn_9 : decode cX2_startsIn 9 = .ok (.aload_n 0, 1) := dk_42 (dk_at dksX2_startsIn_0 9 rfl rfl)
theorem dX2_startsIn_10 : decode cX2_startsIn 10 = .ok (.getfield 354, 3) := dk_180 1 98 (dk_at dksX2_startsIn_0 10 rfl rfl)
theorem dX2_startsIn_13 : decode cX2_startsIn 13 = .ok (.ifCond .eq 26, 3) := dk_153 0 26 (dk_at dksX2_startsIn_0 13 rfl rfl)
theorem dX2_startsIn_16 : decode cX2_startsIn 16 = .ok (.aload_n 0, 1) := dk_42 (dk_at dksX2_startsIn_0 16 rfl rfl)
theorem dX2_startsIn_17 : decode cX2_startsIn 17 = .ok (.getfield 76, 3) := dk_180 0 76 (dk_at dksX2_startsIn_0 17 rfl rfl)
theorem dX2_startsIn_20 : decode cX2_startsIn 20 = .ok (.iload_n 3, 1) := dk_29 (dk_at dksX2_startsIn_0 20 rfl rfl)
theorem dX2_startsIn_21 : decode cX2_startsIn 21 = .ok (.baload, 1) := dk_51 (dk_at dksX2_startsIn_0 21 rfl rfl)
theorem dX2_startsIn_22 : decode cX2_startsIn 22 = .ok (.ifCond .eq 11, 3) := dk_153 0 11 (dk_at dksX2_startsIn_1 0 rfl rfl)
theorem dX2_startsIn_25 : decode cX2_startsIn 25 = .ok (.aload_n 0, 1) := dk_42 (dk_at dksX2_startsIn_1 3 rfl rfl)
theorem dX2_startsIn_26 : decode cX2_startsIn 26 = .ok (.aload_n 1, 1) := dk_43 (dk_at dksX2_startsIn_1 4 rfl rfl)
theorem dX2_startsIn_27 : decode cX2_startsIn 27 = .ok (.iload_n 2, 1) := dk_28 (dk_at dksX2_startsIn_1 5 rfl rfl)
theorem dX2_startsIn_28 : decode cX2_startsIn 28 = .ok (.iload_n 3, 1) := dk_29 (dk_at dksX2_startsIn_1 6 rfl rfl)
theorem dX2_startsIn_29 : decode cX2_startsIn 29 = .ok (.iconst 0, 1) := dk_3 (dk_at dksX2_startsIn_1 7 rfl rfl)
theorem dX2_startsIn_30 : decode cX2_startsIn 30 = .ok (.invokevirtual 357, 3) := dk_182 1 101 (dk_at dksX2_startsIn_1 8 rfl rfl)
theorem dX2_startsIn_33 : decode cX2_startsIn 33 = .ok (.iinc 3 1, 3) := dk_132 3 1 (dk_at dksX2_startsIn_1 11 rfl rfl)
theorem dX2_startsIn_36 : decode cX2_startsIn 36 = .ok (.goto (-34), 3) := dk_167 255 222 (dk_at dksX2_startsIn_1 14 rfl rfl)
theorem dX2_startsIn_39 : decode cX2_startsIn 39 = .ok (.iconst 0, 1) := dk_3 (dk_at dksX2_startsIn_1 17 rfl rfl)
theorem dX2_startsIn_40 : decode cX2_startsIn 40 = .ok (.istore_n 3, 1) := dk_62 (dk_at dksX2_startsIn_1 18 rfl rfl)
theorem dX2_startsIn_41 : decode cX2_startsIn 41 = .ok (.iload_n 3, 1) := dk_29 (dk_at dksX2_startsIn_1 19 rfl rfl)
theorem dX2_startsIn_42 : decode cX2_startsIn 42 = .ok (.aload_n 0, 1) := dk_42 (dk_at dksX2_startsIn_1 20 rfl rfl)
theorem dX2_startsIn_43 : decode cX2_startsIn 43 = .ok (.getfield 17, 3) := dk_180 0 17 (dk_at dksX2_startsIn_1 21 rfl rfl)
theorem dX2_startsIn_46 : decode cX2_startsIn 46 = .ok (.bipush 10, 2) := dk_16 10 (dk_at dksX2_startsIn_2 0 rfl rfl)
theorem dX2_startsIn_48 : decode cX2_startsIn 48 = .ok (.iaload, 1) := dk_46 (dk_at dksX2_startsIn_2 2 rfl rfl)
theorem dX2_startsIn_49 : decode cX2_startsIn 49 = .ok (.if_icmp .ge 66, 3) := dk_162 0 66 (dk_at dksX2_startsIn_2 3 rfl rfl)
theorem dX2_startsIn_52 : decode cX2_startsIn 52 = .ok (.aload_n 0, 1) := dk_42 (dk_at dksX2_startsIn_2 6 rfl rfl)
theorem dX2_startsIn_53 : decode cX2_startsIn 53 = .ok (.iload_n 3, 1) := dk_29 (dk_at dksX2_startsIn_2 7 rfl rfl)
theorem dX2_startsIn_54 : decode cX2_startsIn 54 = .ok (.invokevirtual 260, 3) := dk_182 1 4 (dk_at dksX2_startsIn_2 8 rfl rfl)
theorem dX2_startsIn_57 : decode cX2_startsIn 57 = .ok (.ifCond .eq 52, 3) := dk_153 0 52 (dk_at dksX2_startsIn_2 11 rfl rfl)
theorem dX2_startsIn_60 : decode cX2_startsIn 60 = .ok (.aload_n 1, 1) := dk_43 (dk_at dksX2_startsIn_2 14 rfl rfl)
theorem dX2_startsIn_61 : decode cX2_startsIn 61 = .ok (.bipush 6, 2) := dk_16 6 (dk_at dksX2_startsIn_2 15 rfl rfl)
theorem dX2_startsIn_63 : decode cX2_startsIn 63 = .ok (.iload_n 3, 1) := dk_29 (dk_at dksX2_startsIn_2 17 rfl rfl)
theorem dX2_startsIn_64 : decode cX2_startsIn 64 = .ok (.iadd, 1) := dk_96 (dk_at dksX2_startsIn_2 18 rfl rfl)
theorem dX2_startsIn_65 : decode cX2_startsIn 65 = .ok (.iaload, 1) := dk_46 (dk_at dksX2_startsIn_2 19 rfl rfl)
theorem dX2_startsIn_66 : decode cX2_startsIn 66 = .ok (.iconst 2, 1) := dk_5 (dk_at dksX2_startsIn_2 20 rfl rfl)
theorem dX2_startsIn_67 : decode cX2_startsIn 67 = .ok (.if_icmp .ne 42, 3) := dk_160 0 42 (dk_at dksX2_startsIn_2 21 rfl rfl)
theorem dX2_startsIn_70 : decode cX2_startsIn 70 = .ok (.aload_n 0, 1) := dk_42 (dk_at dksX2_startsIn_3 0 rfl rfl)
theorem dX2_startsIn_71 : decode cX2_startsIn 71 = .ok (.getfield 73, 3) := dk_180 0 73 (dk_at dksX2_startsIn_3 1 rfl rfl)
theorem dX2_startsIn_74 : decode cX2_startsIn 74 = .ok (.iload_n 3, 1) := dk_29 (dk_at dksX2_startsIn_3 4 rfl rfl)
theorem dX2_startsIn_75 : decode cX2_startsIn 75 = .ok (.dup2, 1) := dk_92 (dk_at dksX2_startsIn_3 5 rfl rfl)
theorem dX2_startsIn_76 : decode cX2_startsIn 76 = .ok (.iaload, 1) := dk_46 (dk_at dksX2_startsIn_3 6 rfl rfl)
theorem dX2_startsIn_77 : decode cX2_startsIn 77 = .ok (.aload_n 0, 1) := dk_42 (dk_at dksX2_startsIn_3 7 rfl rfl)
theorem dX2_startsIn_78 : decode cX2_startsIn 78 = .ok (.aload_n 1, 1) := dk_43 (dk_at dksX2_startsIn_3 8 rfl rfl)
theorem dX2_startsIn_79 : decode cX2_startsIn 79 = .ok (.iload_n 2, 1) := dk_28 (dk_at dksX2_startsIn_3 9 rfl rfl)
theorem dX2_startsIn_80 : decode cX2_startsIn 80 = .ok (.aload_n 0, 1) := dk_42 (dk_at dksX2_startsIn_3 10 rfl rfl)
theorem dX2_startsIn_81 : decode cX2_startsIn 81 = .ok (.getfield 17, 3) := dk_180 0 17 (dk_at dksX2_startsIn_3 11 rfl rfl)
theorem dX2_startsIn_84 : decode cX2_startsIn 84 = .ok (.bipush 54, 2) := dk_16 54 (dk_at dksX2_startsIn_3 14 rfl rfl)
theorem dX2_startsIn_86 : decode cX2_startsIn 86 = .ok (.iload_n 3, 1) := dk_29 (dk_at dksX2_startsIn_3 16 rfl rfl)
theorem dX2_startsIn_87 : decode cX2_startsIn 87 = .ok (.iadd, 1) := dk_96 (dk_at dksX2_startsIn_3 17 rfl rfl)
theorem dX2_startsIn_88 : decode cX2_startsIn 88 = .ok (.iaload, 1) := dk_46 (dk_at dksX2_startsIn_3 18 rfl rfl)
theorem dX2_startsIn_89 : decode cX2_startsIn 89 = .ok (.aload_n 0, 1) := dk_42 (dk_at dksX2_startsIn_3 19 rfl rfl)
theorem dX2_startsIn_90 : decode cX2_startsIn 90 = .ok (.getfield 17, 3) := dk_180 0 17 (dk_at dksX2_startsIn_3 20 rfl rfl)
theorem dX2_startsIn_93 : decode cX2_startsIn 93 = .ok (.bipush 70, 2) := dk_16 70 (dk_at dksX2_startsIn_4 0 rfl rfl)
theorem dX2_startsIn_95 : decode cX2_startsIn 95 = .ok (.iload_n 3, 1) := dk_29 (dk_at dksX2_startsIn_4 2 rfl rfl)
theorem dX2_startsIn_96 : decode cX2_startsIn 96 = .ok (.iadd, 1) := dk_96 (dk_at dksX2_startsIn_4 3 rfl rfl)
theorem dX2_startsIn_97 : decode cX2_startsIn 97 = .ok (.iaload, 1) := dk_46 (dk_at dksX2_startsIn_4 4 rfl rfl)
theorem dX2_startsIn_98 : decode cX2_startsIn 98 = .ok (.aload_n 1, 1) := dk_43 (dk_at dksX2_startsIn_4 5 rfl rfl)
theorem dX2_startsIn_99 : decode cX2_startsIn 99 = .ok (.bipush 38, 2) := dk_16 38 (dk_at dksX2_startsIn_4 6 rfl rfl)
theorem dX2_startsIn_101 : decode cX2_startsIn 101 = .ok (.iload_n 3, 1) := dk_29 (dk_at dksX2_startsIn_4 8 rfl rfl)
theorem dX2_startsIn_102 : decode cX2_startsIn 102 = .ok (.iadd, 1) := dk_96 (dk_at dksX2_startsIn_4 9 rfl rfl)
theorem dX2_startsIn_103 : decode cX2_startsIn 103 = .ok (.iaload, 1) := dk_46 (dk_at dksX2_startsIn_4 10 rfl rfl)
theorem dX2_startsIn_104 : decode cX2_startsIn 104 = .ok (.invokevirtual 329, 3) := dk_182 1 73 (dk_at dksX2_startsIn_4 11 rfl rfl)
theorem dX2_startsIn_107 : decode cX2_startsIn 107 = .ok (.isub, 1) := dk_100 (dk_at dksX2_startsIn_4 14 rfl rfl)
theorem dX2_startsIn_108 : decode cX2_startsIn 108 = .ok (.iastore, 1) := dk_79 (dk_at dksX2_startsIn_4 15 rfl rfl)
theorem dX2_startsIn_109 : decode cX2_startsIn 109 = .ok (.iinc 3 1, 3) := dk_132 3 1 (dk_at dksX2_startsIn_4 16 rfl rfl)
theorem dX2_startsIn_112 : decode cX2_startsIn 112 = .ok (.goto (-71), 3) := dk_167 255 185 (dk_at dksX2_startsIn_4 19 rfl rfl)
theorem dX2_startsIn_115 : decode cX2_startsIn 115 = .ok (.return_, 1) := dk_177 (dk_at dksX2_startsIn_4 22 rfl rfl)
abbrev cX2_airtimeIn : ByteArray := prog_22_method_134_code
def yX2_airtimeIn : MethodName := ⟨RX2, "airtimeIn", "(I)I"⟩
def dkwX2_airtimeIn_0 : List UInt8 := [42, 27, 182, 1, 248, 153, 0, 12, 42, 27, 8, 182, 1, 251, 167, 0, 4, 3, 172]
abbrev dktX2_airtimeIn_0 : List UInt8 := dkwX2_airtimeIn_0 ++ []
theorem dksX2_airtimeIn_0 : cX2_airtimeIn.data.toList.drop 0 = dktX2_airtimeIn_0 := by decide +kernel
theorem dX2_airtimeIn_0 : decode cX2_airtimeIn 0 = .ok (.aload_n 0, 1) := dk_42 (dk_at dksX2_airtimeIn_0 0 rfl rfl)
theorem dX2_airtimeIn_1 : decode cX2_airtimeIn 1 = .ok (.iload_n 1, 1) := dk_27 (dk_at dksX2_airtimeIn_0 1 rfl rfl)
theorem dX2_airtimeIn_2 : decode cX2_airtimeIn 2 = .ok (.invokevirtual 504, 3) := dk_182 1 248 (dk_at dksX2_airtimeIn_0 2 rfl rfl)
theorem dX2_airtimeIn_5 : decode cX2_airtimeIn 5 = .ok (.ifCond .eq 12, 3) := dk_153 0 12 (dk_at dksX2_airtimeIn_0 5 rfl rfl)
theorem dX2_airtimeIn_8 : decode cX2_airtimeIn 8 = .ok (.aload_n 0, 1) := dk_42 (dk_at dksX2_airtimeIn_0 8 rfl rfl)
theorem dX2_airtimeIn_9 : decode cX2_airtimeIn 9 = .ok (.iload_n 1, 1) := dk_27 (dk_at dksX2_airtimeIn_0 9 rfl rfl)
theorem dX2_airtimeIn_10 : decode cX2_airtimeIn 10 = .ok (.iconst 5, 1) := dk_8 (dk_at dksX2_airtimeIn_0 10 rfl rfl)
theorem dX2_airtimeIn_11 : decode cX2_airtimeIn 11 = .ok (.invokevirtual 507, 3) := dk_182 1 251 (dk_at dksX2_airtimeIn_0 11 rfl rfl)
theorem dX2_airtimeIn_14 : decode cX2_airtimeIn 14 = .ok (.goto 4, 3) := dk_167 0 4 (dk_at dksX2_airtimeIn_0 14 rfl rfl)
theorem dX2_airtimeIn_17 : decode cX2_airtimeIn 17 = .ok (.iconst 0, 1) := dk_3 (dk_at dksX2_airtimeIn_0 17 rfl rfl)
theorem dX2_airtimeIn_18 : decode cX2_airtimeIn 18 = .ok (.ireturn, 1) := dk_172 (dk_at dksX2_airtimeIn_0 18 rfl rfl)
abbrev cX2_firstMove : ByteArray := prog_22_method_135_code
def yX2_firstMove : MethodName := ⟨RX2, "firstMove", "(I)I"⟩
def dkwX2_firstMove_2 : List UInt8 := [132, 2, 1, 167, 255, 223, 2, 172]
abbrev dktX2_firstMove_2 : List UInt8 := dkwX2_firstMove_2 ++ []
def dkwX2_firstMove_1 : List UInt8 := [180, 0, 29, 182, 1, 196, 42, 180, 0, 29, 4, 46, 42, 180, 0, 23, 4, 46, 164, 0, 5, 28, 172]
abbrev dktX2_firstMove_1 : List UInt8 := dkwX2_firstMove_1 ++ dktX2_firstMove_2
def dkwX2_firstMove_0 : List UInt8 := [42, 27, 182, 1, 248, 154, 0, 5, 3, 172, 42, 182, 1, 239, 4, 61, 28, 27, 163, 0, 34, 42, 42]
abbrev dktX2_firstMove_0 : List UInt8 := dkwX2_firstMove_0 ++ dktX2_firstMove_1
theorem dksX2_firstMove_0 : cX2_firstMove.data.toList.drop 0 = dktX2_firstMove_0 := by decide +kernel
theorem dksX2_firstMove_1 : cX2_firstMove.data.toList.drop 23 = dktX2_firstMove_1 := dk_seg dksX2_firstMove_0 23 rfl rfl
theorem dksX2_firstMove_2 : cX2_firstMove.data.toList.drop 46 = dktX2_firstMove_2 := dk_seg dksX2_firstMove_1 23 rfl rfl
theorem dX2_firstMove_0 : decode cX2_firstMove 0 = .ok (.aload_n 0, 1) := dk_42 (dk_at dksX2_firstMove_0 0 rfl rfl)
theorem dX2_firstMove_1 : decode cX2_firstMove 1 = .ok (.iload_n 1, 1) := dk_27 (dk_at dksX2_firstMove_0 1 rfl rfl)
theorem dX2_firstMove_2 : decode cX2_firstMove 2 = .ok (.invokevirtual 504, 3) := dk_182 1 248 (dk_at dksX2_firstMove_0 2 rfl rfl)
theorem dX2_firstMove_5 : decode cX2_firstMove 5 = .ok (.ifCond .ne 5, 3) := dk_154 0 5 (dk_at dksX2_firstMove_0 5 rfl rfl)
theorem dX2_firstMove_8 : decode cX2_firstMove 8 = .ok (.iconst 0, 1) := dk_3 (dk_at dksX2_firstMove_0 8 rfl rfl)
theorem dX2_firstMove_9 : decode cX2_firstMove 9 = .ok (.ireturn, 1) := dk_172 (dk_at dksX2_firstMove_0 9 rfl rfl)
theorem dX2_firstMove_10 : decode cX2_firstMove 10 = .ok (.aload_n 0, 1) := dk_42 (dk_at dksX2_firstMove_0 10 rfl rfl)
theorem dX2_firstMove_11 : decode cX2_firstMove 11 = .ok (.invokevirtual 495, 3) := dk_182 1 239 (dk_at dksX2_firstMove_0 11 rfl rfl)
theorem dX2_firstMove_14 : decode cX2_firstMove 14 = .ok (.iconst 1, 1) := dk_4 (dk_at dksX2_firstMove_0 14 rfl rfl)
theorem dX2_firstMove_15 : decode cX2_firstMove 15 = .ok (.istore_n 2, 1) := dk_61 (dk_at dksX2_firstMove_0 15 rfl rfl)
theorem dX2_firstMove_16 : decode cX2_firstMove 16 = .ok (.iload_n 2, 1) := dk_28 (dk_at dksX2_firstMove_0 16 rfl rfl)
theorem dX2_firstMove_17 : decode cX2_firstMove 17 = .ok (.iload_n 1, 1) := dk_27 (dk_at dksX2_firstMove_0 17 rfl rfl)
theorem dX2_firstMove_18 : decode cX2_firstMove 18 = .ok (.if_icmp .gt 34, 3) := dk_163 0 34 (dk_at dksX2_firstMove_0 18 rfl rfl)
theorem dX2_firstMove_21 : decode cX2_firstMove 21 = .ok (.aload_n 0, 1) := dk_42 (dk_at dksX2_firstMove_0 21 rfl rfl)
theorem dX2_firstMove_22 : decode cX2_firstMove 22 = .ok (.aload_n 0, 1) := dk_42 (dk_at dksX2_firstMove_0 22 rfl rfl)
theorem dX2_firstMove_23 : decode cX2_firstMove 23 = .ok (.getfield 29, 3) := dk_180 0 29 (dk_at dksX2_firstMove_1 0 rfl rfl)
theorem dX2_firstMove_26 : decode cX2_firstMove 26 = .ok (.invokevirtual 452, 3) := dk_182 1 196 (dk_at dksX2_firstMove_1 3 rfl rfl)
theorem dX2_firstMove_29 : decode cX2_firstMove 29 = .ok (.aload_n 0, 1) := dk_42 (dk_at dksX2_firstMove_1 6 rfl rfl)
theorem dX2_firstMove_30 : decode cX2_firstMove 30 = .ok (.getfield 29, 3) := dk_180 0 29 (dk_at dksX2_firstMove_1 7 rfl rfl)
theorem dX2_firstMove_33 : decode cX2_firstMove 33 = .ok (.iconst 1, 1) := dk_4 (dk_at dksX2_firstMove_1 10 rfl rfl)
theorem dX2_firstMove_34 : decode cX2_firstMove 34 = .ok (.iaload, 1) := dk_46 (dk_at dksX2_firstMove_1 11 rfl rfl)
theorem dX2_firstMove_35 : decode cX2_firstMove 35 = .ok (.aload_n 0, 1) := dk_42 (dk_at dksX2_firstMove_1 12 rfl rfl)
theorem dX2_firstMove_36 : decode cX2_firstMove 36 = .ok (.getfield 23, 3) := dk_180 0 23 (dk_at dksX2_firstMove_1 13 rfl rfl)
theorem dX2_firstMove_39 : decode cX2_firstMove 39 = .ok (.iconst 1, 1) := dk_4 (dk_at dksX2_firstMove_1 16 rfl rfl)
theorem dX2_firstMove_40 : decode cX2_firstMove 40 = .ok (.iaload, 1) := dk_46 (dk_at dksX2_firstMove_1 17 rfl rfl)
theorem dX2_firstMove_41 : decode cX2_firstMove 41 = .ok (.if_icmp .le 5, 3) := dk_164 0 5 (dk_at dksX2_firstMove_1 18 rfl rfl)
theorem dX2_firstMove_44 : decode cX2_firstMove 44 = .ok (.iload_n 2, 1) := dk_28 (dk_at dksX2_firstMove_1 21 rfl rfl)
theorem dX2_firstMove_45 : decode cX2_firstMove 45 = .ok (.ireturn, 1) := dk_172 (dk_at dksX2_firstMove_1 22 rfl rfl)
theorem dX2_firstMove_46 : decode cX2_firstMove 46 = .ok (.iinc 2 1, 3) := dk_132 2 1 (dk_at dksX2_firstMove_2 0 rfl rfl)
theorem dX2_firstMove_49 : decode cX2_firstMove 49 = .ok (.goto (-33), 3) := dk_167 255 223 (dk_at dksX2_firstMove_2 3 rfl rfl)
theorem dX2_firstMove_52 : decode cX2_firstMove 52 = .ok (.iconst (-1), 1) := dk_2 (dk_at dksX2_firstMove_2 6 rfl rfl)
theorem dX2_firstMove_53 : decode cX2_firstMove 53 = .ok (.ireturn, 1) := dk_172 (dk_at dksX2_firstMove_2 7 rfl rfl)
abbrev cX2_waitingAfter : ByteArray := prog_22_method_136_code
def yX2_waitingAfter : MethodName := ⟨RX2, "waitingAfter", "(I)I"⟩
def dkwX2_waitingAfter_2 : List UInt8 := [4, 160, 0, 7, 4, 167, 0, 4, 3, 96, 61, 132, 3, 1, 167, 255, 221, 28, 172]
abbrev dktX2_waitingAfter_2 : List UInt8 := dkwX2_waitingAfter_2 ++ []
def dkwX2_waitingAfter_1 : List UInt8 := [61, 3, 62, 29, 42, 180, 0, 17, 16, 10, 46, 162, 0, 30, 28, 42, 180, 0, 29, 16, 6, 29, 96, 46]
abbrev dktX2_waitingAfter_1 : List UInt8 := dkwX2_waitingAfter_1 ++ dktX2_waitingAfter_2
def dkwX2_waitingAfter_0 : List UInt8 := [42, 27, 182, 1, 248, 154, 0, 5, 3, 172, 42, 182, 1, 239, 42, 42, 180, 0, 29, 27, 182, 1, 245, 3]
abbrev dktX2_waitingAfter_0 : List UInt8 := dkwX2_waitingAfter_0 ++ dktX2_waitingAfter_1
theorem dksX2_waitingAfter_0 : cX2_waitingAfter.data.toList.drop 0 = dktX2_waitingAfter_0 := by decide +kernel
theorem dksX2_waitingAfter_1 : cX2_waitingAfter.data.toList.drop 24 = dktX2_waitingAfter_1 := dk_seg dksX2_waitingAfter_0 24 rfl rfl
theorem dksX2_waitingAfter_2 : cX2_waitingAfter.data.toList.drop 48 = dktX2_waitingAfter_2 := dk_seg dksX2_waitingAfter_1 24 rfl rfl
theorem dX2_waitingAfter_0 : decode cX2_waitingAfter 0 = .ok (.aload_n 0, 1) := dk_42 (dk_at dksX2_waitingAfter_0 0 rfl rfl)
theorem dX2_waitingAfter_1 : decode cX2_waitingAfter 1 = .ok (.iload_n 1, 1) := dk_27 (dk_at dksX2_waitingAfter_0 1 rfl rfl)
theorem dX2_waitingAfter_2 : decode cX2_waitingAfter 2 = .ok (.invokevirtual 504, 3) := dk_182 1 248 (dk_at dksX2_waitingAfter_0 2 rfl rfl)
theorem dX2_waitingAfter_5 : decode cX2_waitingAfter 5 = .ok (.ifCond .ne 5, 3) := dk_154 0 5 (dk_at dksX2_waitingAfter_0 5 rfl rfl)
theorem dX2_waitingAfter_8 : decode cX2_waitingAfter 8 = .ok (.iconst 0, 1) := dk_3 (dk_at dksX2_waitingAfter_0 8 rfl rfl)
theorem dX2_waitingAfter_9 : decode cX2_waitingAfter 9 = .ok (.ireturn, 1) := dk_172 (dk_at dksX2_waitingAfter_0 9 rfl rfl)
theorem dX2_waitingAfter_10 : decode cX2_waitingAfter 10 = .ok (.aload_n 0, 1) := dk_42 (dk_at dksX2_waitingAfter_0 10 rfl rfl)
theorem dX2_waitingAfter_11 : decode cX2_waitingAfter 11 = .ok (.invokevirtual 495, 3) := dk_182 1 239 (dk_at dksX2_waitingAfter_0 11 rfl rfl)
theorem dX2_waitingAfter_14 : decode cX2_waitingAfter 14 = .ok (.aload_n 0, 1) := dk_42 (dk_at dksX2_waitingAfter_0 14 rfl rfl)
theorem dX2_waitingAfter_15 : decode cX2_waitingAfter 15 = .ok (.aload_n 0, 1) := dk_42 (dk_at dksX2_waitingAfter_0 15 rfl rfl)
theorem dX2_waitingAfter_16 : decode cX2_waitingAfter 16 = .ok (.getfield 29, 3) := dk_180 0 29 (dk_at dksX2_waitingAfter_0 16 rfl rfl)
theorem dX2_waitingAfter_19 : decode cX2_waitingAfter 19 = .ok (.iload_n 1, 1) := dk_27 (dk_at dksX2_waitingAfter_0 19 rfl rfl)
theorem dX2_waitingAfter_20 : decode cX2_waitingAfter 20 = .ok (.invokevirtual 501, 3) := dk_182 1 245 (dk_at dksX2_waitingAfter_0 20 rfl rfl)
theorem dX2_waitingAfter_23 : decode cX2_waitingAfter 23 = .ok (.iconst 0, 1) := dk_3 (dk_at dksX2_waitingAfter_0 23 rfl rfl)
theorem dX2_waitingAfter_24 : decode cX2_waitingAfter 24 = .ok (.istore_n 2, 1) := dk_61 (dk_at dksX2_waitingAfter_1 0 rfl rfl)
theorem dX2_waitingAfter_25 : decode cX2_waitingAfter 25 = .ok (.iconst 0, 1) := dk_3 (dk_at dksX2_waitingAfter_1 1 rfl rfl)
theorem dX2_waitingAfter_26 : decode cX2_waitingAfter 26 = .ok (.istore_n 3, 1) := dk_62 (dk_at dksX2_waitingAfter_1 2 rfl rfl)
theorem dX2_waitingAfter_27 : decode cX2_waitingAfter 27 = .ok (.iload_n 3, 1) := dk_29 (dk_at dksX2_waitingAfter_1 3 rfl rfl)
theorem dX2_waitingAfter_28 : decode cX2_waitingAfter 28 = .ok (.aload_n 0, 1) := dk_42 (dk_at dksX2_waitingAfter_1 4 rfl rfl)
theorem dX2_waitingAfter_29 : decode cX2_waitingAfter 29 = .ok (.getfield 17, 3) := dk_180 0 17 (dk_at dksX2_waitingAfter_1 5 rfl rfl)
theorem dX2_waitingAfter_32 : decode cX2_waitingAfter 32 = .ok (.bipush 10, 2) := dk_16 10 (dk_at dksX2_waitingAfter_1 8 rfl rfl)
theorem dX2_waitingAfter_34 : decode cX2_waitingAfter 34 = .ok (.iaload, 1) := dk_46 (dk_at dksX2_waitingAfter_1 10 rfl rfl)
theorem dX2_waitingAfter_35 : decode cX2_waitingAfter 35 = .ok (.if_icmp .ge 30, 3) := dk_162 0 30 (dk_at dksX2_waitingAfter_1 11 rfl rfl)
theorem dX2_waitingAfter_38 : decode cX2_waitingAfter 38 = .ok (.iload_n 2, 1) := dk_28 (dk_at dksX2_waitingAfter_1 14 rfl rfl)
theorem dX2_waitingAfter_39 : decode cX2_waitingAfter 39 = .ok (.aload_n 0, 1) := dk_42 (dk_at dksX2_waitingAfter_1 15 rfl rfl)
theorem dX2_waitingAfter_40 : decode cX2_waitingAfter 40 = .ok (.getfield 29, 3) := dk_180 0 29 (dk_at dksX2_waitingAfter_1 16 rfl rfl)
theorem dX2_waitingAfter_43 : decode cX2_waitingAfter 43 = .ok (.bipush 6, 2) := dk_16 6 (dk_at dksX2_waitingAfter_1 19 rfl rfl)
theorem dX2_waitingAfter_45 : decode cX2_waitingAfter 45 = .ok (.iload_n 3, 1) := dk_29 (dk_at dksX2_waitingAfter_1 21 rfl rfl)
theorem dX2_waitingAfter_46 : decode cX2_waitingAfter 46 = .ok (.iadd, 1) := dk_96 (dk_at dksX2_waitingAfter_1 22 rfl rfl)
theorem dX2_waitingAfter_47 : decode cX2_waitingAfter 47 = .ok (.iaload, 1) := dk_46 (dk_at dksX2_waitingAfter_1 23 rfl rfl)
theorem dX2_waitingAfter_48 : decode cX2_waitingAfter 48 = .ok (.iconst 1, 1) := dk_4 (dk_at dksX2_waitingAfter_2 0 rfl rfl)
theorem dX2_waitingAfter_49 : decode cX2_waitingAfter 49 = .ok (.if_icmp .ne 7, 3) := dk_160 0 7 (dk_at dksX2_waitingAfter_2 1 rfl rfl)
theorem dX2_waitingAfter_52 : decode cX2_waitingAfter 52 = .ok (.iconst 1, 1) := dk_4 (dk_at dksX2_waitingAfter_2 4 rfl rfl)
theorem dX2_waitingAfter_53 : decode cX2_waitingAfter 53 = .ok (.goto 4, 3) := dk_167 0 4 (dk_at dksX2_waitingAfter_2 5 rfl rfl)
theorem dX2_waitingAfter_56 : decode cX2_waitingAfter 56 = .ok (.iconst 0, 1) := dk_3 (dk_at dksX2_waitingAfter_2 8 rfl rfl)
theorem dX2_waitingAfter_57 : decode cX2_waitingAfter 57 = .ok (.iadd, 1) := dk_96 (dk_at dksX2_waitingAfter_2 9 rfl rfl)
theorem dX2_waitingAfter_58 : decode cX2_waitingAfter 58 = .ok (.istore_n 2, 1) := dk_61 (dk_at dksX2_waitingAfter_2 10 rfl rfl)
theorem dX2_waitingAfter_59 : decode cX2_waitingAfter 59 = .ok (.iinc 3 1, 3) := dk_132 3 1 (dk_at dksX2_waitingAfter_2 11 rfl rfl)
theorem dX2_waitingAfter_62 : decode cX2_waitingAfter 62 = .ok (.goto (-35), 3) := dk_167 255 221 (dk_at dksX2_waitingAfter_2 14 rfl rfl)
theorem dX2_waitingAfter_65 : decode cX2_waitingAfter 65 = .ok (.iload_n 2, 1) := dk_28 (dk_at dksX2_waitingAfter_2 17 rfl rfl)
theorem dX2_waitingAfter_66 : decode cX2_waitingAfter 66 = .ok (.ireturn, 1) := dk_172 (dk_at dksX2_waitingAfter_2 18 rfl rfl)
abbrev cX2_troublemaker : ByteArray := prog_22_method_137_code
def yX2_troublemaker : MethodName := ⟨RX2, "troublemaker", "(I)I"⟩
def dkwX2_troublemaker_4 : List UInt8 := [46, 62, 132, 4, 1, 167, 255, 174, 28, 2, 160, 0, 11, 42, 6, 182, 1, 40, 167, 0, 4, 28, 172]
abbrev dktX2_troublemaker_4 : List UInt8 := dkwX2_troublemaker_4 ++ []
def dkwX2_troublemaker_3 : List UInt8 := [159, 0, 16, 42, 180, 0, 29, 4, 46, 29, 161, 0, 6, 167, 0, 13, 21, 4, 61, 42, 180, 0, 29, 4]
abbrev dktX2_troublemaker_3 : List UInt8 := dkwX2_troublemaker_3 ++ dktX2_troublemaker_4
def dkwX2_troublemaker_2 : List UInt8 := [182, 1, 239, 42, 180, 0, 29, 21, 4, 3, 184, 1, 150, 42, 42, 180, 0, 29, 27, 182, 1, 245, 28, 2]
abbrev dktX2_troublemaker_2 : List UInt8 := dkwX2_troublemaker_2 ++ dktX2_troublemaker_3
def dkwX2_troublemaker_1 : List UInt8 := [16, 10, 46, 162, 0, 76, 42, 180, 0, 23, 16, 6, 21, 4, 96, 46, 154, 0, 6, 167, 0, 54, 42]
abbrev dktX2_troublemaker_1 : List UInt8 := dkwX2_troublemaker_1 ++ dktX2_troublemaker_2
def dkwX2_troublemaker_0 : List UInt8 := [42, 27, 182, 1, 248, 154, 0, 5, 3, 172, 2, 61, 3, 62, 3, 54, 4, 21, 4, 42, 180, 0, 17]
abbrev dktX2_troublemaker_0 : List UInt8 := dkwX2_troublemaker_0 ++ dktX2_troublemaker_1
theorem dksX2_troublemaker_0 : cX2_troublemaker.data.toList.drop 0 = dktX2_troublemaker_0 := by decide +kernel
theorem dksX2_troublemaker_1 : cX2_troublemaker.data.toList.drop 23 = dktX2_troublemaker_1 := dk_seg dksX2_troublemaker_0 23 rfl rfl
theorem dksX2_troublemaker_2 : cX2_troublemaker.data.toList.drop 46 = dktX2_troublemaker_2 := dk_seg dksX2_troublemaker_1 23 rfl rfl
theorem dksX2_troublemaker_3 : cX2_troublemaker.data.toList.drop 70 = dktX2_troublemaker_3 := dk_seg dksX2_troublemaker_2 24 rfl rfl
theorem dksX2_troublemaker_4 : cX2_troublemaker.data.toList.drop 94 = dktX2_troublemaker_4 := dk_seg dksX2_troublemaker_3 24 rfl rfl
theorem dX2_troublemaker_0 : decode cX2_troublemaker 0 = .ok (.aload_n 0, 1) := dk_42 (dk_at dksX2_troublemaker_0 0 rfl rfl)
theorem dX2_troublemaker_1 : decode cX2_troublemaker 1 = .ok (.iload_n 1, 1) := dk_27 (dk_at dksX2_troublemaker_0 1 rfl rfl)
theorem dX2_troublemaker_2 : decode cX2_troublemaker 2 = .ok (.invokevirtual 504, 3) := dk_182 1 248 (dk_at dksX2_troublemaker_0 2 rfl rfl)
theorem dX2_troublemaker_5 : decode cX2_troublemaker 5 = .ok (.ifCond .ne 5, 3) := dk_154 0 5 (dk_at dksX2_troublemaker_0 5 rfl rfl)
theorem dX2_troublemaker_8 : decode cX2_troublemaker 8 = .ok (.iconst 0, 1) := dk_3 (dk_at dksX2_troublemaker_0 8 rfl rfl)
theorem dX2_troublemaker_9 : decode cX2_troublemaker 9 = .ok (.ireturn, 1) := dk_172 (dk_at dksX2_troublemaker_0 9 rfl rfl)
theorem dX2_troublemaker_10 : decode cX2_troublemaker 10 = .ok (.iconst (-1), 1) := dk_2 (dk_at dksX2_troublemaker_0 10 rfl rfl)
theorem dX2_troublemaker_11 : decode cX2_troublemaker 11 = .ok (.istore_n 2, 1) := dk_61 (dk_at dksX2_troublemaker_0 11 rfl rfl)
theorem dX2_troublemaker_12 : decode cX2_troublemaker 12 = .ok (.iconst 0, 1) := dk_3 (dk_at dksX2_troublemaker_0 12 rfl rfl)
theorem dX2_troublemaker_13 : decode cX2_troublemaker 13 = .ok (.istore_n 3, 1) := dk_62 (dk_at dksX2_troublemaker_0 13 rfl rfl)
theorem dX2_troublemaker_14 : decode cX2_troublemaker 14 = .ok (.iconst 0, 1) := dk_3 (dk_at dksX2_troublemaker_0 14 rfl rfl)
theorem dX2_troublemaker_15 : decode cX2_troublemaker 15 = .ok (.istore 4, 2) := dk_54 4 (dk_at dksX2_troublemaker_0 15 rfl rfl)
theorem dX2_troublemaker_17 : decode cX2_troublemaker 17 = .ok (.iload 4, 2) := dk_21 4 (dk_at dksX2_troublemaker_0 17 rfl rfl)
theorem dX2_troublemaker_19 : decode cX2_troublemaker 19 = .ok (.aload_n 0, 1) := dk_42 (dk_at dksX2_troublemaker_0 19 rfl rfl)
theorem dX2_troublemaker_20 : decode cX2_troublemaker 20 = .ok (.getfield 17, 3) := dk_180 0 17 (dk_at dksX2_troublemaker_0 20 rfl rfl)
theorem dX2_troublemaker_23 : decode cX2_troublemaker 23 = .ok (.bipush 10, 2) := dk_16 10 (dk_at dksX2_troublemaker_1 0 rfl rfl)
theorem dX2_troublemaker_25 : decode cX2_troublemaker 25 = .ok (.iaload, 1) := dk_46 (dk_at dksX2_troublemaker_1 2 rfl rfl)
theorem dX2_troublemaker_26 : decode cX2_troublemaker 26 = .ok (.if_icmp .ge 76, 3) := dk_162 0 76 (dk_at dksX2_troublemaker_1 3 rfl rfl)
theorem dX2_troublemaker_29 : decode cX2_troublemaker 29 = .ok (.aload_n 0, 1) := dk_42 (dk_at dksX2_troublemaker_1 6 rfl rfl)
theorem dX2_troublemaker_30 : decode cX2_troublemaker 30 = .ok (.getfield 23, 3) := dk_180 0 23 (dk_at dksX2_troublemaker_1 7 rfl rfl)
theorem dX2_troublemaker_33 : decode cX2_troublemaker 33 = .ok (.bipush 6, 2) := dk_16 6 (dk_at dksX2_troublemaker_1 10 rfl rfl)
theorem dX2_troublemaker_35 : decode cX2_troublemaker 35 = .ok (.iload 4, 2) := dk_21 4 (dk_at dksX2_troublemaker_1 12 rfl rfl)
theorem dX2_troublemaker_37 : decode cX2_troublemaker 37 = .ok (.iadd, 1) := dk_96 (dk_at dksX2_troublemaker_1 14 rfl rfl)
theorem dX2_troublemaker_38 : decode cX2_troublemaker 38 = .ok (.iaload, 1) := dk_46 (dk_at dksX2_troublemaker_1 15 rfl rfl)
theorem dX2_troublemaker_39 : decode cX2_troublemaker 39 = .ok (.ifCond .ne 6, 3) := dk_154 0 6 (dk_at dksX2_troublemaker_1 16 rfl rfl)
theorem dX2_troublemaker_42 : decode cX2_troublemaker 42 = .ok (.goto 54, 3) := dk_167 0 54 (dk_at dksX2_troublemaker_1 19 rfl rfl)
theorem dX2_troublemaker_45 : decode cX2_troublemaker 45 = .ok (.aload_n 0, 1) := dk_42 (dk_at dksX2_troublemaker_1 22 rfl rfl)
theorem dX2_troublemaker_46 : decode cX2_troublemaker 46 = .ok (.invokevirtual 495, 3) := dk_182 1 239 (dk_at dksX2_troublemaker_2 0 rfl rfl)
theorem dX2_troublemaker_49 : decode cX2_troublemaker 49 = .ok (.aload_n 0, 1) := dk_42 (dk_at dksX2_troublemaker_2 3 rfl rfl)
theorem dX2_troublemaker_50 : decode cX2_troublemaker 50 = .ok (.getfield 29, 3) := dk_180 0 29 (dk_at dksX2_troublemaker_2 4 rfl rfl)
theorem dX2_troublemaker_53 : decode cX2_troublemaker 53 = .ok (.iload 4, 2) := dk_21 4 (dk_at dksX2_troublemaker_2 7 rfl rfl)
theorem dX2_troublemaker_55 : decode cX2_troublemaker 55 = .ok (.iconst 0, 1) := dk_3 (dk_at dksX2_troublemaker_2 9 rfl rfl)
theorem dX2_troublemaker_56 : decode cX2_troublemaker 56 = .ok (.invokestatic 406, 3) := dk_184 1 150 (dk_at dksX2_troublemaker_2 10 rfl rfl)
theorem dX2_troublemaker_59 : decode cX2_troublemaker 59 = .ok (.aload_n 0, 1) := dk_42 (dk_at dksX2_troublemaker_2 13 rfl rfl)
theorem dX2_troublemaker_60 : decode cX2_troublemaker 60 = .ok (.aload_n 0, 1) := dk_42 (dk_at dksX2_troublemaker_2 14 rfl rfl)
theorem dX2_troublemaker_61 : decode cX2_troublemaker 61 = .ok (.getfield 29, 3) := dk_180 0 29 (dk_at dksX2_troublemaker_2 15 rfl rfl)
theorem dX2_troublemaker_64 : decode cX2_troublemaker 64 = .ok (.iload_n 1, 1) := dk_27 (dk_at dksX2_troublemaker_2 18 rfl rfl)
theorem dX2_troublemaker_65 : decode cX2_troublemaker 65 = .ok (.invokevirtual 501, 3) := dk_182 1 245 (dk_at dksX2_troublemaker_2 19 rfl rfl)
theorem dX2_troublemaker_68 : decode cX2_troublemaker 68 = .ok (.iload_n 2, 1) := dk_28 (dk_at dksX2_troublemaker_2 22 rfl rfl)
theorem dX2_troublemaker_69 : decode cX2_troublemaker 69 = .ok (.iconst (-1), 1) := dk_2 (dk_at dksX2_troublemaker_2 23 rfl rfl)
theorem dX2_troublemaker_70 : decode cX2_troublemaker 70 = .ok (.if_icmp .eq 16, 3) := dk_159 0 16 (dk_at dksX2_troublemaker_3 0 rfl rfl)
theorem dX2_troublemaker_73 : decode cX2_troublemaker 73 = .ok (.aload_n 0, 1) := dk_42 (dk_at dksX2_troublemaker_3 3 rfl rfl)
theorem dX2_troublemaker_74 : decode cX2_troublemaker 74 = .ok (.getfield 29, 3) := dk_180 0 29 (dk_at dksX2_troublemaker_3 4 rfl rfl)
theorem dX2_troublemaker_77 : decode cX2_troublemaker 77 = .ok (.iconst 1, 1) := dk_4 (dk_at dksX2_troublemaker_3 7 rfl rfl)
theorem dX2_troublemaker_78 : decode cX2_troublemaker 78 = .ok (.iaload, 1) := dk_46 (dk_at dksX2_troublemaker_3 8 rfl rfl)
theorem dX2_troublemaker_79 : decode cX2_troublemaker 79 = .ok (.iload_n 3, 1) := dk_29 (dk_at dksX2_troublemaker_3 9 rfl rfl)
theorem dX2_troublemaker_80 : decode cX2_troublemaker 80 = .ok (.if_icmp .lt 6, 3) := dk_161 0 6 (dk_at dksX2_troublemaker_3 10 rfl rfl)
theorem dX2_troublemaker_83 : decode cX2_troublemaker 83 = .ok (.goto 13, 3) := dk_167 0 13 (dk_at dksX2_troublemaker_3 13 rfl rfl)
theorem dX2_troublemaker_86 : decode cX2_troublemaker 86 = .ok (.iload 4, 2) := dk_21 4 (dk_at dksX2_troublemaker_3 16 rfl rfl)
theorem dX2_troublemaker_88 : decode cX2_troublemaker 88 = .ok (.istore_n 2, 1) := dk_61 (dk_at dksX2_troublemaker_3 18 rfl rfl)
theorem dX2_troublemaker_89 : decode cX2_troublemaker 89 = .ok (.aload_n 0, 1) := dk_42 (dk_at dksX2_troublemaker_3 19 rfl rfl)
theorem dX2_troublemaker_90 : decode cX2_troublemaker 90 = .ok (.getfield 29, 3) := dk_180 0 29 (dk_at dksX2_troublemaker_3 20 rfl rfl)
theorem dX2_troublemaker_93 : decode cX2_troublemaker 93 = .ok (.iconst 1, 1) := dk_4 (dk_at dksX2_troublemaker_3 23 rfl rfl)
theorem dX2_troublemaker_94 : decode cX2_troublemaker 94 = .ok (.iaload, 1) := dk_46 (dk_at dksX2_troublemaker_4 0 rfl rfl)
theorem dX2_troublemaker_95 : decode cX2_troublemaker 95 = .ok (.istore_n 3, 1) := dk_62 (dk_at dksX2_troublemaker_4 1 rfl rfl)
theorem dX2_troublemaker_96 : decode cX2_troublemaker 96 = .ok (.iinc 4 1, 3) := dk_132 4 1 (dk_at dksX2_troublemaker_4 2 rfl rfl)
theorem dX2_troublemaker_99 : decode cX2_troublemaker 99 = .ok (.goto (-82), 3) := dk_167 255 174 (dk_at dksX2_troublemaker_4 5 rfl rfl)
theorem dX2_troublemaker_102 : decode cX2_troublemaker 102 = .ok (.iload_n 2, 1) := dk_28 (dk_at dksX2_troublemaker_4 8 rfl rfl)
theorem dX2_troublemaker_103 : decode cX2_troublemaker 103 = .ok (.iconst (-1), 1) := dk_2 (dk_at dksX2_troublemaker_4 9 rfl rfl)
theorem dX2_troublemaker_104 : decode cX2_troublemaker 104 = .ok (.if_icmp .ne 11, 3) := dk_160 0 11 (dk_at dksX2_troublemaker_4 10 rfl rfl)
theorem dX2_troublemaker_107 : decode cX2_troublemaker 107 = .ok (.aload_n 0, 1) := dk_42 (dk_at dksX2_troublemaker_4 13 rfl rfl)
theorem dX2_troublemaker_108 : decode cX2_troublemaker 108 = .ok (.iconst 3, 1) := dk_6 (dk_at dksX2_troublemaker_4 14 rfl rfl)
theorem dX2_troublemaker_109 : decode cX2_troublemaker 109 = .ok (.invokevirtual 296, 3) := dk_182 1 40 (dk_at dksX2_troublemaker_4 15 rfl rfl)
theorem dX2_troublemaker_112 : decode cX2_troublemaker 112 = .ok (.goto 4, 3) := dk_167 0 4 (dk_at dksX2_troublemaker_4 18 rfl rfl)
theorem dX2_troublemaker_115 : decode cX2_troublemaker 115 = .ok (.iload_n 2, 1) := dk_28 (dk_at dksX2_troublemaker_4 21 rfl rfl)
theorem dX2_troublemaker_116 : decode cX2_troublemaker 116 = .ok (.ireturn, 1) := dk_172 (dk_at dksX2_troublemaker_4 22 rfl rfl)
abbrev cX2_tightest : ByteArray := prog_22_method_138_code
def yX2_tightest : MethodName := ⟨RX2, "tightest", "()I"⟩
def dkwX2_tightest_3 : List UInt8 := [167, 0, 4, 27, 172]
abbrev dktX2_tightest_3 : List UInt8 := dkwX2_tightest_3 ++ []
def dkwX2_tightest_2 : List UInt8 := [182, 1, 209, 162, 0, 5, 28, 60, 132, 2, 1, 167, 255, 211, 27, 2, 160, 0, 11, 42, 5, 182, 1, 40]
abbrev dktX2_tightest_2 : List UInt8 := dkwX2_tightest_2 ++ dktX2_tightest_3
def dkwX2_tightest_1 : List UInt8 := [42, 42, 180, 0, 23, 28, 182, 1, 114, 153, 0, 23, 27, 2, 159, 0, 16, 42, 28, 182, 1, 209, 42, 27]
abbrev dktX2_tightest_1 : List UInt8 := dkwX2_tightest_1 ++ dktX2_tightest_2
def dkwX2_tightest_0 : List UInt8 := [42, 4, 182, 1, 205, 154, 0, 5, 3, 172, 2, 60, 3, 61, 28, 42, 180, 0, 23, 7, 46, 162, 0, 41]
abbrev dktX2_tightest_0 : List UInt8 := dkwX2_tightest_0 ++ dktX2_tightest_1
theorem dksX2_tightest_0 : cX2_tightest.data.toList.drop 0 = dktX2_tightest_0 := by decide +kernel
theorem dksX2_tightest_1 : cX2_tightest.data.toList.drop 24 = dktX2_tightest_1 := dk_seg dksX2_tightest_0 24 rfl rfl
theorem dksX2_tightest_2 : cX2_tightest.data.toList.drop 48 = dktX2_tightest_2 := dk_seg dksX2_tightest_1 24 rfl rfl
theorem dksX2_tightest_3 : cX2_tightest.data.toList.drop 72 = dktX2_tightest_3 := dk_seg dksX2_tightest_2 24 rfl rfl
theorem dX2_tightest_0 : decode cX2_tightest 0 = .ok (.aload_n 0, 1) := dk_42 (dk_at dksX2_tightest_0 0 rfl rfl)
theorem dX2_tightest_1 : decode cX2_tightest 1 = .ok (.iconst 1, 1) := dk_4 (dk_at dksX2_tightest_0 1 rfl rfl)
theorem dX2_tightest_2 : decode cX2_tightest 2 = .ok (.invokevirtual 461, 3) := dk_182 1 205 (dk_at dksX2_tightest_0 2 rfl rfl)
theorem dX2_tightest_5 : decode cX2_tightest 5 = .ok (.ifCond .ne 5, 3) := dk_154 0 5 (dk_at dksX2_tightest_0 5 rfl rfl)
theorem dX2_tightest_8 : decode cX2_tightest 8 = .ok (.iconst 0, 1) := dk_3 (dk_at dksX2_tightest_0 8 rfl rfl)
theorem dX2_tightest_9 : decode cX2_tightest 9 = .ok (.ireturn, 1) := dk_172 (dk_at dksX2_tightest_0 9 rfl rfl)
theorem dX2_tightest_10 : decode cX2_tightest 10 = .ok (.iconst (-1), 1) := dk_2 (dk_at dksX2_tightest_0 10 rfl rfl)
theorem dX2_tightest_11 : decode cX2_tightest 11 = .ok (.istore_n 1, 1) := dk_60 (dk_at dksX2_tightest_0 11 rfl rfl)
theorem dX2_tightest_12 : decode cX2_tightest 12 = .ok (.iconst 0, 1) := dk_3 (dk_at dksX2_tightest_0 12 rfl rfl)
theorem dX2_tightest_13 : decode cX2_tightest 13 = .ok (.istore_n 2, 1) := dk_61 (dk_at dksX2_tightest_0 13 rfl rfl)
theorem dX2_tightest_14 : decode cX2_tightest 14 = .ok (.iload_n 2, 1) := dk_28 (dk_at dksX2_tightest_0 14 rfl rfl)
theorem dX2_tightest_15 : decode cX2_tightest 15 = .ok (.aload_n 0, 1) := dk_42 (dk_at dksX2_tightest_0 15 rfl rfl)
theorem dX2_tightest_16 : decode cX2_tightest 16 = .ok (.getfield 23, 3) := dk_180 0 23 (dk_at dksX2_tightest_0 16 rfl rfl)
theorem dX2_tightest_19 : decode cX2_tightest 19 = .ok (.iconst 4, 1) := dk_7 (dk_at dksX2_tightest_0 19 rfl rfl)
theorem dX2_tightest_20 : decode cX2_tightest 20 = .ok (.iaload, 1) := dk_46 (dk_at dksX2_tightest_0 20 rfl rfl)
theorem dX2_tightest_21 : decode cX2_tightest 21 = .ok (.if_icmp .ge 41, 3) := dk_162 0 41 (dk_at dksX2_tightest_0 21 rfl rfl)
theorem dX2_tightest_24 : decode cX2_tightest 24 = .ok (.aload_n 0, 1) := dk_42 (dk_at dksX2_tightest_1 0 rfl rfl)
theorem dX2_tightest_25 : decode cX2_tightest 25 = .ok (.aload_n 0, 1) := dk_42 (dk_at dksX2_tightest_1 1 rfl rfl)
theorem dX2_tightest_26 : decode cX2_tightest 26 = .ok (.getfield 23, 3) := dk_180 0 23 (dk_at dksX2_tightest_1 2 rfl rfl)
theorem dX2_tightest_29 : decode cX2_tightest 29 = .ok (.iload_n 2, 1) := dk_28 (dk_at dksX2_tightest_1 5 rfl rfl)
theorem dX2_tightest_30 : decode cX2_tightest 30 = .ok (.invokevirtual 370, 3) := dk_182 1 114 (dk_at dksX2_tightest_1 6 rfl rfl)
theorem dX2_tightest_33 : decode cX2_tightest 33 = .ok (.ifCond .eq 23, 3) := dk_153 0 23 (dk_at dksX2_tightest_1 9 rfl rfl)
theorem dX2_tightest_36 : decode cX2_tightest 36 = .ok (.iload_n 1, 1) := dk_27 (dk_at dksX2_tightest_1 12 rfl rfl)
theorem dX2_tightest_37 : decode cX2_tightest 37 = .ok (.iconst (-1), 1) := dk_2 (dk_at dksX2_tightest_1 13 rfl rfl)
theorem dX2_tightest_38 : decode cX2_tightest 38 = .ok (.if_icmp .eq 16, 3) := dk_159 0 16 (dk_at dksX2_tightest_1 14 rfl rfl)
theorem dX2_tightest_41 : decode cX2_tightest 41 = .ok (.aload_n 0, 1) := dk_42 (dk_at dksX2_tightest_1 17 rfl rfl)
theorem dX2_tightest_42 : decode cX2_tightest 42 = .ok (.iload_n 2, 1) := dk_28 (dk_at dksX2_tightest_1 18 rfl rfl)
theorem dX2_tightest_43 : decode cX2_tightest 43 = .ok (.invokevirtual 465, 3) := dk_182 1 209 (dk_at dksX2_tightest_1 19 rfl rfl)
theorem dX2_tightest_46 : decode cX2_tightest 46 = .ok (.aload_n 0, 1) := dk_42 (dk_at dksX2_tightest_1 22 rfl rfl)
theorem dX2_tightest_47 : decode cX2_tightest 47 = .ok (.iload_n 1, 1) := dk_27 (dk_at dksX2_tightest_1 23 rfl rfl)
theorem dX2_tightest_48 : decode cX2_tightest 48 = .ok (.invokevirtual 465, 3) := dk_182 1 209 (dk_at dksX2_tightest_2 0 rfl rfl)
theorem dX2_tightest_51 : decode cX2_tightest 51 = .ok (.if_icmp .ge 5, 3) := dk_162 0 5 (dk_at dksX2_tightest_2 3 rfl rfl)
theorem dX2_tightest_54 : decode cX2_tightest 54 = .ok (.iload_n 2, 1) := dk_28 (dk_at dksX2_tightest_2 6 rfl rfl)
theorem dX2_tightest_55 : decode cX2_tightest 55 = .ok (.istore_n 1, 1) := dk_60 (dk_at dksX2_tightest_2 7 rfl rfl)
theorem dX2_tightest_56 : decode cX2_tightest 56 = .ok (.iinc 2 1, 3) := dk_132 2 1 (dk_at dksX2_tightest_2 8 rfl rfl)
theorem dX2_tightest_59 : decode cX2_tightest 59 = .ok (.goto (-45), 3) := dk_167 255 211 (dk_at dksX2_tightest_2 11 rfl rfl)
theorem dX2_tightest_62 : decode cX2_tightest 62 = .ok (.iload_n 1, 1) := dk_27 (dk_at dksX2_tightest_2 14 rfl rfl)
theorem dX2_tightest_63 : decode cX2_tightest 63 = .ok (.iconst (-1), 1) := dk_2 (dk_at dksX2_tightest_2 15 rfl rfl)
theorem dX2_tightest_64 : decode cX2_tightest 64 = .ok (.if_icmp .ne 11, 3) := dk_160 0 11 (dk_at dksX2_tightest_2 16 rfl rfl)
theorem dX2_tightest_67 : decode cX2_tightest 67 = .ok (.aload_n 0, 1) := dk_42 (dk_at dksX2_tightest_2 19 rfl rfl)
theorem dX2_tightest_68 : decode cX2_tightest 68 = .ok (.iconst 2, 1) := dk_5 (dk_at dksX2_tightest_2 20 rfl rfl)
theorem dX2_tightest_69 : decode cX2_tightest 69 = .ok (.invokevirtual 296, 3) := dk_182 1 40 (dk_at dksX2_tightest_2 21 rfl rfl)
theorem dX2_tightest_72 : decode cX2_tightest 72 = .ok (.goto 4, 3) := dk_167 0 4 (dk_at dksX2_tightest_3 0 rfl rfl)
theorem dX2_tightest_75 : decode cX2_tightest 75 = .ok (.iload_n 1, 1) := dk_27 (dk_at dksX2_tightest_3 3 rfl rfl)
theorem dX2_tightest_76 : decode cX2_tightest 76 = .ok (.ireturn, 1) := dk_172 (dk_at dksX2_tightest_3 4 rfl rfl)
abbrev cX2_advance : ByteArray := prog_22_method_139_code
def yX2_advance : MethodName := ⟨RX2, "advance", "(I)I"⟩
def dkwX2_advance_1 : List UInt8 := [180, 0, 23, 27, 182, 1, 245, 42, 180, 0, 23, 4, 46, 28, 100, 172]
abbrev dktX2_advance_1 : List UInt8 := dkwX2_advance_1 ++ []
def dkwX2_advance_0 : List UInt8 := [42, 27, 182, 1, 248, 154, 0, 5, 3, 172, 42, 182, 1, 254, 42, 180, 0, 23, 4, 46, 61, 42, 42]
abbrev dktX2_advance_0 : List UInt8 := dkwX2_advance_0 ++ dktX2_advance_1
theorem dksX2_advance_0 : cX2_advance.data.toList.drop 0 = dktX2_advance_0 := by decide +kernel
theorem dksX2_advance_1 : cX2_advance.data.toList.drop 23 = dktX2_advance_1 := dk_seg dksX2_advance_0 23 rfl rfl
theorem dX2_advance_0 : decode cX2_advance 0 = .ok (.aload_n 0, 1) := dk_42 (dk_at dksX2_advance_0 0 rfl rfl)
theorem dX2_advance_1 : decode cX2_advance 1 = .ok (.iload_n 1, 1) := dk_27 (dk_at dksX2_advance_0 1 rfl rfl)
theorem dX2_advance_2 : decode cX2_advance 2 = .ok (.invokevirtual 504, 3) := dk_182 1 248 (dk_at dksX2_advance_0 2 rfl rfl)
theorem dX2_advance_5 : decode cX2_advance 5 = .ok (.ifCond .ne 5, 3) := dk_154 0 5 (dk_at dksX2_advance_0 5 rfl rfl)
theorem dX2_advance_8 : decode cX2_advance 8 = .ok (.iconst 0, 1) := dk_3 (dk_at dksX2_advance_0 8 rfl rfl)
theorem dX2_advance_9 : decode cX2_advance 9 = .ok (.ireturn, 1) := dk_172 (dk_at dksX2_advance_0 9 rfl rfl)
theorem dX2_advance_10 : decode cX2_advance 10 = .ok (.aload_n 0, 1) := dk_42 (dk_at dksX2_advance_0 10 rfl rfl)
theorem dX2_advance_11 : decode cX2_advance 11 = .ok (.invokevirtual 510, 3) := dk_182 1 254 (dk_at dksX2_advance_0 11 rfl rfl)
theorem dX2_advance_14 : decode cX2_advance 14 = .ok (.aload_n 0, 1) := dk_42 (dk_at dksX2_advance_0 14 rfl rfl)
theorem dX2_advance_15 : decode cX2_advance 15 = .ok (.getfield 23, 3) := dk_180 0 23 (dk_at dksX2_advance_0 15 rfl rfl)
theorem dX2_advance_18 : decode cX2_advance 18 = .ok (.iconst 1, 1) := dk_4 (dk_at dksX2_advance_0 18 rfl rfl)
theorem dX2_advance_19 : decode cX2_advance 19 = .ok (.iaload, 1) := dk_46 (dk_at dksX2_advance_0 19 rfl rfl)
theorem dX2_advance_20 : decode cX2_advance 20 = .ok (.istore_n 2, 1) := dk_61 (dk_at dksX2_advance_0 20 rfl rfl)
theorem dX2_advance_21 : decode cX2_advance 21 = .ok (.aload_n 0, 1) := dk_42 (dk_at dksX2_advance_0 21 rfl rfl)
theorem dX2_advance_22 : decode cX2_advance 22 = .ok (.aload_n 0, 1) := dk_42 (dk_at dksX2_advance_0 22 rfl rfl)
theorem dX2_advance_23 : decode cX2_advance 23 = .ok (.getfield 23, 3) := dk_180 0 23 (dk_at dksX2_advance_1 0 rfl rfl)
theorem dX2_advance_26 : decode cX2_advance 26 = .ok (.iload_n 1, 1) := dk_27 (dk_at dksX2_advance_1 3 rfl rfl)
theorem dX2_advance_27 : decode cX2_advance 27 = .ok (.invokevirtual 501, 3) := dk_182 1 245 (dk_at dksX2_advance_1 4 rfl rfl)
theorem dX2_advance_30 : decode cX2_advance 30 = .ok (.aload_n 0, 1) := dk_42 (dk_at dksX2_advance_1 7 rfl rfl)
theorem dX2_advance_31 : decode cX2_advance 31 = .ok (.getfield 23, 3) := dk_180 0 23 (dk_at dksX2_advance_1 8 rfl rfl)
theorem dX2_advance_34 : decode cX2_advance 34 = .ok (.iconst 1, 1) := dk_4 (dk_at dksX2_advance_1 11 rfl rfl)
theorem dX2_advance_35 : decode cX2_advance 35 = .ok (.iaload, 1) := dk_46 (dk_at dksX2_advance_1 12 rfl rfl)
theorem dX2_advance_36 : decode cX2_advance 36 = .ok (.iload_n 2, 1) := dk_28 (dk_at dksX2_advance_1 13 rfl rfl)
theorem dX2_advance_37 : decode cX2_advance 37 = .ok (.isub, 1) := dk_100 (dk_at dksX2_advance_1 14 rfl rfl)
theorem dX2_advance_38 : decode cX2_advance 38 = .ok (.ireturn, 1) := dk_172 (dk_at dksX2_advance_1 15 rfl rfl)
abbrev cX2_remember : ByteArray := prog_22_method_47_code
def yX2_remember : MethodName := ⟨RX2, "remember", "()V"⟩
def dkwX2_remember_3 : List UInt8 := [104, 184, 1, 46, 42, 89, 180, 1, 54, 4, 96, 181, 1, 54, 177]
abbrev dktX2_remember_3 : List UInt8 := dkwX2_remember_3 ++ []
def dkwX2_remember_2 : List UInt8 := [180, 1, 54, 4, 100, 181, 1, 54, 42, 180, 0, 23, 3, 42, 180, 0, 32, 17, 5, 118, 42, 180, 1, 54]
abbrev dktX2_remember_2 : List UInt8 := dkwX2_remember_2 ++ dktX2_remember_3
def dkwX2_remember_1 : List UInt8 := [180, 0, 32, 27, 17, 5, 118, 100, 42, 180, 0, 32, 27, 46, 79, 132, 1, 1, 167, 255, 228, 42, 89]
abbrev dktX2_remember_1 : List UInt8 := dkwX2_remember_1 ++ dktX2_remember_2
def dkwX2_remember_0 : List UInt8 := [42, 180, 1, 54, 16, 6, 160, 0, 48, 17, 5, 118, 60, 27, 42, 180, 0, 32, 190, 162, 0, 25, 42]
abbrev dktX2_remember_0 : List UInt8 := dkwX2_remember_0 ++ dktX2_remember_1
theorem dksX2_remember_0 : cX2_remember.data.toList.drop 0 = dktX2_remember_0 := by decide +kernel
theorem dksX2_remember_1 : cX2_remember.data.toList.drop 23 = dktX2_remember_1 := dk_seg dksX2_remember_0 23 rfl rfl
theorem dksX2_remember_2 : cX2_remember.data.toList.drop 46 = dktX2_remember_2 := dk_seg dksX2_remember_1 23 rfl rfl
theorem dksX2_remember_3 : cX2_remember.data.toList.drop 70 = dktX2_remember_3 := dk_seg dksX2_remember_2 24 rfl rfl
theorem dX2_remember_0 : decode cX2_remember 0 = .ok (.aload_n 0, 1) := dk_42 (dk_at dksX2_remember_0 0 rfl rfl)
theorem dX2_remember_1 : decode cX2_remember 1 = .ok (.getfield 310, 3) := dk_180 1 54 (dk_at dksX2_remember_0 1 rfl rfl)
theorem dX2_remember_4 : decode cX2_remember 4 = .ok (.bipush 6, 2) := dk_16 6 (dk_at dksX2_remember_0 4 rfl rfl)
theorem dX2_remember_6 : decode cX2_remember 6 = .ok (.if_icmp .ne 48, 3) := dk_160 0 48 (dk_at dksX2_remember_0 6 rfl rfl)
theorem dX2_remember_9 : decode cX2_remember 9 = .ok (.sipush 1398, 3) := dk_17 5 118 (dk_at dksX2_remember_0 9 rfl rfl)
theorem dX2_remember_12 : decode cX2_remember 12 = .ok (.istore_n 1, 1) := dk_60 (dk_at dksX2_remember_0 12 rfl rfl)
theorem dX2_remember_13 : decode cX2_remember 13 = .ok (.iload_n 1, 1) := dk_27 (dk_at dksX2_remember_0 13 rfl rfl)
theorem dX2_remember_14 : decode cX2_remember 14 = .ok (.aload_n 0, 1) := dk_42 (dk_at dksX2_remember_0 14 rfl rfl)
theorem dX2_remember_15 : decode cX2_remember 15 = .ok (.getfield 32, 3) := dk_180 0 32 (dk_at dksX2_remember_0 15 rfl rfl)
theorem dX2_remember_18 : decode cX2_remember 18 = .ok (.arraylength, 1) := dk_190 (dk_at dksX2_remember_0 18 rfl rfl)
theorem dX2_remember_19 : decode cX2_remember 19 = .ok (.if_icmp .ge 25, 3) := dk_162 0 25 (dk_at dksX2_remember_0 19 rfl rfl)
theorem dX2_remember_22 : decode cX2_remember 22 = .ok (.aload_n 0, 1) := dk_42 (dk_at dksX2_remember_0 22 rfl rfl)
theorem dX2_remember_23 : decode cX2_remember 23 = .ok (.getfield 32, 3) := dk_180 0 32 (dk_at dksX2_remember_1 0 rfl rfl)
theorem dX2_remember_26 : decode cX2_remember 26 = .ok (.iload_n 1, 1) := dk_27 (dk_at dksX2_remember_1 3 rfl rfl)
theorem dX2_remember_27 : decode cX2_remember 27 = .ok (.sipush 1398, 3) := dk_17 5 118 (dk_at dksX2_remember_1 4 rfl rfl)
theorem dX2_remember_30 : decode cX2_remember 30 = .ok (.isub, 1) := dk_100 (dk_at dksX2_remember_1 7 rfl rfl)
theorem dX2_remember_31 : decode cX2_remember 31 = .ok (.aload_n 0, 1) := dk_42 (dk_at dksX2_remember_1 8 rfl rfl)
theorem dX2_remember_32 : decode cX2_remember 32 = .ok (.getfield 32, 3) := dk_180 0 32 (dk_at dksX2_remember_1 9 rfl rfl)
theorem dX2_remember_35 : decode cX2_remember 35 = .ok (.iload_n 1, 1) := dk_27 (dk_at dksX2_remember_1 12 rfl rfl)
theorem dX2_remember_36 : decode cX2_remember 36 = .ok (.iaload, 1) := dk_46 (dk_at dksX2_remember_1 13 rfl rfl)
theorem dX2_remember_37 : decode cX2_remember 37 = .ok (.iastore, 1) := dk_79 (dk_at dksX2_remember_1 14 rfl rfl)
theorem dX2_remember_38 : decode cX2_remember 38 = .ok (.iinc 1 1, 3) := dk_132 1 1 (dk_at dksX2_remember_1 15 rfl rfl)
theorem dX2_remember_41 : decode cX2_remember 41 = .ok (.goto (-28), 3) := dk_167 255 228 (dk_at dksX2_remember_1 18 rfl rfl)
theorem dX2_remember_44 : decode cX2_remember 44 = .ok (.aload_n 0, 1) := dk_42 (dk_at dksX2_remember_1 21 rfl rfl)
theorem dX2_remember_45 : decode cX2_remember 45 = .ok (.dup, 1) := dk_89 (dk_at dksX2_remember_1 22 rfl rfl)
theorem dX2_remember_46 : decode cX2_remember 46 = .ok (.getfield 310, 3) := dk_180 1 54 (dk_at dksX2_remember_2 0 rfl rfl)
theorem dX2_remember_49 : decode cX2_remember 49 = .ok (.iconst 1, 1) := dk_4 (dk_at dksX2_remember_2 3 rfl rfl)
theorem dX2_remember_50 : decode cX2_remember 50 = .ok (.isub, 1) := dk_100 (dk_at dksX2_remember_2 4 rfl rfl)
theorem dX2_remember_51 : decode cX2_remember 51 = .ok (.putfield 310, 3) := dk_181 1 54 (dk_at dksX2_remember_2 5 rfl rfl)
theorem dX2_remember_54 : decode cX2_remember 54 = .ok (.aload_n 0, 1) := dk_42 (dk_at dksX2_remember_2 8 rfl rfl)
theorem dX2_remember_55 : decode cX2_remember 55 = .ok (.getfield 23, 3) := dk_180 0 23 (dk_at dksX2_remember_2 9 rfl rfl)
theorem dX2_remember_58 : decode cX2_remember 58 = .ok (.iconst 0, 1) := dk_3 (dk_at dksX2_remember_2 12 rfl rfl)
theorem dX2_remember_59 : decode cX2_remember 59 = .ok (.aload_n 0, 1) := dk_42 (dk_at dksX2_remember_2 13 rfl rfl)
theorem dX2_remember_60 : decode cX2_remember 60 = .ok (.getfield 32, 3) := dk_180 0 32 (dk_at dksX2_remember_2 14 rfl rfl)
theorem dX2_remember_63 : decode cX2_remember 63 = .ok (.sipush 1398, 3) := dk_17 5 118 (dk_at dksX2_remember_2 17 rfl rfl)
theorem dX2_remember_66 : decode cX2_remember 66 = .ok (.aload_n 0, 1) := dk_42 (dk_at dksX2_remember_2 20 rfl rfl)
theorem dX2_remember_67 : decode cX2_remember 67 = .ok (.getfield 310, 3) := dk_180 1 54 (dk_at dksX2_remember_2 21 rfl rfl)
theorem dX2_remember_70 : decode cX2_remember 70 = .ok (.imul, 1) := dk_104 (dk_at dksX2_remember_3 0 rfl rfl)
theorem dX2_remember_71 : decode cX2_remember 71 = .ok (.invokestatic 302, 3) := dk_184 1 46 (dk_at dksX2_remember_3 1 rfl rfl)
theorem dX2_remember_74 : decode cX2_remember 74 = .ok (.aload_n 0, 1) := dk_42 (dk_at dksX2_remember_3 4 rfl rfl)
theorem dX2_remember_75 : decode cX2_remember 75 = .ok (.dup, 1) := dk_89 (dk_at dksX2_remember_3 5 rfl rfl)
theorem dX2_remember_76 : decode cX2_remember 76 = .ok (.getfield 310, 3) := dk_180 1 54 (dk_at dksX2_remember_3 6 rfl rfl)
theorem dX2_remember_79 : decode cX2_remember 79 = .ok (.iconst 1, 1) := dk_4 (dk_at dksX2_remember_3 9 rfl rfl)
theorem dX2_remember_80 : decode cX2_remember 80 = .ok (.iadd, 1) := dk_96 (dk_at dksX2_remember_3 10 rfl rfl)
theorem dX2_remember_81 : decode cX2_remember 81 = .ok (.putfield 310, 3) := dk_181 1 54 (dk_at dksX2_remember_3 11 rfl rfl)
theorem dX2_remember_84 : decode cX2_remember 84 = .ok (.return_, 1) := dk_177 (dk_at dksX2_remember_3 14 rfl rfl)
abbrev cX2_start : ByteArray := prog_22_method_140_code
def yX2_start : MethodName := ⟨RX2, "start", "(I)I"⟩
def dkwX2_start_2 : List UInt8 := [180, 0, 23, 27, 182, 1, 172, 172]
abbrev dktX2_start_2 : List UInt8 := dkwX2_start_2 ++ []
def dkwX2_start_1 : List UInt8 := [153, 0, 9, 42, 6, 182, 1, 40, 172, 42, 182, 1, 254, 42, 180, 0, 23, 27, 4, 184, 1, 150, 42, 42]
abbrev dktX2_start_1 : List UInt8 := dkwX2_start_1 ++ dktX2_start_2
def dkwX2_start_0 : List UInt8 := [42, 42, 27, 182, 1, 221, 182, 1, 205, 154, 0, 5, 3, 172, 42, 180, 0, 23, 16, 6, 27, 96, 46]
abbrev dktX2_start_0 : List UInt8 := dkwX2_start_0 ++ dktX2_start_1
theorem dksX2_start_0 : cX2_start.data.toList.drop 0 = dktX2_start_0 := by decide +kernel
theorem dksX2_start_1 : cX2_start.data.toList.drop 23 = dktX2_start_1 := dk_seg dksX2_start_0 23 rfl rfl
theorem dksX2_start_2 : cX2_start.data.toList.drop 47 = dktX2_start_2 := dk_seg dksX2_start_1 24 rfl rfl
theorem dX2_start_0 : decode cX2_start 0 = .ok (.aload_n 0, 1) := dk_42 (dk_at dksX2_start_0 0 rfl rfl)
theorem dX2_start_1 : decode cX2_start 1 = .ok (.aload_n 0, 1) := dk_42 (dk_at dksX2_start_0 1 rfl rfl)
theorem dX2_start_2 : decode cX2_start 2 = .ok (.iload_n 1, 1) := dk_27 (dk_at dksX2_start_0 2 rfl rfl)
theorem dX2_start_3 : decode cX2_start 3 = .ok (.invokevirtual 477, 3) := dk_182 1 221 (dk_at dksX2_start_0 3 rfl rfl)
theorem dX2_start_6 : decode cX2_start 6 = .ok (.invokevirtual 461, 3) := dk_182 1 205 (dk_at dksX2_start_0 6 rfl rfl)
theorem dX2_start_9 : decode cX2_start 9 = .ok (.ifCond .ne 5, 3) := dk_154 0 5 (dk_at dksX2_start_0 9 rfl rfl)
theorem dX2_start_12 : decode cX2_start 12 = .ok (.iconst 0, 1) := dk_3 (dk_at dksX2_start_0 12 rfl rfl)
theorem dX2_start_13 : decode cX2_start 13 = .ok (.ireturn, 1) := dk_172 (dk_at dksX2_start_0 13 rfl rfl)
theorem dX2_start_14 : decode cX2_start 14 = .ok (.aload_n 0, 1) := dk_42 (dk_at dksX2_start_0 14 rfl rfl)
theorem dX2_start_15 : decode cX2_start 15 = .ok (.getfield 23, 3) := dk_180 0 23 (dk_at dksX2_start_0 15 rfl rfl)
theorem dX2_start_18 : decode cX2_start 18 = .ok (.bipush 6, 2) := dk_16 6 (dk_at dksX2_start_0 18 rfl rfl)
theorem dX2_start_20 : decode cX2_start 20 = .ok (.iload_n 1, 1) := dk_27 (dk_at dksX2_start_0 20 rfl rfl)
theorem dX2_start_21 : decode cX2_start 21 = .ok (.iadd, 1) := dk_96 (dk_at dksX2_start_0 21 rfl rfl)
theorem dX2_start_22 : decode cX2_start 22 = .ok (.iaload, 1) := dk_46 (dk_at dksX2_start_0 22 rfl rfl)
theorem dX2_start_23 : decode cX2_start 23 = .ok (.ifCond .eq 9, 3) := dk_153 0 9 (dk_at dksX2_start_1 0 rfl rfl)
theorem dX2_start_26 : decode cX2_start 26 = .ok (.aload_n 0, 1) := dk_42 (dk_at dksX2_start_1 3 rfl rfl)
theorem dX2_start_27 : decode cX2_start 27 = .ok (.iconst 3, 1) := dk_6 (dk_at dksX2_start_1 4 rfl rfl)
theorem dX2_start_28 : decode cX2_start 28 = .ok (.invokevirtual 296, 3) := dk_182 1 40 (dk_at dksX2_start_1 5 rfl rfl)
theorem dX2_start_31 : decode cX2_start 31 = .ok (.ireturn, 1) := dk_172 (dk_at dksX2_start_1 8 rfl rfl)
theorem dX2_start_32 : decode cX2_start 32 = .ok (.aload_n 0, 1) := dk_42 (dk_at dksX2_start_1 9 rfl rfl)
theorem dX2_start_33 : decode cX2_start 33 = .ok (.invokevirtual 510, 3) := dk_182 1 254 (dk_at dksX2_start_1 10 rfl rfl)
theorem dX2_start_36 : decode cX2_start 36 = .ok (.aload_n 0, 1) := dk_42 (dk_at dksX2_start_1 13 rfl rfl)
theorem dX2_start_37 : decode cX2_start 37 = .ok (.getfield 23, 3) := dk_180 0 23 (dk_at dksX2_start_1 14 rfl rfl)
theorem dX2_start_40 : decode cX2_start 40 = .ok (.iload_n 1, 1) := dk_27 (dk_at dksX2_start_1 17 rfl rfl)
theorem dX2_start_41 : decode cX2_start 41 = .ok (.iconst 1, 1) := dk_4 (dk_at dksX2_start_1 18 rfl rfl)
theorem dX2_start_42 : decode cX2_start 42 = .ok (.invokestatic 406, 3) := dk_184 1 150 (dk_at dksX2_start_1 19 rfl rfl)
theorem dX2_start_45 : decode cX2_start 45 = .ok (.aload_n 0, 1) := dk_42 (dk_at dksX2_start_1 22 rfl rfl)
theorem dX2_start_46 : decode cX2_start 46 = .ok (.aload_n 0, 1) := dk_42 (dk_at dksX2_start_1 23 rfl rfl)
theorem dX2_start_47 : decode cX2_start 47 = .ok (.getfield 23, 3) := dk_180 0 23 (dk_at dksX2_start_2 0 rfl rfl)
theorem dX2_start_50 : decode cX2_start 50 = .ok (.iload_n 1, 1) := dk_27 (dk_at dksX2_start_2 3 rfl rfl)
theorem dX2_start_51 : decode cX2_start 51 = .ok (.invokevirtual 428, 3) := dk_182 1 172 (dk_at dksX2_start_2 4 rfl rfl)
theorem dX2_start_54 : decode cX2_start 54 = .ok (.ireturn, 1) := dk_172 (dk_at dksX2_start_2 7 rfl rfl)
abbrev cX2_stop : ByteArray := prog_22_method_141_code
def yX2_stop : MethodName := ⟨RX2, "stop", "(I)I"⟩
def dkwX2_stop_2 : List UInt8 := [172]
abbrev dktX2_stop_2 : List UInt8 := dkwX2_stop_2 ++ []
def dkwX2_stop_1 : List UInt8 := [28, 154, 0, 9, 42, 6, 182, 1, 40, 172, 42, 182, 1, 254, 42, 180, 0, 23, 27, 3, 184, 1, 150, 28]
abbrev dktX2_stop_1 : List UInt8 := dkwX2_stop_1 ++ dktX2_stop_2
def dkwX2_stop_0 : List UInt8 := [42, 42, 27, 182, 1, 221, 182, 1, 205, 154, 0, 5, 3, 172, 42, 180, 0, 23, 16, 6, 27, 96, 46, 61]
abbrev dktX2_stop_0 : List UInt8 := dkwX2_stop_0 ++ dktX2_stop_1
theorem dksX2_stop_0 : cX2_stop.data.toList.drop 0 = dktX2_stop_0 := by decide +kernel
theorem dksX2_stop_1 : cX2_stop.data.toList.drop 24 = dktX2_stop_1 := dk_seg dksX2_stop_0 24 rfl rfl
theorem dksX2_stop_2 : cX2_stop.data.toList.drop 48 = dktX2_stop_2 := dk_seg dksX2_stop_1 24 rfl rfl
theorem dX2_stop_0 : decode cX2_stop 0 = .ok (.aload_n 0, 1) := dk_42 (dk_at dksX2_stop_0 0 rfl rfl)
theorem dX2_stop_1 : decode cX2_stop 1 = .ok (.aload_n 0, 1) := dk_42 (dk_at dksX2_stop_0 1 rfl rfl)
theorem dX2_stop_2 : decode cX2_stop 2 = .ok (.iload_n 1, 1) := dk_27 (dk_at dksX2_stop_0 2 rfl rfl)
theorem dX2_stop_3 : decode cX2_stop 3 = .ok (.invokevirtual 477, 3) := dk_182 1 221 (dk_at dksX2_stop_0 3 rfl rfl)
theorem dX2_stop_6 : decode cX2_stop 6 = .ok (.invokevirtual 461, 3) := dk_182 1 205 (dk_at dksX2_stop_0 6 rfl rfl)
theorem dX2_stop_9 : decode cX2_stop 9 = .ok (.ifCond .ne 5, 3) := dk_154 0 5 (dk_at dksX2_stop_0 9 rfl rfl)
theorem dX2_stop_12 : decode cX2_stop 12 = .ok (.iconst 0, 1) := dk_3 (dk_at dksX2_stop_0 12 rfl rfl)
theorem dX2_stop_13 : decode cX2_stop 13 = .ok (.ireturn, 1) := dk_172 (dk_at dksX2_stop_0 13 rfl rfl)
theorem dX2_stop_14 : decode cX2_stop 14 = .ok (.aload_n 0, 1) := dk_42 (dk_at dksX2_stop_0 14 rfl rfl)
theorem dX2_stop_15 : decode cX2_stop 15 = .ok (.getfield 23, 3) := dk_180 0 23 (dk_at dksX2_stop_0 15 rfl rfl)
theorem dX2_stop_18 : decode cX2_stop 18 = .ok (.bipush 6, 2) := dk_16 6 (dk_at dksX2_stop_0 18 rfl rfl)
theorem dX2_stop_20 : decode cX2_stop 20 = .ok (.iload_n 1, 1) := dk_27 (dk_at dksX2_stop_0 20 rfl rfl)
theorem dX2_stop_21 : decode cX2_stop 21 = .ok (.iadd, 1) := dk_96 (dk_at dksX2_stop_0 21 rfl rfl)
theorem dX2_stop_22 : decode cX2_stop 22 = .ok (.iaload, 1) := dk_46 (dk_at dksX2_stop_0 22 rfl rfl)
theorem dX2_stop_23 : decode cX2_stop 23 = .ok (.istore_n 2, 1) := dk_61 (dk_at dksX2_stop_0 23 rfl rfl)
theorem dX2_stop_24 : decode cX2_stop 24 = .ok (.iload_n 2, 1) := dk_28 (dk_at dksX2_stop_1 0 rfl rfl)
theorem dX2_stop_25 : decode cX2_stop 25 = .ok (.ifCond .ne 9, 3) := dk_154 0 9 (dk_at dksX2_stop_1 1 rfl rfl)
theorem dX2_stop_28 : decode cX2_stop 28 = .ok (.aload_n 0, 1) := dk_42 (dk_at dksX2_stop_1 4 rfl rfl)
theorem dX2_stop_29 : decode cX2_stop 29 = .ok (.iconst 3, 1) := dk_6 (dk_at dksX2_stop_1 5 rfl rfl)
theorem dX2_stop_30 : decode cX2_stop 30 = .ok (.invokevirtual 296, 3) := dk_182 1 40 (dk_at dksX2_stop_1 6 rfl rfl)
theorem dX2_stop_33 : decode cX2_stop 33 = .ok (.ireturn, 1) := dk_172 (dk_at dksX2_stop_1 9 rfl rfl)
theorem dX2_stop_34 : decode cX2_stop 34 = .ok (.aload_n 0, 1) := dk_42 (dk_at dksX2_stop_1 10 rfl rfl)
theorem dX2_stop_35 : decode cX2_stop 35 = .ok (.invokevirtual 510, 3) := dk_182 1 254 (dk_at dksX2_stop_1 11 rfl rfl)
theorem dX2_stop_38 : decode cX2_stop 38 = .ok (.aload_n 0, 1) := dk_42 (dk_at dksX2_stop_1 14 rfl rfl)
theorem dX2_stop_39 : decode cX2_stop 39 = .ok (.getfield 23, 3) := dk_180 0 23 (dk_at dksX2_stop_1 15 rfl rfl)
theorem dX2_stop_42 : decode cX2_stop 42 = .ok (.iload_n 1, 1) := dk_27 (dk_at dksX2_stop_1 18 rfl rfl)
theorem dX2_stop_43 : decode cX2_stop 43 = .ok (.iconst 0, 1) := dk_3 (dk_at dksX2_stop_1 19 rfl rfl)
theorem dX2_stop_44 : decode cX2_stop 44 = .ok (.invokestatic 406, 3) := dk_184 1 150 (dk_at dksX2_stop_1 20 rfl rfl)
theorem dX2_stop_47 : decode cX2_stop 47 = .ok (.iload_n 2, 1) := dk_28 (dk_at dksX2_stop_1 23 rfl rfl)
theorem dX2_stop_48 : decode cX2_stop 48 = .ok (.ireturn, 1) := dk_172 (dk_at dksX2_stop_2 0 rfl rfl)
abbrev cX2_setPower : ByteArray := prog_22_method_142_code
def yX2_setPower : MethodName := ⟨RX2, "setPower", "(II)I"⟩
def dkwX2_setPower_3 : List UInt8 := [96, 46, 28, 184, 1, 93, 79, 29, 172]
abbrev dktX2_setPower_3 : List UInt8 := dkwX2_setPower_3 ++ []
def dkwX2_setPower_2 : List UInt8 := [180, 0, 23, 16, 70, 27, 96, 28, 79, 42, 180, 0, 23, 16, 54, 27, 96, 42, 180, 0, 23, 16, 54, 27]
abbrev dktX2_setPower_2 : List UInt8 := dkwX2_setPower_2 ++ dktX2_setPower_3
def dkwX2_setPower_1 : List UInt8 := [154, 0, 9, 42, 6, 182, 1, 40, 172, 42, 182, 1, 254, 42, 180, 0, 23, 16, 70, 27, 96, 46, 62, 42]
abbrev dktX2_setPower_1 : List UInt8 := dkwX2_setPower_1 ++ dktX2_setPower_2
def dkwX2_setPower_0 : List UInt8 := [42, 42, 27, 182, 1, 221, 182, 1, 205, 154, 0, 5, 3, 172, 28, 4, 17, 3, 231, 184, 0, 114]
abbrev dktX2_setPower_0 : List UInt8 := dkwX2_setPower_0 ++ dktX2_setPower_1
theorem dksX2_setPower_0 : cX2_setPower.data.toList.drop 0 = dktX2_setPower_0 := by decide +kernel
theorem dksX2_setPower_1 : cX2_setPower.data.toList.drop 22 = dktX2_setPower_1 := dk_seg dksX2_setPower_0 22 rfl rfl
theorem dksX2_setPower_2 : cX2_setPower.data.toList.drop 46 = dktX2_setPower_2 := dk_seg dksX2_setPower_1 24 rfl rfl
theorem dksX2_setPower_3 : cX2_setPower.data.toList.drop 70 = dktX2_setPower_3 := dk_seg dksX2_setPower_2 24 rfl rfl
theorem dX2_setPower_0 : decode cX2_setPower 0 = .ok (.aload_n 0, 1) := dk_42 (dk_at dksX2_setPower_0 0 rfl rfl)
theorem dX2_setPower_1 : decode cX2_setPower 1 = .ok (.aload_n 0, 1) := dk_42 (dk_at dksX2_setPower_0 1 rfl rfl)
theorem dX2_setPower_2 : decode cX2_setPower 2 = .ok (.iload_n 1, 1) := dk_27 (dk_at dksX2_setPower_0 2 rfl rfl)
theorem dX2_setPower_3 : decode cX2_setPower 3 = .ok (.invokevirtual 477, 3) := dk_182 1 221 (dk_at dksX2_setPower_0 3 rfl rfl)
theorem dX2_setPower_6 : decode cX2_setPower 6 = .ok (.invokevirtual 461, 3) := dk_182 1 205 (dk_at dksX2_setPower_0 6 rfl rfl)
theorem dX2_setPower_9 : decode cX2_setPower 9 = .ok (.ifCond .ne 5, 3) := dk_154 0 5 (dk_at dksX2_setPower_0 9 rfl rfl)
theorem dX2_setPower_12 : decode cX2_setPower 12 = .ok (.iconst 0, 1) := dk_3 (dk_at dksX2_setPower_0 12 rfl rfl)
theorem dX2_setPower_13 : decode cX2_setPower 13 = .ok (.ireturn, 1) := dk_172 (dk_at dksX2_setPower_0 13 rfl rfl)
theorem dX2_setPower_14 : decode cX2_setPower 14 = .ok (.iload_n 2, 1) := dk_28 (dk_at dksX2_setPower_0 14 rfl rfl)
theorem dX2_setPower_15 : decode cX2_setPower 15 = .ok (.iconst 1, 1) := dk_4 (dk_at dksX2_setPower_0 15 rfl rfl)
theorem dX2_setPower_16 : decode cX2_setPower 16 = .ok (.sipush 999, 3) := dk_17 3 231 (dk_at dksX2_setPower_0 16 rfl rfl)
theorem dX2_setPower_19 : decode cX2_setPower 19 = .ok (.invokestatic 114, 3) := dk_184 0 114 (dk_at dksX2_setPower_0 19 rfl rfl)
theorem dX2_setPower_22 : decode cX2_setPower 22 = .ok (.ifCond .ne 9, 3) := dk_154 0 9 (dk_at dksX2_setPower_1 0 rfl rfl)
theorem dX2_setPower_25 : decode cX2_setPower 25 = .ok (.aload_n 0, 1) := dk_42 (dk_at dksX2_setPower_1 3 rfl rfl)
theorem dX2_setPower_26 : decode cX2_setPower 26 = .ok (.iconst 3, 1) := dk_6 (dk_at dksX2_setPower_1 4 rfl rfl)
theorem dX2_setPower_27 : decode cX2_setPower 27 = .ok (.invokevirtual 296, 3) := dk_182 1 40 (dk_at dksX2_setPower_1 5 rfl rfl)
theorem dX2_setPower_30 : decode cX2_setPower 30 = .ok (.ireturn, 1) := dk_172 (dk_at dksX2_setPower_1 8 rfl rfl)
theorem dX2_setPower_31 : decode cX2_setPower 31 = .ok (.aload_n 0, 1) := dk_42 (dk_at dksX2_setPower_1 9 rfl rfl)
theorem dX2_setPower_32 : decode cX2_setPower 32 = .ok (.invokevirtual 510, 3) := dk_182 1 254 (dk_at dksX2_setPower_1 10 rfl rfl)
theorem dX2_setPower_35 : decode cX2_setPower 35 = .ok (.aload_n 0, 1) := dk_42 (dk_at dksX2_setPower_1 13 rfl rfl)
theorem dX2_setPower_36 : decode cX2_setPower 36 = .ok (.getfield 23, 3) := dk_180 0 23 (dk_at dksX2_setPower_1 14 rfl rfl)
theorem dX2_setPower_39 : decode cX2_setPower 39 = .ok (.bipush 70, 2) := dk_16 70 (dk_at dksX2_setPower_1 17 rfl rfl)
theorem dX2_setPower_41 : decode cX2_setPower 41 = .ok (.iload_n 1, 1) := dk_27 (dk_at dksX2_setPower_1 19 rfl rfl)
theorem dX2_setPower_42 : decode cX2_setPower 42 = .ok (.iadd, 1) := dk_96 (dk_at dksX2_setPower_1 20 rfl rfl)
theorem dX2_setPower_43 : decode cX2_setPower 43 = .ok (.iaload, 1) := dk_46 (dk_at dksX2_setPower_1 21 rfl rfl)
theorem dX2_setPower_44 : decode cX2_setPower 44 = .ok (.istore_n 3, 1) := dk_62 (dk_at dksX2_setPower_1 22 rfl rfl)
theorem dX2_setPower_45 : decode cX2_setPower 45 = .ok (.aload_n 0, 1) := dk_42 (dk_at dksX2_setPower_1 23 rfl rfl)
theorem dX2_setPower_46 : decode cX2_setPower 46 = .ok (.getfield 23, 3) := dk_180 0 23 (dk_at dksX2_setPower_2 0 rfl rfl)
theorem dX2_setPower_49 : decode cX2_setPower 49 = .ok (.bipush 70, 2) := dk_16 70 (dk_at dksX2_setPower_2 3 rfl rfl)
theorem dX2_setPower_51 : decode cX2_setPower 51 = .ok (.iload_n 1, 1) := dk_27 (dk_at dksX2_setPower_2 5 rfl rfl)
theorem dX2_setPower_52 : decode cX2_setPower 52 = .ok (.iadd, 1) := dk_96 (dk_at dksX2_setPower_2 6 rfl rfl)
theorem dX2_setPower_53 : decode cX2_setPower 53 = .ok (.iload_n 2, 1) := dk_28 (dk_at dksX2_setPower_2 7 rfl rfl)
theorem dX2_setPower_54 : decode cX2_setPower 54 = .ok (.iastore, 1) := dk_79 (dk_at dksX2_setPower_2 8 rfl rfl)
theorem dX2_setPower_55 : decode cX2_setPower 55 = .ok (.aload_n 0, 1) := dk_42 (dk_at dksX2_setPower_2 9 rfl rfl)
theorem dX2_setPower_56 : decode cX2_setPower 56 = .ok (.getfield 23, 3) := dk_180 0 23 (dk_at dksX2_setPower_2 10 rfl rfl)
theorem dX2_setPower_59 : decode cX2_setPower 59 = .ok (.bipush 54, 2) := dk_16 54 (dk_at dksX2_setPower_2 13 rfl rfl)
theorem dX2_setPower_61 : decode cX2_setPower 61 = .ok (.iload_n 1, 1) := dk_27 (dk_at dksX2_setPower_2 15 rfl rfl)
theorem dX2_setPower_62 : decode cX2_setPower 62 = .ok (.iadd, 1) := dk_96 (dk_at dksX2_setPower_2 16 rfl rfl)
theorem dX2_setPower_63 : decode cX2_setPower 63 = .ok (.aload_n 0, 1) := dk_42 (dk_at dksX2_setPower_2 17 rfl rfl)
theorem dX2_setPower_64 : decode cX2_setPower 64 = .ok (.getfield 23, 3) := dk_180 0 23 (dk_at dksX2_setPower_2 18 rfl rfl)
theorem dX2_setPower_67 : decode cX2_setPower 67 = .ok (.bipush 54, 2) := dk_16 54 (dk_at dksX2_setPower_2 21 rfl rfl)
theorem dX2_setPower_69 : decode cX2_setPower 69 = .ok (.iload_n 1, 1) := dk_27 (dk_at dksX2_setPower_2 23 rfl rfl)
theorem dX2_setPower_70 : decode cX2_setPower 70 = .ok (.iadd, 1) := dk_96 (dk_at dksX2_setPower_3 0 rfl rfl)
theorem dX2_setPower_71 : decode cX2_setPower 71 = .ok (.iaload, 1) := dk_46 (dk_at dksX2_setPower_3 1 rfl rfl)
theorem dX2_setPower_72 : decode cX2_setPower 72 = .ok (.iload_n 2, 1) := dk_28 (dk_at dksX2_setPower_3 2 rfl rfl)
theorem dX2_setPower_73 : decode cX2_setPower 73 = .ok (.invokestatic 349, 3) := dk_184 1 93 (dk_at dksX2_setPower_3 3 rfl rfl)
theorem dX2_setPower_76 : decode cX2_setPower 76 = .ok (.iastore, 1) := dk_79 (dk_at dksX2_setPower_3 6 rfl rfl)
theorem dX2_setPower_77 : decode cX2_setPower 77 = .ok (.iload_n 3, 1) := dk_29 (dk_at dksX2_setPower_3 7 rfl rfl)
theorem dX2_setPower_78 : decode cX2_setPower 78 = .ok (.ireturn, 1) := dk_172 (dk_at dksX2_setPower_3 8 rfl rfl)
abbrev cX2_addIncumbent : ByteArray := prog_22_method_143_code
def yX2_addIncumbent : MethodName := ⟨RX2, "addIncumbent", "(IIIIII)I"⟩
def dkwX2_addIncumbent_9 : List UInt8 := [42, 180, 0, 23, 7, 92, 46, 4, 96, 79, 42, 180, 0, 23, 7, 46, 4, 100, 172]
abbrev dktX2_addIncumbent_9 : List UInt8 := dkwX2_addIncumbent_9 ++ []
def dkwX2_addIncumbent_8 : List UInt8 := [96, 42, 180, 0, 23, 3, 46, 4, 96, 21, 6, 96, 79, 42, 180, 0, 23, 21, 7, 16, 7, 96, 4, 79]
abbrev dktX2_addIncumbent_8 : List UInt8 := dkwX2_addIncumbent_8 ++ dktX2_addIncumbent_9
def dkwX2_addIncumbent_7 : List UInt8 := [180, 0, 23, 21, 7, 8, 96, 42, 180, 0, 23, 3, 46, 4, 96, 79, 42, 180, 0, 23, 21, 7, 16, 6]
abbrev dktX2_addIncumbent_7 : List UInt8 := dkwX2_addIncumbent_7 ++ dktX2_addIncumbent_8
def dkwX2_addIncumbent_6 : List UInt8 := [180, 0, 23, 21, 7, 6, 96, 21, 4, 79, 42, 180, 0, 23, 21, 7, 7, 96, 21, 5, 79, 42]
abbrev dktX2_addIncumbent_6 : List UInt8 := dkwX2_addIncumbent_6 ++ dktX2_addIncumbent_7
def dkwX2_addIncumbent_5 : List UInt8 := [96, 27, 79, 42, 180, 0, 23, 21, 7, 4, 96, 28, 79, 42, 180, 0, 23, 21, 7, 5, 96, 29, 79, 42]
abbrev dktX2_addIncumbent_5 : List UInt8 := dkwX2_addIncumbent_5 ++ dktX2_addIncumbent_6
def dkwX2_addIncumbent_4 : List UInt8 := [182, 1, 254, 16, 118, 16, 8, 42, 180, 0, 23, 7, 46, 104, 96, 54, 7, 42, 180, 0, 23, 21, 7, 3]
abbrev dktX2_addIncumbent_4 : List UInt8 := dkwX2_addIncumbent_4 ++ dktX2_addIncumbent_5
def dkwX2_addIncumbent_3 : List UInt8 := [182, 1, 40, 172, 42, 180, 0, 23, 7, 46, 16, 10, 160, 0, 9, 42, 4, 182, 1, 40, 172, 42]
abbrev dktX2_addIncumbent_3 : List UInt8 := dkwX2_addIncumbent_3 ++ dktX2_addIncumbent_4
def dkwX2_addIncumbent_2 : List UInt8 := [3, 18, 169, 184, 0, 114, 153, 0, 15, 21, 6, 4, 17, 3, 231, 184, 0, 114, 154, 0, 9, 42, 6]
abbrev dktX2_addIncumbent_2 : List UInt8 := dkwX2_addIncumbent_2 ++ dktX2_addIncumbent_3
def dkwX2_addIncumbent_1 : List UInt8 := [153, 0, 7, 4, 167, 0, 4, 3, 182, 1, 205, 154, 0, 5, 3, 172, 21, 4, 29, 161, 0, 26, 21, 5]
abbrev dktX2_addIncumbent_1 : List UInt8 := dkwX2_addIncumbent_1 ++ dktX2_addIncumbent_2
def dkwX2_addIncumbent_0 : List UInt8 := [42, 42, 27, 28, 182, 1, 215, 153, 0, 24, 42, 29, 182, 1, 218, 153, 0, 16, 42, 21, 4, 182, 1, 218]
abbrev dktX2_addIncumbent_0 : List UInt8 := dkwX2_addIncumbent_0 ++ dktX2_addIncumbent_1
theorem dksX2_addIncumbent_0 : cX2_addIncumbent.data.toList.drop 0 = dktX2_addIncumbent_0 := by decide +kernel
theorem dksX2_addIncumbent_1 : cX2_addIncumbent.data.toList.drop 24 = dktX2_addIncumbent_1 := dk_seg dksX2_addIncumbent_0 24 rfl rfl
theorem dksX2_addIncumbent_2 : cX2_addIncumbent.data.toList.drop 48 = dktX2_addIncumbent_2 := dk_seg dksX2_addIncumbent_1 24 rfl rfl
theorem dksX2_addIncumbent_3 : cX2_addIncumbent.data.toList.drop 71 = dktX2_addIncumbent_3 := dk_seg dksX2_addIncumbent_2 23 rfl rfl
theorem dksX2_addIncumbent_4 : cX2_addIncumbent.data.toList.drop 93 = dktX2_addIncumbent_4 := dk_seg dksX2_addIncumbent_3 22 rfl rfl
theorem dksX2_addIncumbent_5 : cX2_addIncumbent.data.toList.drop 117 = dktX2_addIncumbent_5 := dk_seg dksX2_addIncumbent_4 24 rfl rfl
theorem dksX2_addIncumbent_6 : cX2_addIncumbent.data.toList.drop 141 = dktX2_addIncumbent_6 := dk_seg dksX2_addIncumbent_5 24 rfl rfl
theorem dksX2_addIncumbent_7 : cX2_addIncumbent.data.toList.drop 163 = dktX2_addIncumbent_7 := dk_seg dksX2_addIncumbent_6 22 rfl rfl
theorem dksX2_addIncumbent_8 : cX2_addIncumbent.data.toList.drop 187 = dktX2_addIncumbent_8 := dk_seg dksX2_addIncumbent_7 24 rfl rfl
theorem dksX2_addIncumbent_9 : cX2_addIncumbent.data.toList.drop 211 = dktX2_addIncumbent_9 := dk_seg dksX2_addIncumbent_8 24 rfl rfl
theorem dX2_addIncumbent_0 : decode cX2_addIncumbent 0 = .ok (.aload_n 0, 1) := dk_42 (dk_at dksX2_addIncumbent_0 0 rfl rfl)
theorem dX2_addIncumbent_1 : decode cX2_addIncumbent 1 = .ok (.aload_n 0, 1) := dk_42 (dk_at dksX2_addIncumbent_0 1 rfl rfl)
theorem dX2_addIncumbent_2 : decode cX2_addIncumbent 2 = .ok (.iload_n 1, 1) := dk_27 (dk_at dksX2_addIncumbent_0 2 rfl rfl)
theorem dX2_addIncumbent_3 : decode cX2_addIncumbent 3 = .ok (.iload_n 2, 1) := dk_28 (dk_at dksX2_addIncumbent_0 3 rfl rfl)
theorem dX2_addIncumbent_4 : decode cX2_addIncumbent 4 = .ok (.invokevirtual 471, 3) := dk_182 1 215 (dk_at dksX2_addIncumbent_0 4 rfl rfl)
theorem dX2_addIncumbent_7 : decode cX2_addIncumbent 7 = .ok (.ifCond .eq 24, 3) := dk_153 0 24 (dk_at dksX2_addIncumbent_0 7 rfl rfl)
theorem dX2_addIncumbent_10 : decode cX2_addIncumbent 10 = .ok (.aload_n 0, 1) := dk_42 (dk_at dksX2_addIncumbent_0 10 rfl rfl)
theorem dX2_addIncumbent_11 : decode cX2_addIncumbent 11 = .ok (.iload_n 3, 1) := dk_29 (dk_at dksX2_addIncumbent_0 11 rfl rfl)
theorem dX2_addIncumbent_12 : decode cX2_addIncumbent 12 = .ok (.invokevirtual 474, 3) := dk_182 1 218 (dk_at dksX2_addIncumbent_0 12 rfl rfl)
theorem dX2_addIncumbent_15 : decode cX2_addIncumbent 15 = .ok (.ifCond .eq 16, 3) := dk_153 0 16 (dk_at dksX2_addIncumbent_0 15 rfl rfl)
theorem dX2_addIncumbent_18 : decode cX2_addIncumbent 18 = .ok (.aload_n 0, 1) := dk_42 (dk_at dksX2_addIncumbent_0 18 rfl rfl)
theorem dX2_addIncumbent_19 : decode cX2_addIncumbent 19 = .ok (.iload 4, 2) := dk_21 4 (dk_at dksX2_addIncumbent_0 19 rfl rfl)
theorem dX2_addIncumbent_21 : decode cX2_addIncumbent 21 = .ok (.invokevirtual 474, 3) := dk_182 1 218 (dk_at dksX2_addIncumbent_0 21 rfl rfl)
theorem dX2_addIncumbent_24 : decode cX2_addIncumbent 24 = .ok (.ifCond .eq 7, 3) := dk_153 0 7 (dk_at dksX2_addIncumbent_1 0 rfl rfl)
theorem dX2_addIncumbent_27 : decode cX2_addIncumbent 27 = .ok (.iconst 1, 1) := dk_4 (dk_at dksX2_addIncumbent_1 3 rfl rfl)
theorem dX2_addIncumbent_28 : decode cX2_addIncumbent 28 = .ok (.goto 4, 3) := dk_167 0 4 (dk_at dksX2_addIncumbent_1 4 rfl rfl)
theorem dX2_addIncumbent_31 : decode cX2_addIncumbent 31 = .ok (.iconst 0, 1) := dk_3 (dk_at dksX2_addIncumbent_1 7 rfl rfl)
theorem dX2_addIncumbent_32 : decode cX2_addIncumbent 32 = .ok (.invokevirtual 461, 3) := dk_182 1 205 (dk_at dksX2_addIncumbent_1 8 rfl rfl)
theorem dX2_addIncumbent_35 : decode cX2_addIncumbent 35 = .ok (.ifCond .ne 5, 3) := dk_154 0 5 (dk_at dksX2_addIncumbent_1 11 rfl rfl)
theorem dX2_addIncumbent_38 : decode cX2_addIncumbent 38 = .ok (.iconst 0, 1) := dk_3 (dk_at dksX2_addIncumbent_1 14 rfl rfl)
theorem dX2_addIncumbent_39 : decode cX2_addIncumbent 39 = .ok (.ireturn, 1) := dk_172 (dk_at dksX2_addIncumbent_1 15 rfl rfl)
theorem dX2_addIncumbent_40 : decode cX2_addIncumbent 40 = .ok (.iload 4, 2) := dk_21 4 (dk_at dksX2_addIncumbent_1 16 rfl rfl)
theorem dX2_addIncumbent_42 : decode cX2_addIncumbent 42 = .ok (.iload_n 3, 1) := dk_29 (dk_at dksX2_addIncumbent_1 18 rfl rfl)
theorem dX2_addIncumbent_43 : decode cX2_addIncumbent 43 = .ok (.if_icmp .lt 26, 3) := dk_161 0 26 (dk_at dksX2_addIncumbent_1 19 rfl rfl)
theorem dX2_addIncumbent_46 : decode cX2_addIncumbent 46 = .ok (.iload 5, 2) := dk_21 5 (dk_at dksX2_addIncumbent_1 22 rfl rfl)
theorem dX2_addIncumbent_48 : decode cX2_addIncumbent 48 = .ok (.iconst 0, 1) := dk_3 (dk_at dksX2_addIncumbent_2 0 rfl rfl)
theorem dX2_addIncumbent_49 : decode cX2_addIncumbent 49 = .ok (.ldc 169, 2) := dk_18 169 (dk_at dksX2_addIncumbent_2 1 rfl rfl)
theorem dX2_addIncumbent_51 : decode cX2_addIncumbent 51 = .ok (.invokestatic 114, 3) := dk_184 0 114 (dk_at dksX2_addIncumbent_2 3 rfl rfl)
theorem dX2_addIncumbent_54 : decode cX2_addIncumbent 54 = .ok (.ifCond .eq 15, 3) := dk_153 0 15 (dk_at dksX2_addIncumbent_2 6 rfl rfl)
theorem dX2_addIncumbent_57 : decode cX2_addIncumbent 57 = .ok (.iload 6, 2) := dk_21 6 (dk_at dksX2_addIncumbent_2 9 rfl rfl)
theorem dX2_addIncumbent_59 : decode cX2_addIncumbent 59 = .ok (.iconst 1, 1) := dk_4 (dk_at dksX2_addIncumbent_2 11 rfl rfl)
theorem dX2_addIncumbent_60 : decode cX2_addIncumbent 60 = .ok (.sipush 999, 3) := dk_17 3 231 (dk_at dksX2_addIncumbent_2 12 rfl rfl)
theorem dX2_addIncumbent_63 : decode cX2_addIncumbent 63 = .ok (.invokestatic 114, 3) := dk_184 0 114 (dk_at dksX2_addIncumbent_2 15 rfl rfl)
theorem dX2_addIncumbent_66 : decode cX2_addIncumbent 66 = .ok (.ifCond .ne 9, 3) := dk_154 0 9 (dk_at dksX2_addIncumbent_2 18 rfl rfl)
theorem dX2_addIncumbent_69 : decode cX2_addIncumbent 69 = .ok (.aload_n 0, 1) := dk_42 (dk_at dksX2_addIncumbent_2 21 rfl rfl)
theorem dX2_addIncumbent_70 : decode cX2_addIncumbent 70 = .ok (.iconst 3, 1) := dk_6 (dk_at dksX2_addIncumbent_2 22 rfl rfl)
theorem dX2_addIncumbent_71 : decode cX2_addIncumbent 71 = .ok (.invokevirtual 296, 3) := dk_182 1 40 (dk_at dksX2_addIncumbent_3 0 rfl rfl)
theorem dX2_addIncumbent_74 : decode cX2_addIncumbent 74 = .ok (.ireturn, 1) := dk_172 (dk_at dksX2_addIncumbent_3 3 rfl rfl)
theorem dX2_addIncumbent_75 : decode cX2_addIncumbent 75 = .ok (.aload_n 0, 1) := dk_42 (dk_at dksX2_addIncumbent_3 4 rfl rfl)
theorem dX2_addIncumbent_76 : decode cX2_addIncumbent 76 = .ok (.getfield 23, 3) := dk_180 0 23 (dk_at dksX2_addIncumbent_3 5 rfl rfl)
theorem dX2_addIncumbent_79 : decode cX2_addIncumbent 79 = .ok (.iconst 4, 1) := dk_7 (dk_at dksX2_addIncumbent_3 8 rfl rfl)
theorem dX2_addIncumbent_80 : decode cX2_addIncumbent 80 = .ok (.iaload, 1) := dk_46 (dk_at dksX2_addIncumbent_3 9 rfl rfl)
theorem dX2_addIncumbent_81 : decode cX2_addIncumbent 81 = .ok (.bipush 10, 2) := dk_16 10 (dk_at dksX2_addIncumbent_3 10 rfl rfl)
theorem dX2_addIncumbent_83 : decode cX2_addIncumbent 83 = .ok (.if_icmp .ne 9, 3) := dk_160 0 9 (dk_at dksX2_addIncumbent_3 12 rfl rfl)
theorem dX2_addIncumbent_86 : decode cX2_addIncumbent 86 = .ok (.aload_n 0, 1) := dk_42 (dk_at dksX2_addIncumbent_3 15 rfl rfl)
theorem dX2_addIncumbent_87 : decode cX2_addIncumbent 87 = .ok (.iconst 1, 1) := dk_4 (dk_at dksX2_addIncumbent_3 16 rfl rfl)
theorem dX2_addIncumbent_88 : decode cX2_addIncumbent 88 = .ok (.invokevirtual 296, 3) := dk_182 1 40 (dk_at dksX2_addIncumbent_3 17 rfl rfl)
theorem dX2_addIncumbent_91 : decode cX2_addIncumbent 91 = .ok (.ireturn, 1) := dk_172 (dk_at dksX2_addIncumbent_3 20 rfl rfl)
theorem dX2_addIncumbent_92 : decode cX2_addIncumbent 92 = .ok (.aload_n 0, 1) := dk_42 (dk_at dksX2_addIncumbent_3 21 rfl rfl)
theorem dX2_addIncumbent_93 : decode cX2_addIncumbent 93 = .ok (.invokevirtual 510, 3) := dk_182 1 254 (dk_at dksX2_addIncumbent_4 0 rfl rfl)
theorem dX2_addIncumbent_96 : decode cX2_addIncumbent 96 = .ok (.bipush 118, 2) := dk_16 118 (dk_at dksX2_addIncumbent_4 3 rfl rfl)
theorem dX2_addIncumbent_98 : decode cX2_addIncumbent 98 = .ok (.bipush 8, 2) := dk_16 8 (dk_at dksX2_addIncumbent_4 5 rfl rfl)
theorem dX2_addIncumbent_100 : decode cX2_addIncumbent 100 = .ok (.aload_n 0, 1) := dk_42 (dk_at dksX2_addIncumbent_4 7 rfl rfl)
theorem dX2_addIncumbent_101 : decode cX2_addIncumbent 101 = .ok (.getfield 23, 3) := dk_180 0 23 (dk_at dksX2_addIncumbent_4 8 rfl rfl)
theorem dX2_addIncumbent_104 : decode cX2_addIncumbent 104 = .ok (.iconst 4, 1) := dk_7 (dk_at dksX2_addIncumbent_4 11 rfl rfl)
theorem dX2_addIncumbent_105 : decode cX2_addIncumbent 105 = .ok (.iaload, 1) := dk_46 (dk_at dksX2_addIncumbent_4 12 rfl rfl)
theorem dX2_addIncumbent_106 : decode cX2_addIncumbent 106 = .ok (.imul, 1) := dk_104 (dk_at dksX2_addIncumbent_4 13 rfl rfl)
theorem dX2_addIncumbent_107 : decode cX2_addIncumbent 107 = .ok (.iadd, 1) := dk_96 (dk_at dksX2_addIncumbent_4 14 rfl rfl)
theorem dX2_addIncumbent_108 : decode cX2_addIncumbent 108 = .ok (.istore 7, 2) := dk_54 7 (dk_at dksX2_addIncumbent_4 15 rfl rfl)
theorem dX2_addIncumbent_110 : decode cX2_addIncumbent 110 = .ok (.aload_n 0, 1) := dk_42 (dk_at dksX2_addIncumbent_4 17 rfl rfl)
theorem dX2_addIncumbent_111 : decode cX2_addIncumbent 111 = .ok (.getfield 23, 3) := dk_180 0 23 (dk_at dksX2_addIncumbent_4 18 rfl rfl)
theorem dX2_addIncumbent_114 : decode cX2_addIncumbent 114 = .ok (.iload 7, 2) := dk_21 7 (dk_at dksX2_addIncumbent_4 21 rfl rfl)
theorem dX2_addIncumbent_116 : decode cX2_addIncumbent 116 = .ok (.iconst 0, 1) := dk_3 (dk_at dksX2_addIncumbent_4 23 rfl rfl)
theorem dX2_addIncumbent_117 : decode cX2_addIncumbent 117 = .ok (.iadd, 1) := dk_96 (dk_at dksX2_addIncumbent_5 0 rfl rfl)
theorem dX2_addIncumbent_118 : decode cX2_addIncumbent 118 = .ok (.iload_n 1, 1) := dk_27 (dk_at dksX2_addIncumbent_5 1 rfl rfl)
theorem dX2_addIncumbent_119 : decode cX2_addIncumbent 119 = .ok (.iastore, 1) := dk_79 (dk_at dksX2_addIncumbent_5 2 rfl rfl)
theorem dX2_addIncumbent_120 : decode cX2_addIncumbent 120 = .ok (.aload_n 0, 1) := dk_42 (dk_at dksX2_addIncumbent_5 3 rfl rfl)
theorem dX2_addIncumbent_121 : decode cX2_addIncumbent 121 = .ok (.getfield 23, 3) := dk_180 0 23 (dk_at dksX2_addIncumbent_5 4 rfl rfl)
theorem dX2_addIncumbent_124 : decode cX2_addIncumbent 124 = .ok (.iload 7, 2) := dk_21 7 (dk_at dksX2_addIncumbent_5 7 rfl rfl)
theorem dX2_addIncumbent_126 : decode cX2_addIncumbent 126 = .ok (.iconst 1, 1) := dk_4 (dk_at dksX2_addIncumbent_5 9 rfl rfl)
theorem dX2_addIncumbent_127 : decode cX2_addIncumbent 127 = .ok (.iadd, 1) := dk_96 (dk_at dksX2_addIncumbent_5 10 rfl rfl)
theorem dX2_addIncumbent_128 : decode cX2_addIncumbent 128 = .ok (.iload_n 2, 1) := dk_28 (dk_at dksX2_addIncumbent_5 11 rfl rfl)
theorem dX2_addIncumbent_129 : decode cX2_addIncumbent 129 = .ok (.iastore, 1) := dk_79 (dk_at dksX2_addIncumbent_5 12 rfl rfl)
theorem dX2_addIncumbent_130 : decode cX2_addIncumbent 130 = .ok (.aload_n 0, 1) := dk_42 (dk_at dksX2_addIncumbent_5 13 rfl rfl)
theorem dX2_addIncumbent_131 : decode cX2_addIncumbent 131 = .ok (.getfield 23, 3) := dk_180 0 23 (dk_at dksX2_addIncumbent_5 14 rfl rfl)
theorem dX2_addIncumbent_134 : decode cX2_addIncumbent 134 = .ok (.iload 7, 2) := dk_21 7 (dk_at dksX2_addIncumbent_5 17 rfl rfl)
theorem dX2_addIncumbent_136 : decode cX2_addIncumbent 136 = .ok (.iconst 2, 1) := dk_5 (dk_at dksX2_addIncumbent_5 19 rfl rfl)
theorem dX2_addIncumbent_137 : decode cX2_addIncumbent 137 = .ok (.iadd, 1) := dk_96 (dk_at dksX2_addIncumbent_5 20 rfl rfl)
theorem dX2_addIncumbent_138 : decode cX2_addIncumbent 138 = .ok (.iload_n 3, 1) := dk_29 (dk_at dksX2_addIncumbent_5 21 rfl rfl)
theorem dX2_addIncumbent_139 : decode cX2_addIncumbent 139 = .ok (.iastore, 1) := dk_79 (dk_at dksX2_addIncumbent_5 22 rfl rfl)
theorem dX2_addIncumbent_140 : decode cX2_addIncumbent 140 = .ok (.aload_n 0, 1) := dk_42 (dk_at dksX2_addIncumbent_5 23 rfl rfl)
theorem dX2_addIncumbent_141 : decode cX2_addIncumbent 141 = .ok (.getfield 23, 3) := dk_180 0 23 (dk_at dksX2_addIncumbent_6 0 rfl rfl)
theorem dX2_addIncumbent_144 : decode cX2_addIncumbent 144 = .ok (.iload 7, 2) := dk_21 7 (dk_at dksX2_addIncumbent_6 3 rfl rfl)
theorem dX2_addIncumbent_146 : decode cX2_addIncumbent 146 = .ok (.iconst 3, 1) := dk_6 (dk_at dksX2_addIncumbent_6 5 rfl rfl)
theorem dX2_addIncumbent_147 : decode cX2_addIncumbent 147 = .ok (.iadd, 1) := dk_96 (dk_at dksX2_addIncumbent_6 6 rfl rfl)
theorem dX2_addIncumbent_148 : decode cX2_addIncumbent 148 = .ok (.iload 4, 2) := dk_21 4 (dk_at dksX2_addIncumbent_6 7 rfl rfl)
theorem dX2_addIncumbent_150 : decode cX2_addIncumbent 150 = .ok (.iastore, 1) := dk_79 (dk_at dksX2_addIncumbent_6 9 rfl rfl)
theorem dX2_addIncumbent_151 : decode cX2_addIncumbent 151 = .ok (.aload_n 0, 1) := dk_42 (dk_at dksX2_addIncumbent_6 10 rfl rfl)
theorem dX2_addIncumbent_152 : decode cX2_addIncumbent 152 = .ok (.getfield 23, 3) := dk_180 0 23 (dk_at dksX2_addIncumbent_6 11 rfl rfl)
theorem dX2_addIncumbent_155 : decode cX2_addIncumbent 155 = .ok (.iload 7, 2) := dk_21 7 (dk_at dksX2_addIncumbent_6 14 rfl rfl)
theorem dX2_addIncumbent_157 : decode cX2_addIncumbent 157 = .ok (.iconst 4, 1) := dk_7 (dk_at dksX2_addIncumbent_6 16 rfl rfl)
theorem dX2_addIncumbent_158 : decode cX2_addIncumbent 158 = .ok (.iadd, 1) := dk_96 (dk_at dksX2_addIncumbent_6 17 rfl rfl)
theorem dX2_addIncumbent_159 : decode cX2_addIncumbent 159 = .ok (.iload 5, 2) := dk_21 5 (dk_at dksX2_addIncumbent_6 18 rfl rfl)
theorem dX2_addIncumbent_161 : decode cX2_addIncumbent 161 = .ok (.iastore, 1) := dk_79 (dk_at dksX2_addIncumbent_6 20 rfl rfl)
theorem dX2_addIncumbent_162 : decode cX2_addIncumbent 162 = .ok (.aload_n 0, 1) := dk_42 (dk_at dksX2_addIncumbent_6 21 rfl rfl)
theorem dX2_addIncumbent_163 : decode cX2_addIncumbent 163 = .ok (.getfield 23, 3) := dk_180 0 23 (dk_at dksX2_addIncumbent_7 0 rfl rfl)
theorem dX2_addIncumbent_166 : decode cX2_addIncumbent 166 = .ok (.iload 7, 2) := dk_21 7 (dk_at dksX2_addIncumbent_7 3 rfl rfl)
theorem dX2_addIncumbent_168 : decode cX2_addIncumbent 168 = .ok (.iconst 5, 1) := dk_8 (dk_at dksX2_addIncumbent_7 5 rfl rfl)
theorem dX2_addIncumbent_169 : decode cX2_addIncumbent 169 = .ok (.iadd, 1) := dk_96 (dk_at dksX2_addIncumbent_7 6 rfl rfl)
theorem dX2_addIncumbent_170 : decode cX2_addIncumbent 170 = .ok (.aload_n 0, 1) := dk_42 (dk_at dksX2_addIncumbent_7 7 rfl rfl)
theorem dX2_addIncumbent_171 : decode cX2_addIncumbent 171 = .ok (.getfield 23, 3) := dk_180 0 23 (dk_at dksX2_addIncumbent_7 8 rfl rfl)
theorem dX2_addIncumbent_174 : decode cX2_addIncumbent 174 = .ok (.iconst 0, 1) := dk_3 (dk_at dksX2_addIncumbent_7 11 rfl rfl)
theorem dX2_addIncumbent_175 : decode cX2_addIncumbent 175 = .ok (.iaload, 1) := dk_46 (dk_at dksX2_addIncumbent_7 12 rfl rfl)
theorem dX2_addIncumbent_176 : decode cX2_addIncumbent 176 = .ok (.iconst 1, 1) := dk_4 (dk_at dksX2_addIncumbent_7 13 rfl rfl)
theorem dX2_addIncumbent_177 : decode cX2_addIncumbent 177 = .ok (.iadd, 1) := dk_96 (dk_at dksX2_addIncumbent_7 14 rfl rfl)
theorem dX2_addIncumbent_178 : decode cX2_addIncumbent 178 = .ok (.iastore, 1) := dk_79 (dk_at dksX2_addIncumbent_7 15 rfl rfl)
theorem dX2_addIncumbent_179 : decode cX2_addIncumbent 179 = .ok (.aload_n 0, 1) := dk_42 (dk_at dksX2_addIncumbent_7 16 rfl rfl)
theorem dX2_addIncumbent_180 : decode cX2_addIncumbent 180 = .ok (.getfield 23, 3) := dk_180 0 23 (dk_at dksX2_addIncumbent_7 17 rfl rfl)
theorem dX2_addIncumbent_183 : decode cX2_addIncumbent 183 = .ok (.iload 7, 2) := dk_21 7 (dk_at dksX2_addIncumbent_7 20 rfl rfl)
theorem dX2_addIncumbent_185 : decode cX2_addIncumbent 185 = .ok (.bipush 6, 2) := dk_16 6 (dk_at dksX2_addIncumbent_7 22 rfl rfl)
theorem dX2_addIncumbent_187 : decode cX2_addIncumbent 187 = .ok (.iadd, 1) := dk_96 (dk_at dksX2_addIncumbent_8 0 rfl rfl)
theorem dX2_addIncumbent_188 : decode cX2_addIncumbent 188 = .ok (.aload_n 0, 1) := dk_42 (dk_at dksX2_addIncumbent_8 1 rfl rfl)
theorem dX2_addIncumbent_189 : decode cX2_addIncumbent 189 = .ok (.getfield 23, 3) := dk_180 0 23 (dk_at dksX2_addIncumbent_8 2 rfl rfl)
theorem dX2_addIncumbent_192 : decode cX2_addIncumbent 192 = .ok (.iconst 0, 1) := dk_3 (dk_at dksX2_addIncumbent_8 5 rfl rfl)
theorem dX2_addIncumbent_193 : decode cX2_addIncumbent 193 = .ok (.iaload, 1) := dk_46 (dk_at dksX2_addIncumbent_8 6 rfl rfl)
theorem dX2_addIncumbent_194 : decode cX2_addIncumbent 194 = .ok (.iconst 1, 1) := dk_4 (dk_at dksX2_addIncumbent_8 7 rfl rfl)
theorem dX2_addIncumbent_195 : decode cX2_addIncumbent 195 = .ok (.iadd, 1) := dk_96 (dk_at dksX2_addIncumbent_8 8 rfl rfl)
theorem dX2_addIncumbent_196 : decode cX2_addIncumbent 196 = .ok (.iload 6, 2) := dk_21 6 (dk_at dksX2_addIncumbent_8 9 rfl rfl)
theorem dX2_addIncumbent_198 : decode cX2_addIncumbent 198 = .ok (.iadd, 1) := dk_96 (dk_at dksX2_addIncumbent_8 11 rfl rfl)
theorem dX2_addIncumbent_199 : decode cX2_addIncumbent 199 = .ok (.iastore, 1) := dk_79 (dk_at dksX2_addIncumbent_8 12 rfl rfl)
theorem dX2_addIncumbent_200 : decode cX2_addIncumbent 200 = .ok (.aload_n 0, 1) := dk_42 (dk_at dksX2_addIncumbent_8 13 rfl rfl)
theorem dX2_addIncumbent_201 : decode cX2_addIncumbent 201 = .ok (.getfield 23, 3) := dk_180 0 23 (dk_at dksX2_addIncumbent_8 14 rfl rfl)
theorem dX2_addIncumbent_204 : decode cX2_addIncumbent 204 = .ok (.iload 7, 2) := dk_21 7 (dk_at dksX2_addIncumbent_8 17 rfl rfl)
theorem dX2_addIncumbent_206 : decode cX2_addIncumbent 206 = .ok (.bipush 7, 2) := dk_16 7 (dk_at dksX2_addIncumbent_8 19 rfl rfl)
theorem dX2_addIncumbent_208 : decode cX2_addIncumbent 208 = .ok (.iadd, 1) := dk_96 (dk_at dksX2_addIncumbent_8 21 rfl rfl)
theorem dX2_addIncumbent_209 : decode cX2_addIncumbent 209 = .ok (.iconst 1, 1) := dk_4 (dk_at dksX2_addIncumbent_8 22 rfl rfl)
theorem dX2_addIncumbent_210 : decode cX2_addIncumbent 210 = .ok (.iastore, 1) := dk_79 (dk_at dksX2_addIncumbent_8 23 rfl rfl)
theorem dX2_addIncumbent_211 : decode cX2_addIncumbent 211 = .ok (.aload_n 0, 1) := dk_42 (dk_at dksX2_addIncumbent_9 0 rfl rfl)
theorem dX2_addIncumbent_212 : decode cX2_addIncumbent 212 = .ok (.getfield 23, 3) := dk_180 0 23 (dk_at dksX2_addIncumbent_9 1 rfl rfl)
theorem dX2_addIncumbent_215 : decode cX2_addIncumbent 215 = .ok (.iconst 4, 1) := dk_7 (dk_at dksX2_addIncumbent_9 4 rfl rfl)
theorem dX2_addIncumbent_216 : decode cX2_addIncumbent 216 = .ok (.dup2, 1) := dk_92 (dk_at dksX2_addIncumbent_9 5 rfl rfl)
theorem dX2_addIncumbent_217 : decode cX2_addIncumbent 217 = .ok (.iaload, 1) := dk_46 (dk_at dksX2_addIncumbent_9 6 rfl rfl)
theorem dX2_addIncumbent_218 : decode cX2_addIncumbent 218 = .ok (.iconst 1, 1) := dk_4 (dk_at dksX2_addIncumbent_9 7 rfl rfl)
theorem dX2_addIncumbent_219 : decode cX2_addIncumbent 219 = .ok (.iadd, 1) := dk_96 (dk_at dksX2_addIncumbent_9 8 rfl rfl)
theorem dX2_addIncumbent_220 : decode cX2_addIncumbent 220 = .ok (.iastore, 1) := dk_79 (dk_at dksX2_addIncumbent_9 9 rfl rfl)
theorem dX2_addIncumbent_221 : decode cX2_addIncumbent 221 = .ok (.aload_n 0, 1) := dk_42 (dk_at dksX2_addIncumbent_9 10 rfl rfl)
theorem dX2_addIncumbent_222 : decode cX2_addIncumbent 222 = .ok (.getfield 23, 3) := dk_180 0 23 (dk_at dksX2_addIncumbent_9 11 rfl rfl)
theorem dX2_addIncumbent_225 : decode cX2_addIncumbent 225 = .ok (.iconst 4, 1) := dk_7 (dk_at dksX2_addIncumbent_9 14 rfl rfl)
theorem dX2_addIncumbent_226 : decode cX2_addIncumbent 226 = .ok (.iaload, 1) := dk_46 (dk_at dksX2_addIncumbent_9 15 rfl rfl)
theorem dX2_addIncumbent_227 : decode cX2_addIncumbent 227 = .ok (.iconst 1, 1) := dk_4 (dk_at dksX2_addIncumbent_9 16 rfl rfl)
theorem dX2_addIncumbent_228 : decode cX2_addIncumbent 228 = .ok (.isub, 1) := dk_100 (dk_at dksX2_addIncumbent_9 17 rfl rfl)
theorem dX2_addIncumbent_229 : decode cX2_addIncumbent 229 = .ok (.ireturn, 1) := dk_172 (dk_at dksX2_addIncumbent_9 18 rfl rfl)
abbrev cX2_endIncumbent : ByteArray := prog_22_method_144_code
def yX2_endIncumbent : MethodName := ⟨RX2, "endIncumbent", "(I)I"⟩
def dkwX2_endIncumbent_2 : List UInt8 := [182, 1, 254, 42, 180, 0, 23, 28, 46, 62, 42, 180, 0, 23, 28, 42, 180, 0, 23, 3, 46, 79, 29, 172]
abbrev dktX2_endIncumbent_2 : List UInt8 := dkwX2_endIncumbent_2 ++ []
def dkwX2_endIncumbent_1 : List UInt8 := [61, 42, 180, 0, 23, 28, 46, 42, 180, 0, 23, 3, 46, 163, 0, 9, 42, 6, 182, 1, 40, 172, 42]
abbrev dktX2_endIncumbent_1 : List UInt8 := dkwX2_endIncumbent_1 ++ dktX2_endIncumbent_2
def dkwX2_endIncumbent_0 : List UInt8 := [42, 42, 27, 182, 1, 202, 182, 1, 205, 154, 0, 5, 3, 172, 16, 118, 16, 8, 27, 104, 96, 16, 6, 96]
abbrev dktX2_endIncumbent_0 : List UInt8 := dkwX2_endIncumbent_0 ++ dktX2_endIncumbent_1
theorem dksX2_endIncumbent_0 : cX2_endIncumbent.data.toList.drop 0 = dktX2_endIncumbent_0 := by decide +kernel
theorem dksX2_endIncumbent_1 : cX2_endIncumbent.data.toList.drop 24 = dktX2_endIncumbent_1 := dk_seg dksX2_endIncumbent_0 24 rfl rfl
theorem dksX2_endIncumbent_2 : cX2_endIncumbent.data.toList.drop 47 = dktX2_endIncumbent_2 := dk_seg dksX2_endIncumbent_1 23 rfl rfl
theorem dX2_endIncumbent_0 : decode cX2_endIncumbent 0 = .ok (.aload_n 0, 1) := dk_42 (dk_at dksX2_endIncumbent_0 0 rfl rfl)
theorem dX2_endIncumbent_1 : decode cX2_endIncumbent 1 = .ok (.aload_n 0, 1) := dk_42 (dk_at dksX2_endIncumbent_0 1 rfl rfl)
theorem dX2_endIncumbent_2 : decode cX2_endIncumbent 2 = .ok (.iload_n 1, 1) := dk_27 (dk_at dksX2_endIncumbent_0 2 rfl rfl)
theorem dX2_endIncumbent_3 : decode cX2_endIncumbent 3 = .ok (.invokevirtual 458, 3) := dk_182 1 202 (dk_at dksX2_endIncumbent_0 3 rfl rfl)
theorem dX2_endIncumbent_6 : decode cX2_endIncumbent 6 = .ok (.invokevirtual 461, 3) := dk_182 1 205 (dk_at dksX2_endIncumbent_0 6 rfl rfl)
theorem dX2_endIncumbent_9 : decode cX2_endIncumbent 9 = .ok (.ifCond .ne 5, 3) := dk_154 0 5 (dk_at dksX2_endIncumbent_0 9 rfl rfl)
theorem dX2_endIncumbent_12 : decode cX2_endIncumbent 12 = .ok (.iconst 0, 1) := dk_3 (dk_at dksX2_endIncumbent_0 12 rfl rfl)
theorem dX2_endIncumbent_13 : decode cX2_endIncumbent 13 = .ok (.ireturn, 1) := dk_172 (dk_at dksX2_endIncumbent_0 13 rfl rfl)
theorem dX2_endIncumbent_14 : decode cX2_endIncumbent 14 = .ok (.bipush 118, 2) := dk_16 118 (dk_at dksX2_endIncumbent_0 14 rfl rfl)
theorem dX2_endIncumbent_16 : decode cX2_endIncumbent 16 = .ok (.bipush 8, 2) := dk_16 8 (dk_at dksX2_endIncumbent_0 16 rfl rfl)
theorem dX2_endIncumbent_18 : decode cX2_endIncumbent 18 = .ok (.iload_n 1, 1) := dk_27 (dk_at dksX2_endIncumbent_0 18 rfl rfl)
theorem dX2_endIncumbent_19 : decode cX2_endIncumbent 19 = .ok (.imul, 1) := dk_104 (dk_at dksX2_endIncumbent_0 19 rfl rfl)
theorem dX2_endIncumbent_20 : decode cX2_endIncumbent 20 = .ok (.iadd, 1) := dk_96 (dk_at dksX2_endIncumbent_0 20 rfl rfl)
theorem dX2_endIncumbent_21 : decode cX2_endIncumbent 21 = .ok (.bipush 6, 2) := dk_16 6 (dk_at dksX2_endIncumbent_0 21 rfl rfl)
theorem dX2_endIncumbent_23 : decode cX2_endIncumbent 23 = .ok (.iadd, 1) := dk_96 (dk_at dksX2_endIncumbent_0 23 rfl rfl)
theorem dX2_endIncumbent_24 : decode cX2_endIncumbent 24 = .ok (.istore_n 2, 1) := dk_61 (dk_at dksX2_endIncumbent_1 0 rfl rfl)
theorem dX2_endIncumbent_25 : decode cX2_endIncumbent 25 = .ok (.aload_n 0, 1) := dk_42 (dk_at dksX2_endIncumbent_1 1 rfl rfl)
theorem dX2_endIncumbent_26 : decode cX2_endIncumbent 26 = .ok (.getfield 23, 3) := dk_180 0 23 (dk_at dksX2_endIncumbent_1 2 rfl rfl)
theorem dX2_endIncumbent_29 : decode cX2_endIncumbent 29 = .ok (.iload_n 2, 1) := dk_28 (dk_at dksX2_endIncumbent_1 5 rfl rfl)
theorem dX2_endIncumbent_30 : decode cX2_endIncumbent 30 = .ok (.iaload, 1) := dk_46 (dk_at dksX2_endIncumbent_1 6 rfl rfl)
theorem dX2_endIncumbent_31 : decode cX2_endIncumbent 31 = .ok (.aload_n 0, 1) := dk_42 (dk_at dksX2_endIncumbent_1 7 rfl rfl)
theorem dX2_endIncumbent_32 : decode cX2_endIncumbent 32 = .ok (.getfield 23, 3) := dk_180 0 23 (dk_at dksX2_endIncumbent_1 8 rfl rfl)
theorem dX2_endIncumbent_35 : decode cX2_endIncumbent 35 = .ok (.iconst 0, 1) := dk_3 (dk_at dksX2_endIncumbent_1 11 rfl rfl)
theorem dX2_endIncumbent_36 : decode cX2_endIncumbent 36 = .ok (.iaload, 1) := dk_46 (dk_at dksX2_endIncumbent_1 12 rfl rfl)
theorem dX2_endIncumbent_37 : decode cX2_endIncumbent 37 = .ok (.if_icmp .gt 9, 3) := dk_163 0 9 (dk_at dksX2_endIncumbent_1 13 rfl rfl)
theorem dX2_endIncumbent_40 : decode cX2_endIncumbent 40 = .ok (.aload_n 0, 1) := dk_42 (dk_at dksX2_endIncumbent_1 16 rfl rfl)
theorem dX2_endIncumbent_41 : decode cX2_endIncumbent 41 = .ok (.iconst 3, 1) := dk_6 (dk_at dksX2_endIncumbent_1 17 rfl rfl)
theorem dX2_endIncumbent_42 : decode cX2_endIncumbent 42 = .ok (.invokevirtual 296, 3) := dk_182 1 40 (dk_at dksX2_endIncumbent_1 18 rfl rfl)
theorem dX2_endIncumbent_45 : decode cX2_endIncumbent 45 = .ok (.ireturn, 1) := dk_172 (dk_at dksX2_endIncumbent_1 21 rfl rfl)
theorem dX2_endIncumbent_46 : decode cX2_endIncumbent 46 = .ok (.aload_n 0, 1) := dk_42 (dk_at dksX2_endIncumbent_1 22 rfl rfl)
theorem dX2_endIncumbent_47 : decode cX2_endIncumbent 47 = .ok (.invokevirtual 510, 3) := dk_182 1 254 (dk_at dksX2_endIncumbent_2 0 rfl rfl)
theorem dX2_endIncumbent_50 : decode cX2_endIncumbent 50 = .ok (.aload_n 0, 1) := dk_42 (dk_at dksX2_endIncumbent_2 3 rfl rfl)
theorem dX2_endIncumbent_51 : decode cX2_endIncumbent 51 = .ok (.getfield 23, 3) := dk_180 0 23 (dk_at dksX2_endIncumbent_2 4 rfl rfl)
theorem dX2_endIncumbent_54 : decode cX2_endIncumbent 54 = .ok (.iload_n 2, 1) := dk_28 (dk_at dksX2_endIncumbent_2 7 rfl rfl)
theorem dX2_endIncumbent_55 : decode cX2_endIncumbent 55 = .ok (.iaload, 1) := dk_46 (dk_at dksX2_endIncumbent_2 8 rfl rfl)
theorem dX2_endIncumbent_56 : decode cX2_endIncumbent 56 = .ok (.istore_n 3, 1) := dk_62 (dk_at dksX2_endIncumbent_2 9 rfl rfl)
theorem dX2_endIncumbent_57 : decode cX2_endIncumbent 57 = .ok (.aload_n 0, 1) := dk_42 (dk_at dksX2_endIncumbent_2 10 rfl rfl)
theorem dX2_endIncumbent_58 : decode cX2_endIncumbent 58 = .ok (.getfield 23, 3) := dk_180 0 23 (dk_at dksX2_endIncumbent_2 11 rfl rfl)
theorem dX2_endIncumbent_61 : decode cX2_endIncumbent 61 = .ok (.iload_n 2, 1) := dk_28 (dk_at dksX2_endIncumbent_2 14 rfl rfl)
theorem dX2_endIncumbent_62 : decode cX2_endIncumbent 62 = .ok (.aload_n 0, 1) := dk_42 (dk_at dksX2_endIncumbent_2 15 rfl rfl)
theorem dX2_endIncumbent_63 : decode cX2_endIncumbent 63 = .ok (.getfield 23, 3) := dk_180 0 23 (dk_at dksX2_endIncumbent_2 16 rfl rfl)
theorem dX2_endIncumbent_66 : decode cX2_endIncumbent 66 = .ok (.iconst 0, 1) := dk_3 (dk_at dksX2_endIncumbent_2 19 rfl rfl)
theorem dX2_endIncumbent_67 : decode cX2_endIncumbent 67 = .ok (.iaload, 1) := dk_46 (dk_at dksX2_endIncumbent_2 20 rfl rfl)
theorem dX2_endIncumbent_68 : decode cX2_endIncumbent 68 = .ok (.iastore, 1) := dk_79 (dk_at dksX2_endIncumbent_2 21 rfl rfl)
theorem dX2_endIncumbent_69 : decode cX2_endIncumbent 69 = .ok (.iload_n 3, 1) := dk_29 (dk_at dksX2_endIncumbent_2 22 rfl rfl)
theorem dX2_endIncumbent_70 : decode cX2_endIncumbent 70 = .ok (.ireturn, 1) := dk_172 (dk_at dksX2_endIncumbent_2 23 rfl rfl)
abbrev cX2_undo : ByteArray := prog_22_method_145_code
def yX2_undo : MethodName := ⟨RX2, "undo", "()I"⟩
def dkwX2_undo_2 : List UInt8 := [180, 0, 23, 3, 184, 1, 46, 42, 180, 1, 54, 172]
abbrev dktX2_undo_2 : List UInt8 := dkwX2_undo_2 ++ []
def dkwX2_undo_1 : List UInt8 := [172, 42, 89, 180, 1, 54, 4, 100, 181, 1, 54, 42, 180, 0, 32, 17, 5, 118, 42, 180, 1, 54, 104, 42]
abbrev dktX2_undo_1 : List UInt8 := dkwX2_undo_1 ++ dktX2_undo_2
def dkwX2_undo_0 : List UInt8 := [42, 42, 180, 1, 54, 154, 0, 7, 4, 167, 0, 4, 3, 181, 0, 85, 42, 180, 0, 85, 158, 0, 5, 3]
abbrev dktX2_undo_0 : List UInt8 := dkwX2_undo_0 ++ dktX2_undo_1
theorem dksX2_undo_0 : cX2_undo.data.toList.drop 0 = dktX2_undo_0 := by decide +kernel
theorem dksX2_undo_1 : cX2_undo.data.toList.drop 24 = dktX2_undo_1 := dk_seg dksX2_undo_0 24 rfl rfl
theorem dksX2_undo_2 : cX2_undo.data.toList.drop 48 = dktX2_undo_2 := dk_seg dksX2_undo_1 24 rfl rfl
theorem dX2_undo_0 : decode cX2_undo 0 = .ok (.aload_n 0, 1) := dk_42 (dk_at dksX2_undo_0 0 rfl rfl)
theorem dX2_undo_1 : decode cX2_undo 1 = .ok (.aload_n 0, 1) := dk_42 (dk_at dksX2_undo_0 1 rfl rfl)
theorem dX2_undo_2 : decode cX2_undo 2 = .ok (.getfield 310, 3) := dk_180 1 54 (dk_at dksX2_undo_0 2 rfl rfl)
theorem dX2_undo_5 : decode cX2_undo 5 = .ok (.ifCond .ne 7, 3) := dk_154 0 7 (dk_at dksX2_undo_0 5 rfl rfl)
theorem dX2_undo_8 : decode cX2_undo 8 = .ok (.iconst 1, 1) := dk_4 (dk_at dksX2_undo_0 8 rfl rfl)
theorem dX2_undo_9 : decode cX2_undo 9 = .ok (.goto 4, 3) := dk_167 0 4 (dk_at dksX2_undo_0 9 rfl rfl)
theorem dX2_undo_12 : decode cX2_undo 12 = .ok (.iconst 0, 1) := dk_3 (dk_at dksX2_undo_0 12 rfl rfl)
theorem dX2_undo_13 : decode cX2_undo 13 = .ok (.putfield 85, 3) := dk_181 0 85 (dk_at dksX2_undo_0 13 rfl rfl)
theorem dX2_undo_16 : decode cX2_undo 16 = .ok (.aload_n 0, 1) := dk_42 (dk_at dksX2_undo_0 16 rfl rfl)
theorem dX2_undo_17 : decode cX2_undo 17 = .ok (.getfield 85, 3) := dk_180 0 85 (dk_at dksX2_undo_0 17 rfl rfl)
theorem dX2_undo_20 : decode cX2_undo 20 = .ok (.ifCond .le 5, 3) := dk_158 0 5 (dk_at dksX2_undo_0 20 rfl rfl)
theorem dX2_undo_23 : decode cX2_undo 23 = .ok (.iconst 0, 1) := dk_3 (dk_at dksX2_undo_0 23 rfl rfl)
theorem dX2_undo_24 : decode cX2_undo 24 = .ok (.ireturn, 1) := dk_172 (dk_at dksX2_undo_1 0 rfl rfl)
theorem dX2_undo_25 : decode cX2_undo 25 = .ok (.aload_n 0, 1) := dk_42 (dk_at dksX2_undo_1 1 rfl rfl)
theorem dX2_undo_26 : decode cX2_undo 26 = .ok (.dup, 1) := dk_89 (dk_at dksX2_undo_1 2 rfl rfl)
theorem dX2_undo_27 : decode cX2_undo 27 = .ok (.getfield 310, 3) := dk_180 1 54 (dk_at dksX2_undo_1 3 rfl rfl)
theorem dX2_undo_30 : decode cX2_undo 30 = .ok (.iconst 1, 1) := dk_4 (dk_at dksX2_undo_1 6 rfl rfl)
theorem dX2_undo_31 : decode cX2_undo 31 = .ok (.isub, 1) := dk_100 (dk_at dksX2_undo_1 7 rfl rfl)
theorem dX2_undo_32 : decode cX2_undo 32 = .ok (.putfield 310, 3) := dk_181 1 54 (dk_at dksX2_undo_1 8 rfl rfl)
theorem dX2_undo_35 : decode cX2_undo 35 = .ok (.aload_n 0, 1) := dk_42 (dk_at dksX2_undo_1 11 rfl rfl)
theorem dX2_undo_36 : decode cX2_undo 36 = .ok (.getfield 32, 3) := dk_180 0 32 (dk_at dksX2_undo_1 12 rfl rfl)
theorem dX2_undo_39 : decode cX2_undo 39 = .ok (.sipush 1398, 3) := dk_17 5 118 (dk_at dksX2_undo_1 15 rfl rfl)
theorem dX2_undo_42 : decode cX2_undo 42 = .ok (.aload_n 0, 1) := dk_42 (dk_at dksX2_undo_1 18 rfl rfl)
theorem dX2_undo_43 : decode cX2_undo 43 = .ok (.getfield 310, 3) := dk_180 1 54 (dk_at dksX2_undo_1 19 rfl rfl)
theorem dX2_undo_46 : decode cX2_undo 46 = .ok (.imul, 1) := dk_104 (dk_at dksX2_undo_1 22 rfl rfl)
theorem dX2_undo_47 : decode cX2_undo 47 = .ok (.aload_n 0, 1) := dk_42 (dk_at dksX2_undo_1 23 rfl rfl)
theorem dX2_undo_48 : decode cX2_undo 48 = .ok (.getfield 23, 3) := dk_180 0 23 (dk_at dksX2_undo_2 0 rfl rfl)
theorem dX2_undo_51 : decode cX2_undo 51 = .ok (.iconst 0, 1) := dk_3 (dk_at dksX2_undo_2 3 rfl rfl)
theorem dX2_undo_52 : decode cX2_undo 52 = .ok (.invokestatic 302, 3) := dk_184 1 46 (dk_at dksX2_undo_2 4 rfl rfl)
theorem dX2_undo_55 : decode cX2_undo 55 = .ok (.aload_n 0, 1) := dk_42 (dk_at dksX2_undo_2 7 rfl rfl)
theorem dX2_undo_56 : decode cX2_undo 56 = .ok (.getfield 310, 3) := dk_180 1 54 (dk_at dksX2_undo_2 8 rfl rfl)
theorem dX2_undo_59 : decode cX2_undo 59 = .ok (.ireturn, 1) := dk_172 (dk_at dksX2_undo_2 11 rfl rfl)
abbrev cX2_undoable : ByteArray := prog_22_method_146_code
def yX2_undoable : MethodName := ⟨RX2, "undoable", "()I"⟩
def dkwX2_undoable_0 : List UInt8 := [42, 3, 181, 0, 85, 42, 180, 1, 54, 172]
abbrev dktX2_undoable_0 : List UInt8 := dkwX2_undoable_0 ++ []
theorem dksX2_undoable_0 : cX2_undoable.data.toList.drop 0 = dktX2_undoable_0 := by decide +kernel
theorem dX2_undoable_0 : decode cX2_undoable 0 = .ok (.aload_n 0, 1) := dk_42 (dk_at dksX2_undoable_0 0 rfl rfl)
theorem dX2_undoable_1 : decode cX2_undoable 1 = .ok (.iconst 0, 1) := dk_3 (dk_at dksX2_undoable_0 1 rfl rfl)
theorem dX2_undoable_2 : decode cX2_undoable 2 = .ok (.putfield 85, 3) := dk_181 0 85 (dk_at dksX2_undoable_0 2 rfl rfl)
theorem dX2_undoable_5 : decode cX2_undoable 5 = .ok (.aload_n 0, 1) := dk_42 (dk_at dksX2_undoable_0 5 rfl rfl)
theorem dX2_undoable_6 : decode cX2_undoable 6 = .ok (.getfield 310, 3) := dk_180 1 54 (dk_at dksX2_undoable_0 6 rfl rfl)
theorem dX2_undoable_9 : decode cX2_undoable 9 = .ok (.ireturn, 1) := dk_172 (dk_at dksX2_undoable_0 9 rfl rfl)
abbrev cX2_save : ByteArray := prog_22_method_147_code
def yX2_save : MethodName := ⟨RX2, "save", "(I)I"⟩
def dkwX2_save_1 : List UInt8 := [17, 5, 118, 27, 104, 184, 1, 46, 42, 180, 0, 38, 27, 4, 84, 42, 180, 0, 23, 3, 46, 172]
abbrev dktX2_save_1 : List UInt8 := dkwX2_save_1 ++ []
def dkwX2_save_0 : List UInt8 := [42, 27, 3, 4, 184, 0, 114, 182, 1, 205, 154, 0, 5, 3, 172, 42, 180, 0, 23, 3, 42, 180, 0, 35]
abbrev dktX2_save_0 : List UInt8 := dkwX2_save_0 ++ dktX2_save_1
theorem dksX2_save_0 : cX2_save.data.toList.drop 0 = dktX2_save_0 := by decide +kernel
theorem dksX2_save_1 : cX2_save.data.toList.drop 24 = dktX2_save_1 := dk_seg dksX2_save_0 24 rfl rfl
theorem dX2_save_0 : decode cX2_save 0 = .ok (.aload_n 0, 1) := dk_42 (dk_at dksX2_save_0 0 rfl rfl)
theorem dX2_save_1 : decode cX2_save 1 = .ok (.iload_n 1, 1) := dk_27 (dk_at dksX2_save_0 1 rfl rfl)
theorem dX2_save_2 : decode cX2_save 2 = .ok (.iconst 0, 1) := dk_3 (dk_at dksX2_save_0 2 rfl rfl)
theorem dX2_save_3 : decode cX2_save 3 = .ok (.iconst 1, 1) := dk_4 (dk_at dksX2_save_0 3 rfl rfl)
theorem dX2_save_4 : decode cX2_save 4 = .ok (.invokestatic 114, 3) := dk_184 0 114 (dk_at dksX2_save_0 4 rfl rfl)
theorem dX2_save_7 : decode cX2_save 7 = .ok (.invokevirtual 461, 3) := dk_182 1 205 (dk_at dksX2_save_0 7 rfl rfl)
theorem dX2_save_10 : decode cX2_save 10 = .ok (.ifCond .ne 5, 3) := dk_154 0 5 (dk_at dksX2_save_0 10 rfl rfl)
theorem dX2_save_13 : decode cX2_save 13 = .ok (.iconst 0, 1) := dk_3 (dk_at dksX2_save_0 13 rfl rfl)
theorem dX2_save_14 : decode cX2_save 14 = .ok (.ireturn, 1) := dk_172 (dk_at dksX2_save_0 14 rfl rfl)
theorem dX2_save_15 : decode cX2_save 15 = .ok (.aload_n 0, 1) := dk_42 (dk_at dksX2_save_0 15 rfl rfl)
theorem dX2_save_16 : decode cX2_save 16 = .ok (.getfield 23, 3) := dk_180 0 23 (dk_at dksX2_save_0 16 rfl rfl)
theorem dX2_save_19 : decode cX2_save 19 = .ok (.iconst 0, 1) := dk_3 (dk_at dksX2_save_0 19 rfl rfl)
theorem dX2_save_20 : decode cX2_save 20 = .ok (.aload_n 0, 1) := dk_42 (dk_at dksX2_save_0 20 rfl rfl)
theorem dX2_save_21 : decode cX2_save 21 = .ok (.getfield 35, 3) := dk_180 0 35 (dk_at dksX2_save_0 21 rfl rfl)
theorem dX2_save_24 : decode cX2_save 24 = .ok (.sipush 1398, 3) := dk_17 5 118 (dk_at dksX2_save_1 0 rfl rfl)
theorem dX2_save_27 : decode cX2_save 27 = .ok (.iload_n 1, 1) := dk_27 (dk_at dksX2_save_1 3 rfl rfl)
theorem dX2_save_28 : decode cX2_save 28 = .ok (.imul, 1) := dk_104 (dk_at dksX2_save_1 4 rfl rfl)
theorem dX2_save_29 : decode cX2_save 29 = .ok (.invokestatic 302, 3) := dk_184 1 46 (dk_at dksX2_save_1 5 rfl rfl)
theorem dX2_save_32 : decode cX2_save 32 = .ok (.aload_n 0, 1) := dk_42 (dk_at dksX2_save_1 8 rfl rfl)
theorem dX2_save_33 : decode cX2_save 33 = .ok (.getfield 38, 3) := dk_180 0 38 (dk_at dksX2_save_1 9 rfl rfl)
theorem dX2_save_36 : decode cX2_save 36 = .ok (.iload_n 1, 1) := dk_27 (dk_at dksX2_save_1 12 rfl rfl)
theorem dX2_save_37 : decode cX2_save 37 = .ok (.iconst 1, 1) := dk_4 (dk_at dksX2_save_1 13 rfl rfl)
theorem dX2_save_38 : decode cX2_save 38 = .ok (.bastore, 1) := dk_84 (dk_at dksX2_save_1 14 rfl rfl)
theorem dX2_save_39 : decode cX2_save 39 = .ok (.aload_n 0, 1) := dk_42 (dk_at dksX2_save_1 15 rfl rfl)
theorem dX2_save_40 : decode cX2_save 40 = .ok (.getfield 23, 3) := dk_180 0 23 (dk_at dksX2_save_1 16 rfl rfl)
theorem dX2_save_43 : decode cX2_save 43 = .ok (.iconst 0, 1) := dk_3 (dk_at dksX2_save_1 19 rfl rfl)
theorem dX2_save_44 : decode cX2_save 44 = .ok (.iaload, 1) := dk_46 (dk_at dksX2_save_1 20 rfl rfl)
theorem dX2_save_45 : decode cX2_save 45 = .ok (.ireturn, 1) := dk_172 (dk_at dksX2_save_1 21 rfl rfl)
abbrev cX2_restore : ByteArray := prog_22_method_148_code
def yX2_restore : MethodName := ⟨RX2, "restore", "(I)I"⟩
def dkwX2_restore_2 : List UInt8 := [104, 42, 180, 0, 23, 3, 184, 1, 46, 42, 3, 181, 1, 54, 42, 180, 0, 23, 3, 46, 172]
abbrev dktX2_restore_2 : List UInt8 := dkwX2_restore_2 ++ []
def dkwX2_restore_1 : List UInt8 := [167, 0, 4, 5, 181, 0, 85, 42, 180, 0, 85, 158, 0, 5, 3, 172, 42, 180, 0, 35, 17, 5, 118, 27]
abbrev dktX2_restore_1 : List UInt8 := dkwX2_restore_1 ++ dktX2_restore_2
def dkwX2_restore_0 : List UInt8 := [42, 27, 3, 4, 184, 0, 114, 154, 0, 7, 4, 167, 0, 17, 42, 180, 0, 38, 27, 51, 153, 0, 7, 3]
abbrev dktX2_restore_0 : List UInt8 := dkwX2_restore_0 ++ dktX2_restore_1
theorem dksX2_restore_0 : cX2_restore.data.toList.drop 0 = dktX2_restore_0 := by decide +kernel
theorem dksX2_restore_1 : cX2_restore.data.toList.drop 24 = dktX2_restore_1 := dk_seg dksX2_restore_0 24 rfl rfl
theorem dksX2_restore_2 : cX2_restore.data.toList.drop 48 = dktX2_restore_2 := dk_seg dksX2_restore_1 24 rfl rfl
theorem dX2_restore_0 : decode cX2_restore 0 = .ok (.aload_n 0, 1) := dk_42 (dk_at dksX2_restore_0 0 rfl rfl)
theorem dX2_restore_1 : decode cX2_restore 1 = .ok (.iload_n 1, 1) := dk_27 (dk_at dksX2_restore_0 1 rfl rfl)
theorem dX2_restore_2 : decode cX2_restore 2 = .ok (.iconst 0, 1) := dk_3 (dk_at dksX2_restore_0 2 rfl rfl)
theorem dX2_restore_3 : decode cX2_restore 3 = .ok (.iconst 1, 1) := dk_4 (dk_at dksX2_restore_0 3 rfl rfl)
theorem dX2_restore_4 : decode cX2_restore 4 = .ok (.invokestatic 114, 3) := dk_184 0 114 (dk_at dksX2_restore_0 4 rfl rfl)
theorem dX2_restore_7 : decode cX2_restore 7 = .ok (.ifCond .ne 7, 3) := dk_154 0 7 (dk_at dksX2_restore_0 7 rfl rfl)
theorem dX2_restore_10 : decode cX2_restore 10 = .ok (.iconst 1, 1) := dk_4 (dk_at dksX2_restore_0 10 rfl rfl)
theorem dX2_restore_11 : decode cX2_restore 11 = .ok (.goto 17, 3) := dk_167 0 17 (dk_at dksX2_restore_0 11 rfl rfl)
theorem dX2_restore_14 : decode cX2_restore 14 = .ok (.aload_n 0, 1) := dk_42 (dk_at dksX2_restore_0 14 rfl rfl)
theorem dX2_restore_15 : decode cX2_restore 15 = .ok (.getfield 38, 3) := dk_180 0 38 (dk_at dksX2_restore_0 15 rfl rfl)
theorem dX2_restore_18 : decode cX2_restore 18 = .ok (.iload_n 1, 1) := dk_27 (dk_at dksX2_restore_0 18 rfl rfl)
theorem dX2_restore_19 : decode cX2_restore 19 = .ok (.baload, 1) := dk_51 (dk_at dksX2_restore_0 19 rfl rfl)
theorem dX2_restore_20 : decode cX2_restore 20 = .ok (.ifCond .eq 7, 3) := dk_153 0 7 (dk_at dksX2_restore_0 20 rfl rfl)
theorem dX2_restore_23 : decode cX2_restore 23 = .ok (.iconst 0, 1) := dk_3 (dk_at dksX2_restore_0 23 rfl rfl)
theorem dX2_restore_24 : decode cX2_restore 24 = .ok (.goto 4, 3) := dk_167 0 4 (dk_at dksX2_restore_1 0 rfl rfl)
theorem dX2_restore_27 : decode cX2_restore 27 = .ok (.iconst 2, 1) := dk_5 (dk_at dksX2_restore_1 3 rfl rfl)
theorem dX2_restore_28 : decode cX2_restore 28 = .ok (.putfield 85, 3) := dk_181 0 85 (dk_at dksX2_restore_1 4 rfl rfl)
theorem dX2_restore_31 : decode cX2_restore 31 = .ok (.aload_n 0, 1) := dk_42 (dk_at dksX2_restore_1 7 rfl rfl)
theorem dX2_restore_32 : decode cX2_restore 32 = .ok (.getfield 85, 3) := dk_180 0 85 (dk_at dksX2_restore_1 8 rfl rfl)
theorem dX2_restore_35 : decode cX2_restore 35 = .ok (.ifCond .le 5, 3) := dk_158 0 5 (dk_at dksX2_restore_1 11 rfl rfl)
theorem dX2_restore_38 : decode cX2_restore 38 = .ok (.iconst 0, 1) := dk_3 (dk_at dksX2_restore_1 14 rfl rfl)
theorem dX2_restore_39 : decode cX2_restore 39 = .ok (.ireturn, 1) := dk_172 (dk_at dksX2_restore_1 15 rfl rfl)
theorem dX2_restore_40 : decode cX2_restore 40 = .ok (.aload_n 0, 1) := dk_42 (dk_at dksX2_restore_1 16 rfl rfl)
theorem dX2_restore_41 : decode cX2_restore 41 = .ok (.getfield 35, 3) := dk_180 0 35 (dk_at dksX2_restore_1 17 rfl rfl)
theorem dX2_restore_44 : decode cX2_restore 44 = .ok (.sipush 1398, 3) := dk_17 5 118 (dk_at dksX2_restore_1 20 rfl rfl)
theorem dX2_restore_47 : decode cX2_restore 47 = .ok (.iload_n 1, 1) := dk_27 (dk_at dksX2_restore_1 23 rfl rfl)
theorem dX2_restore_48 : decode cX2_restore 48 = .ok (.imul, 1) := dk_104 (dk_at dksX2_restore_2 0 rfl rfl)
theorem dX2_restore_49 : decode cX2_restore 49 = .ok (.aload_n 0, 1) := dk_42 (dk_at dksX2_restore_2 1 rfl rfl)
theorem dX2_restore_50 : decode cX2_restore 50 = .ok (.getfield 23, 3) := dk_180 0 23 (dk_at dksX2_restore_2 2 rfl rfl)
theorem dX2_restore_53 : decode cX2_restore 53 = .ok (.iconst 0, 1) := dk_3 (dk_at dksX2_restore_2 5 rfl rfl)
theorem dX2_restore_54 : decode cX2_restore 54 = .ok (.invokestatic 302, 3) := dk_184 1 46 (dk_at dksX2_restore_2 6 rfl rfl)
theorem dX2_restore_57 : decode cX2_restore 57 = .ok (.aload_n 0, 1) := dk_42 (dk_at dksX2_restore_2 9 rfl rfl)
theorem dX2_restore_58 : decode cX2_restore 58 = .ok (.iconst 0, 1) := dk_3 (dk_at dksX2_restore_2 10 rfl rfl)
theorem dX2_restore_59 : decode cX2_restore 59 = .ok (.putfield 310, 3) := dk_181 1 54 (dk_at dksX2_restore_2 11 rfl rfl)
theorem dX2_restore_62 : decode cX2_restore 62 = .ok (.aload_n 0, 1) := dk_42 (dk_at dksX2_restore_2 14 rfl rfl)
theorem dX2_restore_63 : decode cX2_restore 63 = .ok (.getfield 23, 3) := dk_180 0 23 (dk_at dksX2_restore_2 15 rfl rfl)
theorem dX2_restore_66 : decode cX2_restore 66 = .ok (.iconst 0, 1) := dk_3 (dk_at dksX2_restore_2 18 rfl rfl)
theorem dX2_restore_67 : decode cX2_restore 67 = .ok (.iaload, 1) := dk_46 (dk_at dksX2_restore_2 19 rfl rfl)
theorem dX2_restore_68 : decode cX2_restore 68 = .ok (.ireturn, 1) := dk_172 (dk_at dksX2_restore_2 20 rfl rfl)
theorem q148 : (Jvm.Cond.initialized "SpectrumAccessModel") ∈ lw_all := lw_g (lw_at lw_m1 9 rfl) rfl
theorem q885 : (Jvm.Cond.selects "SpectrumAccessModel" ({ cls := "java/lang/Object", name := "getClass", desc := "()Ljava/lang/Class;" } : Jvm.MethodName) ({ cls := "java/lang/Object", name := "getClass", desc := "()Ljava/lang/Class;" } : Jvm.MethodName)) ∈ lw_all := lw_g (lw_at lw_m4 26 rfl) rfl
theorem q2702 : (Jvm.Cond.instantiable "SpectrumAccessModel" (45 : Nat)) ∈ lw_all := lw_g (lw_at lw_m11 163 rfl) rfl
theorem q2704 : (Jvm.Cond.instanceMethod ({ cls := "SpectrumAccessModel", name := "<init>", desc := "()V" } : Jvm.MethodName)) ∈ lw_all := lw_g (lw_at lw_m11 165 rfl) rfl
theorem q2705 : (Jvm.Cond.code ({ cls := "SpectrumAccessModel", name := "<init>", desc := "()V" } : Jvm.MethodName) prog_22_method_1_code (1 : Nat) (Option.none : Option Jvm.ClassFile.FieldType)) ∈ lw_all := lw_g (lw_at lw_m11 166 rfl) rfl
theorem q2706 : (Jvm.Cond.methodLink "SpectrumAccessModel" (1 : Nat) ({ cls := "java/lang/Object", name := "<init>", desc := "()V" } : Jvm.MethodName)) ∈ lw_all := lw_g (lw_at lw_m11 167 rfl) rfl
theorem q2707 : (Jvm.Cond.classLink "SpectrumAccessModel" (42 : Nat) "java/lang/String") ∈ lw_all := lw_g (lw_at lw_m11 168 rfl) rfl
theorem q2709 : (Jvm.Cond.stringRef "SpectrumAccessModel" (44 : Nat) "x") ∈ lw_tbl := lw_at lw_m11 170 rfl
theorem q2710 : (Jvm.Cond.stringRef "SpectrumAccessModel" (46 : Nat) "y") ∈ lw_tbl := lw_at lw_m11 171 rfl
theorem q2711 : (Jvm.Cond.stringRef "SpectrumAccessModel" (48 : Nat) "channel") ∈ lw_tbl := lw_at lw_m11 172 rfl
theorem q2712 : (Jvm.Cond.stringRef "SpectrumAccessModel" (50 : Nat) "time") ∈ lw_tbl := lw_at lw_m11 173 rfl
theorem q2713 : (Jvm.Cond.stringRef "SpectrumAccessModel" (52 : Nat) "moves") ∈ lw_tbl := lw_at lw_m11 174 rfl
theorem q2714 : (Jvm.Cond.fieldLink "SpectrumAccessModel" (85 : Nat) "SpectrumAccessModel" "thrown" "I") ∈ lw_all := lw_g (lw_at lw_m11 175 rfl) rfl
theorem q2715 : (Jvm.Cond.fieldLink "SpectrumAccessModel" (9 : Nat) "SpectrumAccessModel" "buffer" "[I") ∈ lw_all := lw_g (lw_at lw_m11 176 rfl) rfl
theorem q2716 : (Jvm.Cond.fieldLink "SpectrumAccessModel" (88 : Nat) "SpectrumAccessModel" "buffered" "I") ∈ lw_all := lw_g (lw_at lw_m11 177 rfl) rfl
theorem q2717 : (Jvm.Cond.fieldLink "SpectrumAccessModel" (98 : Nat) "SpectrumAccessModel" "end" "I") ∈ lw_all := lw_g (lw_at lw_m11 178 rfl) rfl
theorem q2718 : (Jvm.Cond.fieldLink "SpectrumAccessModel" (104 : Nat) "SpectrumAccessModel" "next" "I") ∈ lw_all := lw_g (lw_at lw_m11 179 rfl) rfl
theorem q2719 : (Jvm.Cond.fieldLink "SpectrumAccessModel" (95 : Nat) "SpectrumAccessModel" "parseCode" "I") ∈ lw_all := lw_g (lw_at lw_m11 180 rfl) rfl
theorem q2720 : (Jvm.Cond.fieldLink "SpectrumAccessModel" (13 : Nat) "SpectrumAccessModel" "parsePlace" "I") ∈ lw_all := lw_g (lw_at lw_m11 181 rfl) rfl
theorem q2721 : (Jvm.Cond.fieldLink "SpectrumAccessModel" (111 : Nat) "SpectrumAccessModel" "token" "I") ∈ lw_all := lw_g (lw_at lw_m11 182 rfl) rfl
theorem q2722 : (Jvm.Cond.fieldLink "SpectrumAccessModel" (101 : Nat) "SpectrumAccessModel" "start" "I") ∈ lw_all := lw_g (lw_at lw_m11 183 rfl) rfl
theorem q2723 : (Jvm.Cond.fieldLink "SpectrumAccessModel" (118 : Nat) "SpectrumAccessModel" "value" "I") ∈ lw_all := lw_g (lw_at lw_m11 184 rfl) rfl
theorem q2724 : (Jvm.Cond.fieldLink "SpectrumAccessModel" (17 : Nat) "SpectrumAccessModel" "plan" "[I") ∈ lw_all := lw_g (lw_at lw_m11 185 rfl) rfl
theorem q2725 : (Jvm.Cond.fieldLink "SpectrumAccessModel" (20 : Nat) "SpectrumAccessModel" "newPlan" "[I") ∈ lw_all := lw_g (lw_at lw_m11 186 rfl) rfl
theorem q2726 : (Jvm.Cond.fieldLink "SpectrumAccessModel" (23 : Nat) "SpectrumAccessModel" "now" "[I") ∈ lw_all := lw_g (lw_at lw_m11 187 rfl) rfl
theorem q2727 : (Jvm.Cond.fieldLink "SpectrumAccessModel" (26 : Nat) "SpectrumAccessModel" "draft" "[I") ∈ lw_all := lw_g (lw_at lw_m11 188 rfl) rfl
theorem q2728 : (Jvm.Cond.fieldLink "SpectrumAccessModel" (29 : Nat) "SpectrumAccessModel" "work" "[I") ∈ lw_all := lw_g (lw_at lw_m11 189 rfl) rfl
theorem q2729 : (Jvm.Cond.fieldLink "SpectrumAccessModel" (32 : Nat) "SpectrumAccessModel" "history" "[I") ∈ lw_all := lw_g (lw_at lw_m11 190 rfl) rfl
theorem q2730 : (Jvm.Cond.fieldLink "SpectrumAccessModel" (35 : Nat) "SpectrumAccessModel" "stored" "[I") ∈ lw_all := lw_g (lw_at lw_m11 191 rfl) rfl
theorem q2731 : (Jvm.Cond.fieldLink "SpectrumAccessModel" (38 : Nat) "SpectrumAccessModel" "isStored" "[Z") ∈ lw_all := lw_g (lw_at lw_m11 192 rfl) rfl
theorem q2732 : (Jvm.Cond.fieldLink "SpectrumAccessModel" (310 : Nat) "SpectrumAccessModel" "undos" "I") ∈ lw_all := lw_g (lw_at lw_m11 193 rfl) rfl
theorem q2733 : (Jvm.Cond.fieldLink "SpectrumAccessModel" (306 : Nat) "SpectrumAccessModel" "hasRegion" "Z") ∈ lw_all := lw_g (lw_at lw_m11 194 rfl) rfl
theorem q2734 : (Jvm.Cond.fieldLink "SpectrumAccessModel" (54 : Nat) "SpectrumAccessModel" "values" "[Ljava/lang/String;") ∈ lw_all := lw_g (lw_at lw_m11 195 rfl) rfl
theorem q2735 : (Jvm.Cond.fieldLink "SpectrumAccessModel" (58 : Nat) "SpectrumAccessModel" "kind" "[I") ∈ lw_all := lw_g (lw_at lw_m11 196 rfl) rfl
theorem q2736 : (Jvm.Cond.fieldLink "SpectrumAccessModel" (61 : Nat) "SpectrumAccessModel" "left" "[I") ∈ lw_all := lw_g (lw_at lw_m11 197 rfl) rfl
theorem q2737 : (Jvm.Cond.fieldLink "SpectrumAccessModel" (64 : Nat) "SpectrumAccessModel" "right" "[I") ∈ lw_all := lw_g (lw_at lw_m11 198 rfl) rfl
theorem q2738 : (Jvm.Cond.fieldLink "SpectrumAccessModel" (67 : Nat) "SpectrumAccessModel" "over" "[I") ∈ lw_all := lw_g (lw_at lw_m11 199 rfl) rfl
theorem q2739 : (Jvm.Cond.fieldLink "SpectrumAccessModel" (199 : Nat) "SpectrumAccessModel" "bank" "I") ∈ lw_all := lw_g (lw_at lw_m11 200 rfl) rfl
theorem q2740 : (Jvm.Cond.fieldLink "SpectrumAccessModel" (202 : Nat) "SpectrumAccessModel" "nodes" "I") ∈ lw_all := lw_g (lw_at lw_m11 201 rfl) rfl
theorem q2741 : (Jvm.Cond.fieldLink "SpectrumAccessModel" (224 : Nat) "SpectrumAccessModel" "depth" "I") ∈ lw_all := lw_g (lw_at lw_m11 202 rfl) rfl
theorem q2742 : (Jvm.Cond.fieldLink "SpectrumAccessModel" (236 : Nat) "SpectrumAccessModel" "askX" "I") ∈ lw_all := lw_g (lw_at lw_m11 203 rfl) rfl
theorem q2743 : (Jvm.Cond.fieldLink "SpectrumAccessModel" (239 : Nat) "SpectrumAccessModel" "askY" "I") ∈ lw_all := lw_g (lw_at lw_m11 204 rfl) rfl
theorem q2744 : (Jvm.Cond.fieldLink "SpectrumAccessModel" (242 : Nat) "SpectrumAccessModel" "askChannel" "I") ∈ lw_all := lw_g (lw_at lw_m11 205 rfl) rfl
theorem q2745 : (Jvm.Cond.fieldLink "SpectrumAccessModel" (245 : Nat) "SpectrumAccessModel" "askTime" "I") ∈ lw_all := lw_g (lw_at lw_m11 206 rfl) rfl
theorem q2746 : (Jvm.Cond.fieldLink "SpectrumAccessModel" (248 : Nat) "SpectrumAccessModel" "askMoves" "I") ∈ lw_all := lw_g (lw_at lw_m11 207 rfl) rfl
theorem q2747 : (Jvm.Cond.fieldLink "SpectrumAccessModel" (70 : Nat) "SpectrumAccessModel" "roomAt" "[I") ∈ lw_all := lw_g (lw_at lw_m11 208 rfl) rfl
theorem q2748 : (Jvm.Cond.fieldLink "SpectrumAccessModel" (73 : Nat) "SpectrumAccessModel" "roomBeside" "[I") ∈ lw_all := lw_g (lw_at lw_m11 209 rfl) rfl
theorem q2749 : (Jvm.Cond.fieldLink "SpectrumAccessModel" (367 : Nat) "SpectrumAccessModel" "roomBase" "I") ∈ lw_all := lw_g (lw_at lw_m11 210 rfl) rfl
theorem q2750 : (Jvm.Cond.fieldLink "SpectrumAccessModel" (361 : Nat) "SpectrumAccessModel" "keepsRooms" "Z") ∈ lw_all := lw_g (lw_at lw_m11 211 rfl) rfl
theorem q2751 : (Jvm.Cond.fieldLink "SpectrumAccessModel" (354 : Nat) "SpectrumAccessModel" "hasAllRooms" "Z") ∈ lw_all := lw_g (lw_at lw_m11 212 rfl) rfl
theorem q2752 : (Jvm.Cond.fieldLink "SpectrumAccessModel" (364 : Nat) "SpectrumAccessModel" "hasLicensedRooms" "Z") ∈ lw_all := lw_g (lw_at lw_m11 213 rfl) rfl
theorem q2753 : (Jvm.Cond.fieldLink "SpectrumAccessModel" (76 : Nat) "SpectrumAccessModel" "isKept" "[Z") ∈ lw_all := lw_g (lw_at lw_m11 214 rfl) rfl
theorem q2754 : (Jvm.Cond.fieldLink "SpectrumAccessModel" (388 : Nat) "SpectrumAccessModel" "offered" "I") ∈ lw_all := lw_g (lw_at lw_m11 215 rfl) rfl
theorem q2755 : (Jvm.Cond.fieldLink "SpectrumAccessModel" (391 : Nat) "SpectrumAccessModel" "offeredWith" "I") ∈ lw_all := lw_g (lw_at lw_m11 216 rfl) rfl
theorem q2756 : (Jvm.Cond.fieldLink "SpectrumAccessModel" (79 : Nat) "SpectrumAccessModel" "row" "[I") ∈ lw_all := lw_g (lw_at lw_m11 217 rfl) rfl
theorem q2757 : (Jvm.Cond.fieldLink "SpectrumAccessModel" (82 : Nat) "SpectrumAccessModel" "page" "[I") ∈ lw_all := lw_g (lw_at lw_m11 218 rfl) rfl
theorem q2758 : (Jvm.Cond.fieldLink "SpectrumAccessModel" (486 : Nat) "SpectrumAccessModel" "pageSize" "I") ∈ lw_all := lw_g (lw_at lw_m11 219 rfl) rfl
theorem q2759 : (Jvm.Cond.lays "SpectrumAccessModel" "SpectrumAccessModel" "thrown" "I") ∈ lw_all := lw_g (lw_at lw_m11 220 rfl) rfl
theorem q2760 : (Jvm.Cond.soleField "SpectrumAccessModel" "thrown") ∈ lw_all := lw_g (lw_at lw_m11 221 rfl) rfl
theorem q2761 : (Jvm.Cond.laysFinal "SpectrumAccessModel" "SpectrumAccessModel" "buffer" "[I") ∈ lw_all := lw_g (lw_at lw_m11 222 rfl) rfl
theorem q2762 : (Jvm.Cond.soleField "SpectrumAccessModel" "buffer") ∈ lw_all := lw_g (lw_at lw_m11 223 rfl) rfl
theorem q2763 : (Jvm.Cond.lays "SpectrumAccessModel" "SpectrumAccessModel" "buffered" "I") ∈ lw_all := lw_g (lw_at lw_m11 224 rfl) rfl
theorem q2764 : (Jvm.Cond.soleField "SpectrumAccessModel" "buffered") ∈ lw_all := lw_g (lw_at lw_m11 225 rfl) rfl
theorem q2765 : (Jvm.Cond.lays "SpectrumAccessModel" "SpectrumAccessModel" "end" "I") ∈ lw_all := lw_g (lw_at lw_m11 226 rfl) rfl
theorem q2766 : (Jvm.Cond.soleField "SpectrumAccessModel" "end") ∈ lw_all := lw_g (lw_at lw_m11 227 rfl) rfl
theorem q2767 : (Jvm.Cond.lays "SpectrumAccessModel" "SpectrumAccessModel" "next" "I") ∈ lw_all := lw_g (lw_at lw_m11 228 rfl) rfl
theorem q2768 : (Jvm.Cond.soleField "SpectrumAccessModel" "next") ∈ lw_all := lw_g (lw_at lw_m11 229 rfl) rfl
theorem q2769 : (Jvm.Cond.lays "SpectrumAccessModel" "SpectrumAccessModel" "parseCode" "I") ∈ lw_all := lw_g (lw_at lw_m11 230 rfl) rfl
theorem q2770 : (Jvm.Cond.soleField "SpectrumAccessModel" "parseCode") ∈ lw_all := lw_g (lw_at lw_m11 231 rfl) rfl
theorem q2771 : (Jvm.Cond.lays "SpectrumAccessModel" "SpectrumAccessModel" "parsePlace" "I") ∈ lw_all := lw_g (lw_at lw_m11 232 rfl) rfl
theorem q2772 : (Jvm.Cond.soleField "SpectrumAccessModel" "parsePlace") ∈ lw_all := lw_g (lw_at lw_m11 233 rfl) rfl
theorem q2773 : (Jvm.Cond.lays "SpectrumAccessModel" "SpectrumAccessModel" "token" "I") ∈ lw_all := lw_g (lw_at lw_m11 234 rfl) rfl
theorem q2774 : (Jvm.Cond.soleField "SpectrumAccessModel" "token") ∈ lw_all := lw_g (lw_at lw_m11 235 rfl) rfl
theorem q2775 : (Jvm.Cond.lays "SpectrumAccessModel" "SpectrumAccessModel" "start" "I") ∈ lw_all := lw_g (lw_at lw_m11 236 rfl) rfl
theorem q2776 : (Jvm.Cond.soleField "SpectrumAccessModel" "start") ∈ lw_all := lw_g (lw_at lw_m11 237 rfl) rfl
theorem q2777 : (Jvm.Cond.lays "SpectrumAccessModel" "SpectrumAccessModel" "value" "I") ∈ lw_all := lw_g (lw_at lw_m11 238 rfl) rfl
theorem q2778 : (Jvm.Cond.soleField "SpectrumAccessModel" "value") ∈ lw_all := lw_g (lw_at lw_m11 239 rfl) rfl
theorem q2779 : (Jvm.Cond.laysFinal "SpectrumAccessModel" "SpectrumAccessModel" "plan" "[I") ∈ lw_all := lw_g (lw_at lw_m12 0 rfl) rfl
theorem q2780 : (Jvm.Cond.soleField "SpectrumAccessModel" "plan") ∈ lw_all := lw_g (lw_at lw_m12 1 rfl) rfl
theorem q2781 : (Jvm.Cond.laysFinal "SpectrumAccessModel" "SpectrumAccessModel" "newPlan" "[I") ∈ lw_all := lw_g (lw_at lw_m12 2 rfl) rfl
theorem q2782 : (Jvm.Cond.soleField "SpectrumAccessModel" "newPlan") ∈ lw_all := lw_g (lw_at lw_m12 3 rfl) rfl
theorem q2783 : (Jvm.Cond.laysFinal "SpectrumAccessModel" "SpectrumAccessModel" "now" "[I") ∈ lw_all := lw_g (lw_at lw_m12 4 rfl) rfl
theorem q2784 : (Jvm.Cond.soleField "SpectrumAccessModel" "now") ∈ lw_all := lw_g (lw_at lw_m12 5 rfl) rfl
theorem q2785 : (Jvm.Cond.laysFinal "SpectrumAccessModel" "SpectrumAccessModel" "draft" "[I") ∈ lw_all := lw_g (lw_at lw_m12 6 rfl) rfl
theorem q2786 : (Jvm.Cond.soleField "SpectrumAccessModel" "draft") ∈ lw_all := lw_g (lw_at lw_m12 7 rfl) rfl
theorem q2787 : (Jvm.Cond.laysFinal "SpectrumAccessModel" "SpectrumAccessModel" "work" "[I") ∈ lw_all := lw_g (lw_at lw_m12 8 rfl) rfl
theorem q2788 : (Jvm.Cond.soleField "SpectrumAccessModel" "work") ∈ lw_all := lw_g (lw_at lw_m12 9 rfl) rfl
theorem q2789 : (Jvm.Cond.laysFinal "SpectrumAccessModel" "SpectrumAccessModel" "history" "[I") ∈ lw_all := lw_g (lw_at lw_m12 10 rfl) rfl
theorem q2790 : (Jvm.Cond.soleField "SpectrumAccessModel" "history") ∈ lw_all := lw_g (lw_at lw_m12 11 rfl) rfl
theorem q2791 : (Jvm.Cond.laysFinal "SpectrumAccessModel" "SpectrumAccessModel" "stored" "[I") ∈ lw_all := lw_g (lw_at lw_m12 12 rfl) rfl
theorem q2792 : (Jvm.Cond.soleField "SpectrumAccessModel" "stored") ∈ lw_all := lw_g (lw_at lw_m12 13 rfl) rfl
theorem q2793 : (Jvm.Cond.laysFinal "SpectrumAccessModel" "SpectrumAccessModel" "isStored" "[Z") ∈ lw_all := lw_g (lw_at lw_m12 14 rfl) rfl
theorem q2794 : (Jvm.Cond.soleField "SpectrumAccessModel" "isStored") ∈ lw_all := lw_g (lw_at lw_m12 15 rfl) rfl
theorem q2795 : (Jvm.Cond.lays "SpectrumAccessModel" "SpectrumAccessModel" "undos" "I") ∈ lw_all := lw_g (lw_at lw_m12 16 rfl) rfl
theorem q2796 : (Jvm.Cond.soleField "SpectrumAccessModel" "undos") ∈ lw_all := lw_g (lw_at lw_m12 17 rfl) rfl
theorem q2797 : (Jvm.Cond.lays "SpectrumAccessModel" "SpectrumAccessModel" "hasRegion" "Z") ∈ lw_all := lw_g (lw_at lw_m12 18 rfl) rfl
theorem q2798 : (Jvm.Cond.soleField "SpectrumAccessModel" "hasRegion") ∈ lw_all := lw_g (lw_at lw_m12 19 rfl) rfl
theorem q2799 : (Jvm.Cond.laysFinal "SpectrumAccessModel" "SpectrumAccessModel" "values" "[Ljava/lang/String;") ∈ lw_all := lw_g (lw_at lw_m12 20 rfl) rfl
theorem q2800 : (Jvm.Cond.soleField "SpectrumAccessModel" "values") ∈ lw_all := lw_g (lw_at lw_m12 21 rfl) rfl
theorem q2801 : (Jvm.Cond.laysFinal "SpectrumAccessModel" "SpectrumAccessModel" "kind" "[I") ∈ lw_all := lw_g (lw_at lw_m12 22 rfl) rfl
theorem q2802 : (Jvm.Cond.soleField "SpectrumAccessModel" "kind") ∈ lw_all := lw_g (lw_at lw_m12 23 rfl) rfl
theorem q2803 : (Jvm.Cond.laysFinal "SpectrumAccessModel" "SpectrumAccessModel" "left" "[I") ∈ lw_all := lw_g (lw_at lw_m12 24 rfl) rfl
theorem q2804 : (Jvm.Cond.soleField "SpectrumAccessModel" "left") ∈ lw_all := lw_g (lw_at lw_m12 25 rfl) rfl
theorem q2805 : (Jvm.Cond.laysFinal "SpectrumAccessModel" "SpectrumAccessModel" "right" "[I") ∈ lw_all := lw_g (lw_at lw_m12 26 rfl) rfl
theorem q2806 : (Jvm.Cond.soleField "SpectrumAccessModel" "right") ∈ lw_all := lw_g (lw_at lw_m12 27 rfl) rfl
theorem q2807 : (Jvm.Cond.laysFinal "SpectrumAccessModel" "SpectrumAccessModel" "over" "[I") ∈ lw_all := lw_g (lw_at lw_m12 28 rfl) rfl
theorem q2808 : (Jvm.Cond.soleField "SpectrumAccessModel" "over") ∈ lw_all := lw_g (lw_at lw_m12 29 rfl) rfl
theorem q2809 : (Jvm.Cond.lays "SpectrumAccessModel" "SpectrumAccessModel" "bank" "I") ∈ lw_all := lw_g (lw_at lw_m12 30 rfl) rfl
theorem q2810 : (Jvm.Cond.soleField "SpectrumAccessModel" "bank") ∈ lw_all := lw_g (lw_at lw_m12 31 rfl) rfl
theorem q2811 : (Jvm.Cond.lays "SpectrumAccessModel" "SpectrumAccessModel" "nodes" "I") ∈ lw_all := lw_g (lw_at lw_m12 32 rfl) rfl
theorem q2812 : (Jvm.Cond.soleField "SpectrumAccessModel" "nodes") ∈ lw_all := lw_g (lw_at lw_m12 33 rfl) rfl
theorem q2813 : (Jvm.Cond.lays "SpectrumAccessModel" "SpectrumAccessModel" "depth" "I") ∈ lw_all := lw_g (lw_at lw_m12 34 rfl) rfl
theorem q2814 : (Jvm.Cond.soleField "SpectrumAccessModel" "depth") ∈ lw_all := lw_g (lw_at lw_m12 35 rfl) rfl
theorem q2815 : (Jvm.Cond.lays "SpectrumAccessModel" "SpectrumAccessModel" "askX" "I") ∈ lw_all := lw_g (lw_at lw_m12 36 rfl) rfl
theorem q2816 : (Jvm.Cond.soleField "SpectrumAccessModel" "askX") ∈ lw_all := lw_g (lw_at lw_m12 37 rfl) rfl
theorem q2817 : (Jvm.Cond.lays "SpectrumAccessModel" "SpectrumAccessModel" "askY" "I") ∈ lw_all := lw_g (lw_at lw_m12 38 rfl) rfl
theorem q2818 : (Jvm.Cond.soleField "SpectrumAccessModel" "askY") ∈ lw_all := lw_g (lw_at lw_m12 39 rfl) rfl
theorem q2819 : (Jvm.Cond.lays "SpectrumAccessModel" "SpectrumAccessModel" "askChannel" "I") ∈ lw_all := lw_g (lw_at lw_m12 40 rfl) rfl
theorem q2820 : (Jvm.Cond.soleField "SpectrumAccessModel" "askChannel") ∈ lw_all := lw_g (lw_at lw_m12 41 rfl) rfl
theorem q2821 : (Jvm.Cond.lays "SpectrumAccessModel" "SpectrumAccessModel" "askTime" "I") ∈ lw_all := lw_g (lw_at lw_m12 42 rfl) rfl
theorem q2822 : (Jvm.Cond.soleField "SpectrumAccessModel" "askTime") ∈ lw_all := lw_g (lw_at lw_m12 43 rfl) rfl
theorem q2823 : (Jvm.Cond.lays "SpectrumAccessModel" "SpectrumAccessModel" "askMoves" "I") ∈ lw_all := lw_g (lw_at lw_m12 44 rfl) rfl
theorem q2824 : (Jvm.Cond.soleField "SpectrumAccessModel" "askMoves") ∈ lw_all := lw_g (lw_at lw_m12 45 rfl) rfl
theorem q2825 : (Jvm.Cond.laysFinal "SpectrumAccessModel" "SpectrumAccessModel" "roomAt" "[I") ∈ lw_all := lw_g (lw_at lw_m12 46 rfl) rfl
theorem q2826 : (Jvm.Cond.soleField "SpectrumAccessModel" "roomAt") ∈ lw_all := lw_g (lw_at lw_m12 47 rfl) rfl
theorem q2827 : (Jvm.Cond.laysFinal "SpectrumAccessModel" "SpectrumAccessModel" "roomBeside" "[I") ∈ lw_all := lw_g (lw_at lw_m12 48 rfl) rfl
theorem q2828 : (Jvm.Cond.soleField "SpectrumAccessModel" "roomBeside") ∈ lw_all := lw_g (lw_at lw_m12 49 rfl) rfl
theorem q2829 : (Jvm.Cond.lays "SpectrumAccessModel" "SpectrumAccessModel" "roomBase" "I") ∈ lw_all := lw_g (lw_at lw_m12 50 rfl) rfl
theorem q2830 : (Jvm.Cond.soleField "SpectrumAccessModel" "roomBase") ∈ lw_all := lw_g (lw_at lw_m12 51 rfl) rfl
theorem q2831 : (Jvm.Cond.lays "SpectrumAccessModel" "SpectrumAccessModel" "keepsRooms" "Z") ∈ lw_all := lw_g (lw_at lw_m12 52 rfl) rfl
theorem q2832 : (Jvm.Cond.soleField "SpectrumAccessModel" "keepsRooms") ∈ lw_all := lw_g (lw_at lw_m12 53 rfl) rfl
theorem q2833 : (Jvm.Cond.lays "SpectrumAccessModel" "SpectrumAccessModel" "hasAllRooms" "Z") ∈ lw_all := lw_g (lw_at lw_m12 54 rfl) rfl
theorem q2834 : (Jvm.Cond.soleField "SpectrumAccessModel" "hasAllRooms") ∈ lw_all := lw_g (lw_at lw_m12 55 rfl) rfl
theorem q2835 : (Jvm.Cond.lays "SpectrumAccessModel" "SpectrumAccessModel" "hasLicensedRooms" "Z") ∈ lw_all := lw_g (lw_at lw_m12 56 rfl) rfl
theorem q2836 : (Jvm.Cond.soleField "SpectrumAccessModel" "hasLicensedRooms") ∈ lw_all := lw_g (lw_at lw_m12 57 rfl) rfl
theorem q2837 : (Jvm.Cond.laysFinal "SpectrumAccessModel" "SpectrumAccessModel" "isKept" "[Z") ∈ lw_all := lw_g (lw_at lw_m12 58 rfl) rfl
theorem q2838 : (Jvm.Cond.soleField "SpectrumAccessModel" "isKept") ∈ lw_all := lw_g (lw_at lw_m12 59 rfl) rfl
theorem q2839 : (Jvm.Cond.lays "SpectrumAccessModel" "SpectrumAccessModel" "offered" "I") ∈ lw_all := lw_g (lw_at lw_m12 60 rfl) rfl
theorem q2840 : (Jvm.Cond.soleField "SpectrumAccessModel" "offered") ∈ lw_all := lw_g (lw_at lw_m12 61 rfl) rfl
theorem q2841 : (Jvm.Cond.lays "SpectrumAccessModel" "SpectrumAccessModel" "offeredWith" "I") ∈ lw_all := lw_g (lw_at lw_m12 62 rfl) rfl
theorem q2842 : (Jvm.Cond.soleField "SpectrumAccessModel" "offeredWith") ∈ lw_all := lw_g (lw_at lw_m12 63 rfl) rfl
theorem q2843 : (Jvm.Cond.laysFinal "SpectrumAccessModel" "SpectrumAccessModel" "row" "[I") ∈ lw_all := lw_g (lw_at lw_m12 64 rfl) rfl
theorem q2844 : (Jvm.Cond.soleField "SpectrumAccessModel" "row") ∈ lw_all := lw_g (lw_at lw_m12 65 rfl) rfl
theorem q2845 : (Jvm.Cond.laysFinal "SpectrumAccessModel" "SpectrumAccessModel" "page" "[I") ∈ lw_all := lw_g (lw_at lw_m12 66 rfl) rfl
theorem q2846 : (Jvm.Cond.soleField "SpectrumAccessModel" "page") ∈ lw_all := lw_g (lw_at lw_m12 67 rfl) rfl
theorem q2847 : (Jvm.Cond.lays "SpectrumAccessModel" "SpectrumAccessModel" "pageSize" "I") ∈ lw_all := lw_g (lw_at lw_m12 68 rfl) rfl
theorem q2848 : (Jvm.Cond.soleField "SpectrumAccessModel" "pageSize") ∈ lw_all := lw_g (lw_at lw_m12 69 rfl) rfl
theorem q2849 : (Jvm.Cond.superclass "SpectrumAccessModel" "java/lang/Object") ∈ lw_all := lw_g (lw_at lw_m12 70 rfl) rfl
theorem q2851 : (Jvm.Cond.instanceMethod ({ cls := "SpectrumAccessModel", name := "thrown", desc := "()I" } : Jvm.MethodName)) ∈ lw_all := lw_g (lw_at lw_m12 72 rfl) rfl
theorem q2852 : (Jvm.Cond.selects "SpectrumAccessModel" ({ cls := "SpectrumAccessModel", name := "thrown", desc := "()I" } : Jvm.MethodName) ({ cls := "SpectrumAccessModel", name := "thrown", desc := "()I" } : Jvm.MethodName)) ∈ lw_all := lw_g (lw_at lw_m12 73 rfl) rfl
theorem q2853 : (Jvm.Cond.code ({ cls := "SpectrumAccessModel", name := "thrown", desc := "()I" } : Jvm.MethodName) prog_22_method_2_code (1 : Nat) (Option.some Jvm.ClassFile.FieldType.int)) ∈ lw_all := lw_g (lw_at lw_m12 74 rfl) rfl
theorem q2855 : (Jvm.Cond.instanceMethod ({ cls := "SpectrumAccessModel", name := "append", desc := "(IIIII)I" } : Jvm.MethodName)) ∈ lw_all := lw_g (lw_at lw_m12 76 rfl) rfl
theorem q2856 : (Jvm.Cond.selects "SpectrumAccessModel" ({ cls := "SpectrumAccessModel", name := "append", desc := "(IIIII)I" } : Jvm.MethodName) ({ cls := "SpectrumAccessModel", name := "append", desc := "(IIIII)I" } : Jvm.MethodName)) ∈ lw_all := lw_g (lw_at lw_m12 77 rfl) rfl
theorem q2857 : (Jvm.Cond.code ({ cls := "SpectrumAccessModel", name := "append", desc := "(IIIII)I" } : Jvm.MethodName) prog_22_method_6_code (6 : Nat) (Option.some Jvm.ClassFile.FieldType.int)) ∈ lw_all := lw_g (lw_at lw_m12 78 rfl) rfl
theorem q2858 : (Jvm.Cond.methodLink "SpectrumAccessModel" (91 : Nat) ({ cls := "SpectrumAccessModel", name := "four", desc := "(I)V" } : Jvm.MethodName)) ∈ lw_all := lw_g (lw_at lw_m12 79 rfl) rfl
theorem q2859 : (Jvm.Cond.privateMethod ({ cls := "SpectrumAccessModel", name := "four", desc := "(I)V" } : Jvm.MethodName)) ∈ lw_tbl := lw_at lw_m12 80 rfl
theorem q2860 : (Jvm.Cond.instanceMethod ({ cls := "SpectrumAccessModel", name := "four", desc := "(I)V" } : Jvm.MethodName)) ∈ lw_all := lw_g (lw_at lw_m12 81 rfl) rfl
theorem q2861 : (Jvm.Cond.code ({ cls := "SpectrumAccessModel", name := "four", desc := "(I)V" } : Jvm.MethodName) prog_22_method_5_code (3 : Nat) (Option.none : Option Jvm.ClassFile.FieldType)) ∈ lw_all := lw_g (lw_at lw_m12 82 rfl) rfl
theorem q2863 : (Jvm.Cond.instanceMethod ({ cls := "SpectrumAccessModel", name := "buffered", desc := "()I" } : Jvm.MethodName)) ∈ lw_all := lw_g (lw_at lw_m12 84 rfl) rfl
theorem q2864 : (Jvm.Cond.selects "SpectrumAccessModel" ({ cls := "SpectrumAccessModel", name := "buffered", desc := "()I" } : Jvm.MethodName) ({ cls := "SpectrumAccessModel", name := "buffered", desc := "()I" } : Jvm.MethodName)) ∈ lw_all := lw_g (lw_at lw_m12 85 rfl) rfl
theorem q2865 : (Jvm.Cond.code ({ cls := "SpectrumAccessModel", name := "buffered", desc := "()I" } : Jvm.MethodName) prog_22_method_7_code (1 : Nat) (Option.some Jvm.ClassFile.FieldType.int)) ∈ lw_all := lw_g (lw_at lw_m12 86 rfl) rfl
theorem q2867 : (Jvm.Cond.instanceMethod ({ cls := "SpectrumAccessModel", name := "parseError", desc := "()I" } : Jvm.MethodName)) ∈ lw_all := lw_g (lw_at lw_m12 88 rfl) rfl
theorem q2868 : (Jvm.Cond.selects "SpectrumAccessModel" ({ cls := "SpectrumAccessModel", name := "parseError", desc := "()I" } : Jvm.MethodName) ({ cls := "SpectrumAccessModel", name := "parseError", desc := "()I" } : Jvm.MethodName)) ∈ lw_all := lw_g (lw_at lw_m12 89 rfl) rfl
theorem q2869 : (Jvm.Cond.code ({ cls := "SpectrumAccessModel", name := "parseError", desc := "()I" } : Jvm.MethodName) prog_22_method_8_code (1 : Nat) (Option.some Jvm.ClassFile.FieldType.int)) ∈ lw_all := lw_g (lw_at lw_m12 90 rfl) rfl
theorem q2871 : (Jvm.Cond.instanceMethod ({ cls := "SpectrumAccessModel", name := "errorPosition", desc := "()I" } : Jvm.MethodName)) ∈ lw_all := lw_g (lw_at lw_m12 92 rfl) rfl
theorem q2872 : (Jvm.Cond.selects "SpectrumAccessModel" ({ cls := "SpectrumAccessModel", name := "errorPosition", desc := "()I" } : Jvm.MethodName) ({ cls := "SpectrumAccessModel", name := "errorPosition", desc := "()I" } : Jvm.MethodName)) ∈ lw_all := lw_g (lw_at lw_m12 93 rfl) rfl
theorem q2873 : (Jvm.Cond.code ({ cls := "SpectrumAccessModel", name := "errorPosition", desc := "()I" } : Jvm.MethodName) prog_22_method_9_code (1 : Nat) (Option.some Jvm.ClassFile.FieldType.int)) ∈ lw_all := lw_g (lw_at lw_m12 94 rfl) rfl
theorem q2875 : (Jvm.Cond.instanceMethod ({ cls := "SpectrumAccessModel", name := "load", desc := "(I)I" } : Jvm.MethodName)) ∈ lw_all := lw_g (lw_at lw_m12 96 rfl) rfl
theorem q2876 : (Jvm.Cond.selects "SpectrumAccessModel" ({ cls := "SpectrumAccessModel", name := "load", desc := "(I)I" } : Jvm.MethodName) ({ cls := "SpectrumAccessModel", name := "load", desc := "(I)I" } : Jvm.MethodName)) ∈ lw_all := lw_g (lw_at lw_m12 97 rfl) rfl
theorem q2877 : (Jvm.Cond.code ({ cls := "SpectrumAccessModel", name := "load", desc := "(I)I" } : Jvm.MethodName) prog_22_method_45_code (3 : Nat) (Option.some Jvm.ClassFile.FieldType.int)) ∈ lw_all := lw_g (lw_at lw_m12 98 rfl) rfl
theorem q2878 : (Jvm.Cond.methodLink "SpectrumAccessModel" (114 : Nat) ({ cls := "SpectrumAccessModel", name := "in", desc := "(III)Z" } : Jvm.MethodName)) ∈ lw_all := lw_g (lw_at lw_m12 99 rfl) rfl
theorem q2879 : (Jvm.Cond.static ({ cls := "SpectrumAccessModel", name := "in", desc := "(III)Z" } : Jvm.MethodName)) ∈ lw_all := lw_g (lw_at lw_m12 100 rfl) rfl
theorem q2880 : (Jvm.Cond.code ({ cls := "SpectrumAccessModel", name := "in", desc := "(III)Z" } : Jvm.MethodName) prog_22_method_3_code (3 : Nat) (Option.some Jvm.ClassFile.FieldType.boolean)) ∈ lw_all := lw_g (lw_at lw_m12 101 rfl) rfl
theorem q2881 : (Jvm.Cond.methodLink "SpectrumAccessModel" (296 : Nat) ({ cls := "SpectrumAccessModel", name := "throwsAt", desc := "(I)I" } : Jvm.MethodName)) ∈ lw_all := lw_g (lw_at lw_m12 102 rfl) rfl
theorem q2882 : (Jvm.Cond.privateMethod ({ cls := "SpectrumAccessModel", name := "throwsAt", desc := "(I)I" } : Jvm.MethodName)) ∈ lw_tbl := lw_at lw_m12 103 rfl
theorem q2883 : (Jvm.Cond.instanceMethod ({ cls := "SpectrumAccessModel", name := "throwsAt", desc := "(I)I" } : Jvm.MethodName)) ∈ lw_all := lw_g (lw_at lw_m12 104 rfl) rfl
theorem q2884 : (Jvm.Cond.code ({ cls := "SpectrumAccessModel", name := "throwsAt", desc := "(I)I" } : Jvm.MethodName) prog_22_method_4_code (2 : Nat) (Option.some Jvm.ClassFile.FieldType.int)) ∈ lw_all := lw_g (lw_at lw_m12 105 rfl) rfl
theorem q2885 : (Jvm.Cond.methodLink "SpectrumAccessModel" (299 : Nat) ({ cls := "SpectrumAccessModel", name := "readText", desc := "()V" } : Jvm.MethodName)) ∈ lw_all := lw_g (lw_at lw_m12 106 rfl) rfl
theorem q2886 : (Jvm.Cond.privateMethod ({ cls := "SpectrumAccessModel", name := "readText", desc := "()V" } : Jvm.MethodName)) ∈ lw_tbl := lw_at lw_m12 107 rfl
theorem q2887 : (Jvm.Cond.instanceMethod ({ cls := "SpectrumAccessModel", name := "readText", desc := "()V" } : Jvm.MethodName)) ∈ lw_all := lw_g (lw_at lw_m12 108 rfl) rfl
theorem q2888 : (Jvm.Cond.code ({ cls := "SpectrumAccessModel", name := "readText", desc := "()V" } : Jvm.MethodName) prog_22_method_44_code (2 : Nat) (Option.none : Option Jvm.ClassFile.FieldType)) ∈ lw_all := lw_g (lw_at lw_m12 109 rfl) rfl
theorem q2889 : (Jvm.Cond.methodLink "SpectrumAccessModel" (137 : Nat) ({ cls := "SpectrumAccessModel", name := "nextToken", desc := "()V" } : Jvm.MethodName)) ∈ lw_all := lw_g (lw_at lw_m12 110 rfl) rfl
theorem q2890 : (Jvm.Cond.privateMethod ({ cls := "SpectrumAccessModel", name := "nextToken", desc := "()V" } : Jvm.MethodName)) ∈ lw_tbl := lw_at lw_m12 111 rfl
theorem q2891 : (Jvm.Cond.instanceMethod ({ cls := "SpectrumAccessModel", name := "nextToken", desc := "()V" } : Jvm.MethodName)) ∈ lw_all := lw_g (lw_at lw_m12 112 rfl) rfl
theorem q2892 : (Jvm.Cond.code ({ cls := "SpectrumAccessModel", name := "nextToken", desc := "()V" } : Jvm.MethodName) prog_22_method_12_code (1 : Nat) (Option.none : Option Jvm.ClassFile.FieldType)) ∈ lw_all := lw_g (lw_at lw_m12 113 rfl) rfl
theorem q2893 : (Jvm.Cond.methodLink "SpectrumAccessModel" (107 : Nat) ({ cls := "SpectrumAccessModel", name := "byteAt", desc := "(I)I" } : Jvm.MethodName)) ∈ lw_all := lw_g (lw_at lw_m12 114 rfl) rfl
theorem q2894 : (Jvm.Cond.privateMethod ({ cls := "SpectrumAccessModel", name := "byteAt", desc := "(I)I" } : Jvm.MethodName)) ∈ lw_tbl := lw_at lw_m12 115 rfl
theorem q2895 : (Jvm.Cond.instanceMethod ({ cls := "SpectrumAccessModel", name := "byteAt", desc := "(I)I" } : Jvm.MethodName)) ∈ lw_all := lw_g (lw_at lw_m12 116 rfl) rfl
theorem q2896 : (Jvm.Cond.code ({ cls := "SpectrumAccessModel", name := "byteAt", desc := "(I)I" } : Jvm.MethodName) prog_22_method_10_code (2 : Nat) (Option.some Jvm.ClassFile.FieldType.int)) ∈ lw_all := lw_g (lw_at lw_m12 117 rfl) rfl
theorem q2897 : (Jvm.Cond.methodLink "SpectrumAccessModel" (121 : Nat) ({ cls := "SpectrumAccessModel", name := "isSign", desc := "(I)Z" } : Jvm.MethodName)) ∈ lw_all := lw_g (lw_at lw_m12 118 rfl) rfl
theorem q2898 : (Jvm.Cond.static ({ cls := "SpectrumAccessModel", name := "isSign", desc := "(I)Z" } : Jvm.MethodName)) ∈ lw_all := lw_g (lw_at lw_m12 119 rfl) rfl
theorem q2899 : (Jvm.Cond.code ({ cls := "SpectrumAccessModel", name := "isSign", desc := "(I)Z" } : Jvm.MethodName) prog_22_method_13_code (1 : Nat) (Option.some Jvm.ClassFile.FieldType.boolean)) ∈ lw_all := lw_g (lw_at lw_m12 120 rfl) rfl
theorem q2900 : (Jvm.Cond.methodLink "SpectrumAccessModel" (290 : Nat) ({ cls := "SpectrumAccessModel", name := "readRegion", desc := "()V" } : Jvm.MethodName)) ∈ lw_all := lw_g (lw_at lw_m12 121 rfl) rfl
theorem q2901 : (Jvm.Cond.privateMethod ({ cls := "SpectrumAccessModel", name := "readRegion", desc := "()V" } : Jvm.MethodName)) ∈ lw_tbl := lw_at lw_m12 122 rfl
theorem q2902 : (Jvm.Cond.instanceMethod ({ cls := "SpectrumAccessModel", name := "readRegion", desc := "()V" } : Jvm.MethodName)) ∈ lw_all := lw_g (lw_at lw_m12 123 rfl) rfl
theorem q2903 : (Jvm.Cond.code ({ cls := "SpectrumAccessModel", name := "readRegion", desc := "()V" } : Jvm.MethodName) prog_22_method_21_code (1 : Nat) (Option.none : Option Jvm.ClassFile.FieldType)) ∈ lw_all := lw_g (lw_at lw_m12 124 rfl) rfl
theorem q2904 : (Jvm.Cond.stringRef "SpectrumAccessModel" (157 : Nat) "region") ∈ lw_tbl := lw_at lw_m12 125 rfl
theorem q2905 : (Jvm.Cond.methodLink "SpectrumAccessModel" (150 : Nat) ({ cls := "SpectrumAccessModel", name := "keyword", desc := "(Ljava/lang/String;)V" } : Jvm.MethodName)) ∈ lw_all := lw_g (lw_at lw_m12 126 rfl) rfl
theorem q2906 : (Jvm.Cond.privateMethod ({ cls := "SpectrumAccessModel", name := "keyword", desc := "(Ljava/lang/String;)V" } : Jvm.MethodName)) ∈ lw_tbl := lw_at lw_m12 127 rfl
theorem q2907 : (Jvm.Cond.instanceMethod ({ cls := "SpectrumAccessModel", name := "keyword", desc := "(Ljava/lang/String;)V" } : Jvm.MethodName)) ∈ lw_all := lw_g (lw_at lw_m12 128 rfl) rfl
theorem q2908 : (Jvm.Cond.code ({ cls := "SpectrumAccessModel", name := "keyword", desc := "(Ljava/lang/String;)V" } : Jvm.MethodName) prog_22_method_17_code (2 : Nat) (Option.none : Option Jvm.ClassFile.FieldType)) ∈ lw_all := lw_g (lw_at lw_m12 129 rfl) rfl
theorem q2909 : (Jvm.Cond.methodLink "SpectrumAccessModel" (140 : Nat) ({ cls := "SpectrumAccessModel", name := "takes", desc := "(Ljava/lang/String;)Z" } : Jvm.MethodName)) ∈ lw_all := lw_g (lw_at lw_m12 130 rfl) rfl
theorem q2910 : (Jvm.Cond.privateMethod ({ cls := "SpectrumAccessModel", name := "takes", desc := "(Ljava/lang/String;)Z" } : Jvm.MethodName)) ∈ lw_tbl := lw_at lw_m12 131 rfl
theorem q2911 : (Jvm.Cond.instanceMethod ({ cls := "SpectrumAccessModel", name := "takes", desc := "(Ljava/lang/String;)Z" } : Jvm.MethodName)) ∈ lw_all := lw_g (lw_at lw_m12 132 rfl) rfl
theorem q2912 : (Jvm.Cond.code ({ cls := "SpectrumAccessModel", name := "takes", desc := "(Ljava/lang/String;)Z" } : Jvm.MethodName) prog_22_method_16_code (3 : Nat) (Option.some Jvm.ClassFile.FieldType.boolean)) ∈ lw_all := lw_g (lw_at lw_m12 133 rfl) rfl
theorem q2913 : (Jvm.Cond.methodLink "SpectrumAccessModel" (133 : Nat) ({ cls := "SpectrumAccessModel", name := "isWord", desc := "(Ljava/lang/String;)Z" } : Jvm.MethodName)) ∈ lw_all := lw_g (lw_at lw_m12 134 rfl) rfl
theorem q2914 : (Jvm.Cond.privateMethod ({ cls := "SpectrumAccessModel", name := "isWord", desc := "(Ljava/lang/String;)Z" } : Jvm.MethodName)) ∈ lw_tbl := lw_at lw_m12 135 rfl
theorem q2915 : (Jvm.Cond.instanceMethod ({ cls := "SpectrumAccessModel", name := "isWord", desc := "(Ljava/lang/String;)Z" } : Jvm.MethodName)) ∈ lw_all := lw_g (lw_at lw_m12 136 rfl) rfl
theorem q2916 : (Jvm.Cond.code ({ cls := "SpectrumAccessModel", name := "isWord", desc := "(Ljava/lang/String;)Z" } : Jvm.MethodName) prog_22_method_15_code (3 : Nat) (Option.some Jvm.ClassFile.FieldType.boolean)) ∈ lw_all := lw_g (lw_at lw_m12 137 rfl) rfl
theorem q2917 : (Jvm.Cond.methodLink "SpectrumAccessModel" (125 : Nat) ({ cls := "java/lang/String", name := "length", desc := "()I" } : Jvm.MethodName)) ∈ lw_all := lw_g (lw_at lw_m12 138 rfl) rfl
theorem q2918 : (Jvm.Cond.methodLink "SpectrumAccessModel" (129 : Nat) ({ cls := "java/lang/String", name := "charAt", desc := "(I)C" } : Jvm.MethodName)) ∈ lw_all := lw_g (lw_at lw_m12 139 rfl) rfl
theorem q2919 : (Jvm.Cond.methodLink "SpectrumAccessModel" (143 : Nat) ({ cls := "SpectrumAccessModel", name := "faults", desc := "(I)V" } : Jvm.MethodName)) ∈ lw_all := lw_g (lw_at lw_m12 140 rfl) rfl
theorem q2920 : (Jvm.Cond.privateMethod ({ cls := "SpectrumAccessModel", name := "faults", desc := "(I)V" } : Jvm.MethodName)) ∈ lw_tbl := lw_at lw_m12 141 rfl
theorem q2921 : (Jvm.Cond.instanceMethod ({ cls := "SpectrumAccessModel", name := "faults", desc := "(I)V" } : Jvm.MethodName)) ∈ lw_all := lw_g (lw_at lw_m12 142 rfl) rfl
theorem q2922 : (Jvm.Cond.code ({ cls := "SpectrumAccessModel", name := "faults", desc := "(I)V" } : Jvm.MethodName) prog_22_method_11_code (2 : Nat) (Option.none : Option Jvm.ClassFile.FieldType)) ∈ lw_all := lw_g (lw_at lw_m12 143 rfl) rfl
theorem q2923 : (Jvm.Cond.methodLink "SpectrumAccessModel" (154 : Nat) ({ cls := "SpectrumAccessModel", name := "number", desc := "(II)I" } : Jvm.MethodName)) ∈ lw_all := lw_g (lw_at lw_m12 144 rfl) rfl
theorem q2924 : (Jvm.Cond.privateMethod ({ cls := "SpectrumAccessModel", name := "number", desc := "(II)I" } : Jvm.MethodName)) ∈ lw_tbl := lw_at lw_m12 145 rfl
theorem q2925 : (Jvm.Cond.instanceMethod ({ cls := "SpectrumAccessModel", name := "number", desc := "(II)I" } : Jvm.MethodName)) ∈ lw_all := lw_g (lw_at lw_m12 146 rfl) rfl
theorem q2926 : (Jvm.Cond.code ({ cls := "SpectrumAccessModel", name := "number", desc := "(II)I" } : Jvm.MethodName) prog_22_method_19_code (4 : Nat) (Option.some Jvm.ClassFile.FieldType.int)) ∈ lw_all := lw_g (lw_at lw_m12 147 rfl) rfl
theorem q2927 : (Jvm.Cond.methodLink "SpectrumAccessModel" (146 : Nat) ({ cls := "SpectrumAccessModel", name := "look", desc := "(II)I" } : Jvm.MethodName)) ∈ lw_all := lw_g (lw_at lw_m12 148 rfl) rfl
theorem q2928 : (Jvm.Cond.privateMethod ({ cls := "SpectrumAccessModel", name := "look", desc := "(II)I" } : Jvm.MethodName)) ∈ lw_tbl := lw_at lw_m12 149 rfl
theorem q2929 : (Jvm.Cond.instanceMethod ({ cls := "SpectrumAccessModel", name := "look", desc := "(II)I" } : Jvm.MethodName)) ∈ lw_all := lw_g (lw_at lw_m12 150 rfl) rfl
theorem q2930 : (Jvm.Cond.code ({ cls := "SpectrumAccessModel", name := "look", desc := "(II)I" } : Jvm.MethodName) prog_22_method_18_code (3 : Nat) (Option.some Jvm.ClassFile.FieldType.int)) ∈ lw_all := lw_g (lw_at lw_m12 151 rfl) rfl
theorem q2931 : (Jvm.Cond.stringRef "SpectrumAccessModel" (159 : Nat) "channels") ∈ lw_tbl := lw_at lw_m12 152 rfl
theorem q2932 : (Jvm.Cond.methodLink "SpectrumAccessModel" (161 : Nat) ({ cls := "SpectrumAccessModel", name := "measure", desc := "(Ljava/lang/String;II)I" } : Jvm.MethodName)) ∈ lw_all := lw_g (lw_at lw_m12 153 rfl) rfl
theorem q2933 : (Jvm.Cond.privateMethod ({ cls := "SpectrumAccessModel", name := "measure", desc := "(Ljava/lang/String;II)I" } : Jvm.MethodName)) ∈ lw_tbl := lw_at lw_m12 154 rfl
theorem q2934 : (Jvm.Cond.instanceMethod ({ cls := "SpectrumAccessModel", name := "measure", desc := "(Ljava/lang/String;II)I" } : Jvm.MethodName)) ∈ lw_all := lw_g (lw_at lw_m12 155 rfl) rfl
theorem q2935 : (Jvm.Cond.code ({ cls := "SpectrumAccessModel", name := "measure", desc := "(Ljava/lang/String;II)I" } : Jvm.MethodName) prog_22_method_20_code (4 : Nat) (Option.some Jvm.ClassFile.FieldType.int)) ∈ lw_all := lw_g (lw_at lw_m12 156 rfl) rfl
theorem q2936 : (Jvm.Cond.stringRef "SpectrumAccessModel" (165 : Nat) "leak") ∈ lw_tbl := lw_at lw_m12 157 rfl
theorem q2937 : (Jvm.Cond.stringRef "SpectrumAccessModel" (167 : Nat) "shield") ∈ lw_tbl := lw_at lw_m12 158 rfl
theorem q2938 : (Jvm.Cond.constant "SpectrumAccessModel" (169 : Nat) (99999 : Int32)) ∈ lw_all := lw_g (lw_at lw_m12 159 rfl) rfl
theorem q2939 : (Jvm.Cond.stringRef "SpectrumAccessModel" (170 : Nat) "minimum") ∈ lw_tbl := lw_at lw_m12 160 rfl
theorem q2940 : (Jvm.Cond.stringRef "SpectrumAccessModel" (172 : Nat) "lease") ∈ lw_tbl := lw_at lw_m12 161 rfl
theorem q2941 : (Jvm.Cond.stringRef "SpectrumAccessModel" (174 : Nat) "delay") ∈ lw_tbl := lw_at lw_m12 162 rfl
theorem q2942 : (Jvm.Cond.methodLink "SpectrumAccessModel" (221 : Nat) ({ cls := "SpectrumAccessModel", name := "isSignHere", desc := "(I)Z" } : Jvm.MethodName)) ∈ lw_all := lw_g (lw_at lw_m12 163 rfl) rfl
theorem q2943 : (Jvm.Cond.privateMethod ({ cls := "SpectrumAccessModel", name := "isSignHere", desc := "(I)Z" } : Jvm.MethodName)) ∈ lw_tbl := lw_at lw_m12 164 rfl
theorem q2944 : (Jvm.Cond.instanceMethod ({ cls := "SpectrumAccessModel", name := "isSignHere", desc := "(I)Z" } : Jvm.MethodName)) ∈ lw_all := lw_g (lw_at lw_m12 165 rfl) rfl
theorem q2945 : (Jvm.Cond.code ({ cls := "SpectrumAccessModel", name := "isSignHere", desc := "(I)Z" } : Jvm.MethodName) prog_22_method_14_code (2 : Nat) (Option.some Jvm.ClassFile.FieldType.boolean)) ∈ lw_all := lw_g (lw_at lw_m12 166 rfl) rfl
theorem q2946 : (Jvm.Cond.methodLink "SpectrumAccessModel" (293 : Nat) ({ cls := "SpectrumAccessModel", name := "readLine", desc := "()V" } : Jvm.MethodName)) ∈ lw_all := lw_g (lw_at lw_m12 167 rfl) rfl
theorem q2947 : (Jvm.Cond.privateMethod ({ cls := "SpectrumAccessModel", name := "readLine", desc := "()V" } : Jvm.MethodName)) ∈ lw_tbl := lw_at lw_m12 168 rfl
theorem q2948 : (Jvm.Cond.instanceMethod ({ cls := "SpectrumAccessModel", name := "readLine", desc := "()V" } : Jvm.MethodName)) ∈ lw_all := lw_g (lw_at lw_m12 169 rfl) rfl
theorem q2949 : (Jvm.Cond.code ({ cls := "SpectrumAccessModel", name := "readLine", desc := "()V" } : Jvm.MethodName) prog_22_method_43_code (1 : Nat) (Option.none : Option Jvm.ClassFile.FieldType)) ∈ lw_all := lw_g (lw_at lw_m12 170 rfl) rfl
theorem q2950 : (Jvm.Cond.stringRef "SpectrumAccessModel" (267 : Nat) "incumbent") ∈ lw_tbl := lw_at lw_m12 171 rfl
theorem q2951 : (Jvm.Cond.methodLink "SpectrumAccessModel" (269 : Nat) ({ cls := "SpectrumAccessModel", name := "readIncumbent", desc := "()V" } : Jvm.MethodName)) ∈ lw_all := lw_g (lw_at lw_m12 172 rfl) rfl
theorem q2952 : (Jvm.Cond.privateMethod ({ cls := "SpectrumAccessModel", name := "readIncumbent", desc := "()V" } : Jvm.MethodName)) ∈ lw_tbl := lw_at lw_m12 173 rfl
theorem q2953 : (Jvm.Cond.instanceMethod ({ cls := "SpectrumAccessModel", name := "readIncumbent", desc := "()V" } : Jvm.MethodName)) ∈ lw_all := lw_g (lw_at lw_m12 174 rfl) rfl
theorem q2954 : (Jvm.Cond.code ({ cls := "SpectrumAccessModel", name := "readIncumbent", desc := "()V" } : Jvm.MethodName) prog_22_method_24_code (2 : Nat) (Option.none : Option Jvm.ClassFile.FieldType)) ∈ lw_all := lw_g (lw_at lw_m12 175 rfl) rfl
theorem q2955 : (Jvm.Cond.methodLink "SpectrumAccessModel" (176 : Nat) ({ cls := "SpectrumAccessModel", name := "readX", desc := "()I" } : Jvm.MethodName)) ∈ lw_all := lw_g (lw_at lw_m12 176 rfl) rfl
theorem q2956 : (Jvm.Cond.privateMethod ({ cls := "SpectrumAccessModel", name := "readX", desc := "()I" } : Jvm.MethodName)) ∈ lw_tbl := lw_at lw_m12 177 rfl
theorem q2957 : (Jvm.Cond.instanceMethod ({ cls := "SpectrumAccessModel", name := "readX", desc := "()I" } : Jvm.MethodName)) ∈ lw_all := lw_g (lw_at lw_m12 178 rfl) rfl
theorem q2958 : (Jvm.Cond.code ({ cls := "SpectrumAccessModel", name := "readX", desc := "()I" } : Jvm.MethodName) prog_22_method_22_code (1 : Nat) (Option.some Jvm.ClassFile.FieldType.int)) ∈ lw_all := lw_g (lw_at lw_m12 179 rfl) rfl
theorem q2959 : (Jvm.Cond.methodLink "SpectrumAccessModel" (179 : Nat) ({ cls := "SpectrumAccessModel", name := "readY", desc := "()I" } : Jvm.MethodName)) ∈ lw_all := lw_g (lw_at lw_m12 180 rfl) rfl
theorem q2960 : (Jvm.Cond.privateMethod ({ cls := "SpectrumAccessModel", name := "readY", desc := "()I" } : Jvm.MethodName)) ∈ lw_tbl := lw_at lw_m12 181 rfl
theorem q2961 : (Jvm.Cond.instanceMethod ({ cls := "SpectrumAccessModel", name := "readY", desc := "()I" } : Jvm.MethodName)) ∈ lw_all := lw_g (lw_at lw_m12 182 rfl) rfl
theorem q2962 : (Jvm.Cond.code ({ cls := "SpectrumAccessModel", name := "readY", desc := "()I" } : Jvm.MethodName) prog_22_method_23_code (1 : Nat) (Option.some Jvm.ClassFile.FieldType.int)) ∈ lw_all := lw_g (lw_at lw_m12 183 rfl) rfl
theorem q2963 : (Jvm.Cond.stringRef "SpectrumAccessModel" (182 : Nat) "announced") ∈ lw_tbl := lw_at lw_m12 184 rfl
theorem q2964 : (Jvm.Cond.stringRef "SpectrumAccessModel" (272 : Nat) "sensor") ∈ lw_tbl := lw_at lw_m12 185 rfl
theorem q2965 : (Jvm.Cond.methodLink "SpectrumAccessModel" (274 : Nat) ({ cls := "SpectrumAccessModel", name := "readSensor", desc := "()V" } : Jvm.MethodName)) ∈ lw_all := lw_g (lw_at lw_m12 186 rfl) rfl
theorem q2966 : (Jvm.Cond.privateMethod ({ cls := "SpectrumAccessModel", name := "readSensor", desc := "()V" } : Jvm.MethodName)) ∈ lw_tbl := lw_at lw_m12 187 rfl
theorem q2967 : (Jvm.Cond.instanceMethod ({ cls := "SpectrumAccessModel", name := "readSensor", desc := "()V" } : Jvm.MethodName)) ∈ lw_all := lw_g (lw_at lw_m12 188 rfl) rfl
theorem q2968 : (Jvm.Cond.code ({ cls := "SpectrumAccessModel", name := "readSensor", desc := "()V" } : Jvm.MethodName) prog_22_method_25_code (2 : Nat) (Option.none : Option Jvm.ClassFile.FieldType)) ∈ lw_all := lw_g (lw_at lw_m12 189 rfl) rfl
theorem q2969 : (Jvm.Cond.stringRef "SpectrumAccessModel" (191 : Nat) "licence") ∈ lw_tbl := lw_at lw_m12 190 rfl
theorem q2970 : (Jvm.Cond.methodLink "SpectrumAccessModel" (277 : Nat) ({ cls := "SpectrumAccessModel", name := "readLicence", desc := "()V" } : Jvm.MethodName)) ∈ lw_all := lw_g (lw_at lw_m12 191 rfl) rfl
theorem q2971 : (Jvm.Cond.privateMethod ({ cls := "SpectrumAccessModel", name := "readLicence", desc := "()V" } : Jvm.MethodName)) ∈ lw_tbl := lw_at lw_m12 192 rfl
theorem q2972 : (Jvm.Cond.instanceMethod ({ cls := "SpectrumAccessModel", name := "readLicence", desc := "()V" } : Jvm.MethodName)) ∈ lw_all := lw_g (lw_at lw_m12 193 rfl) rfl
theorem q2973 : (Jvm.Cond.code ({ cls := "SpectrumAccessModel", name := "readLicence", desc := "()V" } : Jvm.MethodName) prog_22_method_26_code (3 : Nat) (Option.none : Option Jvm.ClassFile.FieldType)) ∈ lw_all := lw_g (lw_at lw_m12 194 rfl) rfl
theorem q2974 : (Jvm.Cond.methodLink "SpectrumAccessModel" (184 : Nat) ({ cls := "SpectrumAccessModel", name := "channelsFor", desc := "(II)I" } : Jvm.MethodName)) ∈ lw_all := lw_g (lw_at lw_m12 195 rfl) rfl
theorem q2975 : (Jvm.Cond.privateMethod ({ cls := "SpectrumAccessModel", name := "channelsFor", desc := "(II)I" } : Jvm.MethodName)) ∈ lw_tbl := lw_at lw_m12 196 rfl
theorem q2976 : (Jvm.Cond.instanceMethod ({ cls := "SpectrumAccessModel", name := "channelsFor", desc := "(II)I" } : Jvm.MethodName)) ∈ lw_all := lw_g (lw_at lw_m12 197 rfl) rfl
theorem q2977 : (Jvm.Cond.code ({ cls := "SpectrumAccessModel", name := "channelsFor", desc := "(II)I" } : Jvm.MethodName) prog_22_method_28_code (8 : Nat) (Option.some Jvm.ClassFile.FieldType.int)) ∈ lw_all := lw_g (lw_at lw_m12 198 rfl) rfl
theorem q2978 : (Jvm.Cond.methodLink "SpectrumAccessModel" (187 : Nat) ({ cls := "SpectrumAccessModel", name := "overlap", desc := "(II)Z" } : Jvm.MethodName)) ∈ lw_all := lw_g (lw_at lw_m12 199 rfl) rfl
theorem q2979 : (Jvm.Cond.privateMethod ({ cls := "SpectrumAccessModel", name := "overlap", desc := "(II)Z" } : Jvm.MethodName)) ∈ lw_tbl := lw_at lw_m12 200 rfl
theorem q2980 : (Jvm.Cond.instanceMethod ({ cls := "SpectrumAccessModel", name := "overlap", desc := "(II)Z" } : Jvm.MethodName)) ∈ lw_all := lw_g (lw_at lw_m12 201 rfl) rfl
theorem q2981 : (Jvm.Cond.code ({ cls := "SpectrumAccessModel", name := "overlap", desc := "(II)Z" } : Jvm.MethodName) prog_22_method_27_code (5 : Nat) (Option.some Jvm.ClassFile.FieldType.boolean)) ∈ lw_all := lw_g (lw_at lw_m12 202 rfl) rfl
theorem q2982 : (Jvm.Cond.stringRef "SpectrumAccessModel" (280 : Nat) "device") ∈ lw_tbl := lw_at lw_m12 203 rfl
theorem q2983 : (Jvm.Cond.methodLink "SpectrumAccessModel" (282 : Nat) ({ cls := "SpectrumAccessModel", name := "readDevice", desc := "()V" } : Jvm.MethodName)) ∈ lw_all := lw_g (lw_at lw_m12 204 rfl) rfl
theorem q2984 : (Jvm.Cond.privateMethod ({ cls := "SpectrumAccessModel", name := "readDevice", desc := "()V" } : Jvm.MethodName)) ∈ lw_tbl := lw_at lw_m12 205 rfl
theorem q2985 : (Jvm.Cond.instanceMethod ({ cls := "SpectrumAccessModel", name := "readDevice", desc := "()V" } : Jvm.MethodName)) ∈ lw_all := lw_g (lw_at lw_m12 206 rfl) rfl
theorem q2986 : (Jvm.Cond.code ({ cls := "SpectrumAccessModel", name := "readDevice", desc := "()V" } : Jvm.MethodName) prog_22_method_30_code (3 : Nat) (Option.none : Option Jvm.ClassFile.FieldType)) ∈ lw_all := lw_g (lw_at lw_m12 207 rfl) rfl
theorem q2987 : (Jvm.Cond.methodLink "SpectrumAccessModel" (193 : Nat) ({ cls := "SpectrumAccessModel", name := "isInArea", desc := "([IIII)Z" } : Jvm.MethodName)) ∈ lw_all := lw_g (lw_at lw_m12 208 rfl) rfl
theorem q2988 : (Jvm.Cond.static ({ cls := "SpectrumAccessModel", name := "isInArea", desc := "([IIII)Z" } : Jvm.MethodName)) ∈ lw_all := lw_g (lw_at lw_m12 209 rfl) rfl
theorem q2989 : (Jvm.Cond.code ({ cls := "SpectrumAccessModel", name := "isInArea", desc := "([IIII)Z" } : Jvm.MethodName) prog_22_method_29_code (5 : Nat) (Option.some Jvm.ClassFile.FieldType.boolean)) ∈ lw_all := lw_g (lw_at lw_m12 210 rfl) rfl
theorem q2990 : (Jvm.Cond.stringRef "SpectrumAccessModel" (197 : Nat) "off") ∈ lw_tbl := lw_at lw_m12 211 rfl
theorem q2991 : (Jvm.Cond.stringRef "SpectrumAccessModel" (285 : Nat) "deny") ∈ lw_tbl := lw_at lw_m12 212 rfl
theorem q2992 : (Jvm.Cond.methodLink "SpectrumAccessModel" (287 : Nat) ({ cls := "SpectrumAccessModel", name := "readDenial", desc := "()V" } : Jvm.MethodName)) ∈ lw_all := lw_g (lw_at lw_m12 213 rfl) rfl
theorem q2993 : (Jvm.Cond.privateMethod ({ cls := "SpectrumAccessModel", name := "readDenial", desc := "()V" } : Jvm.MethodName)) ∈ lw_tbl := lw_at lw_m12 214 rfl
theorem q2994 : (Jvm.Cond.instanceMethod ({ cls := "SpectrumAccessModel", name := "readDenial", desc := "()V" } : Jvm.MethodName)) ∈ lw_all := lw_g (lw_at lw_m12 215 rfl) rfl
theorem q2995 : (Jvm.Cond.code ({ cls := "SpectrumAccessModel", name := "readDenial", desc := "()V" } : Jvm.MethodName) prog_22_method_37_code (2 : Nat) (Option.none : Option Jvm.ClassFile.FieldType)) ∈ lw_all := lw_g (lw_at lw_m12 216 rfl) rfl
theorem q2996 : (Jvm.Cond.methodLink "SpectrumAccessModel" (233 : Nat) ({ cls := "SpectrumAccessModel", name := "test", desc := "()I" } : Jvm.MethodName)) ∈ lw_all := lw_g (lw_at lw_m12 217 rfl) rfl
theorem q2997 : (Jvm.Cond.privateMethod ({ cls := "SpectrumAccessModel", name := "test", desc := "()I" } : Jvm.MethodName)) ∈ lw_tbl := lw_at lw_m12 218 rfl
theorem q2998 : (Jvm.Cond.instanceMethod ({ cls := "SpectrumAccessModel", name := "test", desc := "()I" } : Jvm.MethodName)) ∈ lw_all := lw_g (lw_at lw_m12 219 rfl) rfl
theorem q2999 : (Jvm.Cond.code ({ cls := "SpectrumAccessModel", name := "test", desc := "()I" } : Jvm.MethodName) prog_22_method_32_code (4 : Nat) (Option.some Jvm.ClassFile.FieldType.int)) ∈ lw_all := lw_g (lw_at lw_m12 220 rfl) rfl
theorem q3000 : (Jvm.Cond.methodLink "SpectrumAccessModel" (205 : Nat) ({ cls := "SpectrumAccessModel", name := "unit", desc := "()I" } : Jvm.MethodName)) ∈ lw_all := lw_g (lw_at lw_m12 221 rfl) rfl
theorem q3001 : (Jvm.Cond.privateMethod ({ cls := "SpectrumAccessModel", name := "unit", desc := "()I" } : Jvm.MethodName)) ∈ lw_tbl := lw_at lw_m12 222 rfl
theorem q3002 : (Jvm.Cond.instanceMethod ({ cls := "SpectrumAccessModel", name := "unit", desc := "()I" } : Jvm.MethodName)) ∈ lw_all := lw_g (lw_at lw_m12 223 rfl) rfl
theorem q3003 : (Jvm.Cond.code ({ cls := "SpectrumAccessModel", name := "unit", desc := "()I" } : Jvm.MethodName) prog_22_method_34_code (3 : Nat) (Option.some Jvm.ClassFile.FieldType.int)) ∈ lw_all := lw_g (lw_at lw_m12 224 rfl) rfl
theorem q3004 : (Jvm.Cond.methodLink "SpectrumAccessModel" (216 : Nat) ({ cls := "SpectrumAccessModel", name := "valueHere", desc := "()I" } : Jvm.MethodName)) ∈ lw_all := lw_g (lw_at lw_m12 225 rfl) rfl
theorem q3005 : (Jvm.Cond.privateMethod ({ cls := "SpectrumAccessModel", name := "valueHere", desc := "()I" } : Jvm.MethodName)) ∈ lw_tbl := lw_at lw_m12 226 rfl
theorem q3006 : (Jvm.Cond.instanceMethod ({ cls := "SpectrumAccessModel", name := "valueHere", desc := "()I" } : Jvm.MethodName)) ∈ lw_all := lw_g (lw_at lw_m12 227 rfl) rfl
theorem q3007 : (Jvm.Cond.code ({ cls := "SpectrumAccessModel", name := "valueHere", desc := "()I" } : Jvm.MethodName) prog_22_method_33_code (2 : Nat) (Option.some Jvm.ClassFile.FieldType.int)) ∈ lw_all := lw_g (lw_at lw_m12 228 rfl) rfl
theorem q3008 : (Jvm.Cond.stringRef "SpectrumAccessModel" (219 : Nat) "not") ∈ lw_tbl := lw_at lw_m12 229 rfl
theorem q3009 : (Jvm.Cond.methodLink "SpectrumAccessModel" (212 : Nat) ({ cls := "SpectrumAccessModel", name := "node", desc := "(III)I" } : Jvm.MethodName)) ∈ lw_all := lw_g (lw_at lw_m12 230 rfl) rfl
theorem q3010 : (Jvm.Cond.privateMethod ({ cls := "SpectrumAccessModel", name := "node", desc := "(III)I" } : Jvm.MethodName)) ∈ lw_tbl := lw_at lw_m12 231 rfl
theorem q3011 : (Jvm.Cond.instanceMethod ({ cls := "SpectrumAccessModel", name := "node", desc := "(III)I" } : Jvm.MethodName)) ∈ lw_all := lw_g (lw_at lw_m12 232 rfl) rfl
theorem q3012 : (Jvm.Cond.code ({ cls := "SpectrumAccessModel", name := "node", desc := "(III)I" } : Jvm.MethodName) prog_22_method_31_code (5 : Nat) (Option.some Jvm.ClassFile.FieldType.int)) ∈ lw_all := lw_g (lw_at lw_m12 233 rfl) rfl
theorem q3013 : (Jvm.Cond.methodLink "SpectrumAccessModel" (227 : Nat) ({ cls := "SpectrumAccessModel", name := "inner", desc := "()I" } : Jvm.MethodName)) ∈ lw_all := lw_g (lw_at lw_m12 234 rfl) rfl
theorem q3014 : (Jvm.Cond.privateMethod ({ cls := "SpectrumAccessModel", name := "inner", desc := "()I" } : Jvm.MethodName)) ∈ lw_tbl := lw_at lw_m12 235 rfl
theorem q3015 : (Jvm.Cond.instanceMethod ({ cls := "SpectrumAccessModel", name := "inner", desc := "()I" } : Jvm.MethodName)) ∈ lw_all := lw_g (lw_at lw_m12 236 rfl) rfl
theorem q3016 : (Jvm.Cond.code ({ cls := "SpectrumAccessModel", name := "inner", desc := "()I" } : Jvm.MethodName) prog_22_method_35_code (2 : Nat) (Option.some Jvm.ClassFile.FieldType.int)) ∈ lw_all := lw_g (lw_at lw_m12 237 rfl) rfl
theorem q3017 : (Jvm.Cond.methodLink "SpectrumAccessModel" (230 : Nat) ({ cls := "SpectrumAccessModel", name := "comparison", desc := "(I)I" } : Jvm.MethodName)) ∈ lw_all := lw_g (lw_at lw_m12 238 rfl) rfl
theorem q3018 : (Jvm.Cond.privateMethod ({ cls := "SpectrumAccessModel", name := "comparison", desc := "(I)I" } : Jvm.MethodName)) ∈ lw_tbl := lw_at lw_m12 239 rfl
theorem q3019 : (Jvm.Cond.instanceMethod ({ cls := "SpectrumAccessModel", name := "comparison", desc := "(I)I" } : Jvm.MethodName)) ∈ lw_all := lw_g (lw_at lw_m13 0 rfl) rfl
theorem q3020 : (Jvm.Cond.code ({ cls := "SpectrumAccessModel", name := "comparison", desc := "(I)I" } : Jvm.MethodName) prog_22_method_36_code (3 : Nat) (Option.some Jvm.ClassFile.FieldType.int)) ∈ lw_all := lw_g (lw_at lw_m13 1 rfl) rfl
theorem q3021 : (Jvm.Cond.stringRef "SpectrumAccessModel" (208 : Nat) "and") ∈ lw_tbl := lw_at lw_m13 2 rfl
theorem q3022 : (Jvm.Cond.stringRef "SpectrumAccessModel" (210 : Nat) "or") ∈ lw_tbl := lw_at lw_m13 3 rfl
theorem q3023 : (Jvm.Cond.methodLink "SpectrumAccessModel" (302 : Nat) ({ cls := "SpectrumAccessModel", name := "copy", desc := "([II[II)V" } : Jvm.MethodName)) ∈ lw_all := lw_g (lw_at lw_m13 4 rfl) rfl
theorem q3024 : (Jvm.Cond.static ({ cls := "SpectrumAccessModel", name := "copy", desc := "([II[II)V" } : Jvm.MethodName)) ∈ lw_all := lw_g (lw_at lw_m13 5 rfl) rfl
theorem q3025 : (Jvm.Cond.code ({ cls := "SpectrumAccessModel", name := "copy", desc := "([II[II)V" } : Jvm.MethodName) prog_22_method_46_code (5 : Nat) (Option.none : Option Jvm.ClassFile.FieldType)) ∈ lw_all := lw_g (lw_at lw_m13 6 rfl) rfl
theorem q3027 : (Jvm.Cond.instanceMethod ({ cls := "SpectrumAccessModel", name := "channels", desc := "()I" } : Jvm.MethodName)) ∈ lw_all := lw_g (lw_at lw_m13 8 rfl) rfl
theorem q3028 : (Jvm.Cond.selects "SpectrumAccessModel" ({ cls := "SpectrumAccessModel", name := "channels", desc := "()I" } : Jvm.MethodName) ({ cls := "SpectrumAccessModel", name := "channels", desc := "()I" } : Jvm.MethodName)) ∈ lw_all := lw_g (lw_at lw_m13 9 rfl) rfl
theorem q3029 : (Jvm.Cond.code ({ cls := "SpectrumAccessModel", name := "channels", desc := "()I" } : Jvm.MethodName) prog_22_method_81_code (1 : Nat) (Option.some Jvm.ClassFile.FieldType.int)) ∈ lw_all := lw_g (lw_at lw_m13 10 rfl) rfl
theorem q3030 : (Jvm.Cond.methodLink "SpectrumAccessModel" (455 : Nat) ({ cls := "SpectrumAccessModel", name := "told", desc := "(I)I" } : Jvm.MethodName)) ∈ lw_all := lw_g (lw_at lw_m13 11 rfl) rfl
theorem q3031 : (Jvm.Cond.privateMethod ({ cls := "SpectrumAccessModel", name := "told", desc := "(I)I" } : Jvm.MethodName)) ∈ lw_tbl := lw_at lw_m13 12 rfl
theorem q3032 : (Jvm.Cond.instanceMethod ({ cls := "SpectrumAccessModel", name := "told", desc := "(I)I" } : Jvm.MethodName)) ∈ lw_all := lw_g (lw_at lw_m13 13 rfl) rfl
theorem q3033 : (Jvm.Cond.code ({ cls := "SpectrumAccessModel", name := "told", desc := "(I)I" } : Jvm.MethodName) prog_22_method_80_code (2 : Nat) (Option.some Jvm.ClassFile.FieldType.int)) ∈ lw_all := lw_g (lw_at lw_m13 14 rfl) rfl
theorem q3035 : (Jvm.Cond.instanceMethod ({ cls := "SpectrumAccessModel", name := "incumbents", desc := "()I" } : Jvm.MethodName)) ∈ lw_all := lw_g (lw_at lw_m13 16 rfl) rfl
theorem q3036 : (Jvm.Cond.selects "SpectrumAccessModel" ({ cls := "SpectrumAccessModel", name := "incumbents", desc := "()I" } : Jvm.MethodName) ({ cls := "SpectrumAccessModel", name := "incumbents", desc := "()I" } : Jvm.MethodName)) ∈ lw_all := lw_g (lw_at lw_m13 17 rfl) rfl
theorem q3037 : (Jvm.Cond.code ({ cls := "SpectrumAccessModel", name := "incumbents", desc := "()I" } : Jvm.MethodName) prog_22_method_82_code (1 : Nat) (Option.some Jvm.ClassFile.FieldType.int)) ∈ lw_all := lw_g (lw_at lw_m13 18 rfl) rfl
theorem q3039 : (Jvm.Cond.instanceMethod ({ cls := "SpectrumAccessModel", name := "licences", desc := "()I" } : Jvm.MethodName)) ∈ lw_all := lw_g (lw_at lw_m13 20 rfl) rfl
theorem q3040 : (Jvm.Cond.selects "SpectrumAccessModel" ({ cls := "SpectrumAccessModel", name := "licences", desc := "()I" } : Jvm.MethodName) ({ cls := "SpectrumAccessModel", name := "licences", desc := "()I" } : Jvm.MethodName)) ∈ lw_all := lw_g (lw_at lw_m13 21 rfl) rfl
theorem q3041 : (Jvm.Cond.code ({ cls := "SpectrumAccessModel", name := "licences", desc := "()I" } : Jvm.MethodName) prog_22_method_83_code (1 : Nat) (Option.some Jvm.ClassFile.FieldType.int)) ∈ lw_all := lw_g (lw_at lw_m13 22 rfl) rfl
theorem q3043 : (Jvm.Cond.instanceMethod ({ cls := "SpectrumAccessModel", name := "devices", desc := "()I" } : Jvm.MethodName)) ∈ lw_all := lw_g (lw_at lw_m13 24 rfl) rfl
theorem q3044 : (Jvm.Cond.selects "SpectrumAccessModel" ({ cls := "SpectrumAccessModel", name := "devices", desc := "()I" } : Jvm.MethodName) ({ cls := "SpectrumAccessModel", name := "devices", desc := "()I" } : Jvm.MethodName)) ∈ lw_all := lw_g (lw_at lw_m13 25 rfl) rfl
theorem q3045 : (Jvm.Cond.code ({ cls := "SpectrumAccessModel", name := "devices", desc := "()I" } : Jvm.MethodName) prog_22_method_84_code (1 : Nat) (Option.some Jvm.ClassFile.FieldType.int)) ∈ lw_all := lw_g (lw_at lw_m13 26 rfl) rfl
theorem q3047 : (Jvm.Cond.instanceMethod ({ cls := "SpectrumAccessModel", name := "time", desc := "()I" } : Jvm.MethodName)) ∈ lw_all := lw_g (lw_at lw_m13 28 rfl) rfl
theorem q3048 : (Jvm.Cond.selects "SpectrumAccessModel" ({ cls := "SpectrumAccessModel", name := "time", desc := "()I" } : Jvm.MethodName) ({ cls := "SpectrumAccessModel", name := "time", desc := "()I" } : Jvm.MethodName)) ∈ lw_all := lw_g (lw_at lw_m13 29 rfl) rfl
theorem q3049 : (Jvm.Cond.code ({ cls := "SpectrumAccessModel", name := "time", desc := "()I" } : Jvm.MethodName) prog_22_method_85_code (1 : Nat) (Option.some Jvm.ClassFile.FieldType.int)) ∈ lw_all := lw_g (lw_at lw_m13 30 rfl) rfl
theorem q3051 : (Jvm.Cond.instanceMethod ({ cls := "SpectrumAccessModel", name := "isSensed", desc := "(I)Z" } : Jvm.MethodName)) ∈ lw_all := lw_g (lw_at lw_m13 32 rfl) rfl
theorem q3052 : (Jvm.Cond.selects "SpectrumAccessModel" ({ cls := "SpectrumAccessModel", name := "isSensed", desc := "(I)Z" } : Jvm.MethodName) ({ cls := "SpectrumAccessModel", name := "isSensed", desc := "(I)Z" } : Jvm.MethodName)) ∈ lw_all := lw_g (lw_at lw_m13 33 rfl) rfl
theorem q3053 : (Jvm.Cond.code ({ cls := "SpectrumAccessModel", name := "isSensed", desc := "(I)Z" } : Jvm.MethodName) prog_22_method_92_code (2 : Nat) (Option.some Jvm.ClassFile.FieldType.boolean)) ∈ lw_all := lw_g (lw_at lw_m13 34 rfl) rfl
theorem q3054 : (Jvm.Cond.methodLink "SpectrumAccessModel" (458 : Nat) ({ cls := "SpectrumAccessModel", name := "isIncumbent", desc := "(I)Z" } : Jvm.MethodName)) ∈ lw_all := lw_g (lw_at lw_m13 35 rfl) rfl
theorem q3055 : (Jvm.Cond.privateMethod ({ cls := "SpectrumAccessModel", name := "isIncumbent", desc := "(I)Z" } : Jvm.MethodName)) ∈ lw_tbl := lw_at lw_m13 36 rfl
theorem q3056 : (Jvm.Cond.instanceMethod ({ cls := "SpectrumAccessModel", name := "isIncumbent", desc := "(I)Z" } : Jvm.MethodName)) ∈ lw_all := lw_g (lw_at lw_m13 37 rfl) rfl
theorem q3057 : (Jvm.Cond.code ({ cls := "SpectrumAccessModel", name := "isIncumbent", desc := "(I)Z" } : Jvm.MethodName) prog_22_method_87_code (2 : Nat) (Option.some Jvm.ClassFile.FieldType.boolean)) ∈ lw_all := lw_g (lw_at lw_m13 38 rfl) rfl
theorem q3058 : (Jvm.Cond.methodLink "SpectrumAccessModel" (461 : Nat) ({ cls := "SpectrumAccessModel", name := "mayAsk", desc := "(Z)Z" } : Jvm.MethodName)) ∈ lw_all := lw_g (lw_at lw_m13 39 rfl) rfl
theorem q3059 : (Jvm.Cond.privateMethod ({ cls := "SpectrumAccessModel", name := "mayAsk", desc := "(Z)Z" } : Jvm.MethodName)) ∈ lw_tbl := lw_at lw_m13 40 rfl
theorem q3060 : (Jvm.Cond.instanceMethod ({ cls := "SpectrumAccessModel", name := "mayAsk", desc := "(Z)Z" } : Jvm.MethodName)) ∈ lw_all := lw_g (lw_at lw_m13 41 rfl) rfl
theorem q3061 : (Jvm.Cond.code ({ cls := "SpectrumAccessModel", name := "mayAsk", desc := "(Z)Z" } : Jvm.MethodName) prog_22_method_86_code (2 : Nat) (Option.some Jvm.ClassFile.FieldType.boolean)) ∈ lw_all := lw_g (lw_at lw_m13 42 rfl) rfl
theorem q3062 : (Jvm.Cond.methodLink "SpectrumAccessModel" (333 : Nat) ({ cls := "SpectrumAccessModel", name := "sensed", desc := "([II)Z" } : Jvm.MethodName)) ∈ lw_all := lw_g (lw_at lw_m13 43 rfl) rfl
theorem q3063 : (Jvm.Cond.privateMethod ({ cls := "SpectrumAccessModel", name := "sensed", desc := "([II)Z" } : Jvm.MethodName)) ∈ lw_tbl := lw_at lw_m13 44 rfl
theorem q3064 : (Jvm.Cond.instanceMethod ({ cls := "SpectrumAccessModel", name := "sensed", desc := "([II)Z" } : Jvm.MethodName)) ∈ lw_all := lw_g (lw_at lw_m13 45 rfl) rfl
theorem q3065 : (Jvm.Cond.code ({ cls := "SpectrumAccessModel", name := "sensed", desc := "([II)Z" } : Jvm.MethodName) prog_22_method_54_code (6 : Nat) (Option.some Jvm.ClassFile.FieldType.boolean)) ∈ lw_all := lw_g (lw_at lw_m13 46 rfl) rfl
theorem q3066 : (Jvm.Cond.methodLink "SpectrumAccessModel" (313 : Nat) ({ cls := "SpectrumAccessModel", name := "squared", desc := "(IIII)I" } : Jvm.MethodName)) ∈ lw_all := lw_g (lw_at lw_m13 47 rfl) rfl
theorem q3067 : (Jvm.Cond.static ({ cls := "SpectrumAccessModel", name := "squared", desc := "(IIII)I" } : Jvm.MethodName)) ∈ lw_all := lw_g (lw_at lw_m13 48 rfl) rfl
theorem q3068 : (Jvm.Cond.code ({ cls := "SpectrumAccessModel", name := "squared", desc := "(IIII)I" } : Jvm.MethodName) prog_22_method_48_code (4 : Nat) (Option.some Jvm.ClassFile.FieldType.int)) ∈ lw_all := lw_g (lw_at lw_m13 49 rfl) rfl
theorem q3070 : (Jvm.Cond.instanceMethod ({ cls := "SpectrumAccessModel", name := "isProtected", desc := "(I)Z" } : Jvm.MethodName)) ∈ lw_all := lw_g (lw_at lw_m13 51 rfl) rfl
theorem q3071 : (Jvm.Cond.selects "SpectrumAccessModel" ({ cls := "SpectrumAccessModel", name := "isProtected", desc := "(I)Z" } : Jvm.MethodName) ({ cls := "SpectrumAccessModel", name := "isProtected", desc := "(I)Z" } : Jvm.MethodName)) ∈ lw_all := lw_g (lw_at lw_m13 52 rfl) rfl
theorem q3072 : (Jvm.Cond.code ({ cls := "SpectrumAccessModel", name := "isProtected", desc := "(I)Z" } : Jvm.MethodName) prog_22_method_93_code (2 : Nat) (Option.some Jvm.ClassFile.FieldType.boolean)) ∈ lw_all := lw_g (lw_at lw_m13 53 rfl) rfl
theorem q3073 : (Jvm.Cond.methodLink "SpectrumAccessModel" (370 : Nat) ({ cls := "SpectrumAccessModel", name := "protects", desc := "([II)Z" } : Jvm.MethodName)) ∈ lw_all := lw_g (lw_at lw_m13 54 rfl) rfl
theorem q3074 : (Jvm.Cond.privateMethod ({ cls := "SpectrumAccessModel", name := "protects", desc := "([II)Z" } : Jvm.MethodName)) ∈ lw_tbl := lw_at lw_m13 55 rfl
theorem q3075 : (Jvm.Cond.instanceMethod ({ cls := "SpectrumAccessModel", name := "protects", desc := "([II)Z" } : Jvm.MethodName)) ∈ lw_all := lw_g (lw_at lw_m13 56 rfl) rfl
theorem q3076 : (Jvm.Cond.code ({ cls := "SpectrumAccessModel", name := "protects", desc := "([II)Z" } : Jvm.MethodName) prog_22_method_55_code (4 : Nat) (Option.some Jvm.ClassFile.FieldType.boolean)) ∈ lw_all := lw_g (lw_at lw_m13 57 rfl) rfl
theorem q3078 : (Jvm.Cond.instanceMethod ({ cls := "SpectrumAccessModel", name := "headroom", desc := "(I)I" } : Jvm.MethodName)) ∈ lw_all := lw_g (lw_at lw_m13 59 rfl) rfl
theorem q3079 : (Jvm.Cond.selects "SpectrumAccessModel" ({ cls := "SpectrumAccessModel", name := "headroom", desc := "(I)I" } : Jvm.MethodName) ({ cls := "SpectrumAccessModel", name := "headroom", desc := "(I)I" } : Jvm.MethodName)) ∈ lw_all := lw_g (lw_at lw_m13 60 rfl) rfl
theorem q3080 : (Jvm.Cond.code ({ cls := "SpectrumAccessModel", name := "headroom", desc := "(I)I" } : Jvm.MethodName) prog_22_method_95_code (2 : Nat) (Option.some Jvm.ClassFile.FieldType.int)) ∈ lw_all := lw_g (lw_at lw_m13 61 rfl) rfl
theorem q3081 : (Jvm.Cond.methodLink "SpectrumAccessModel" (465 : Nat) ({ cls := "SpectrumAccessModel", name := "room", desc := "(I)I" } : Jvm.MethodName)) ∈ lw_all := lw_g (lw_at lw_m13 62 rfl) rfl
theorem q3082 : (Jvm.Cond.privateMethod ({ cls := "SpectrumAccessModel", name := "room", desc := "(I)I" } : Jvm.MethodName)) ∈ lw_tbl := lw_at lw_m13 63 rfl
theorem q3083 : (Jvm.Cond.instanceMethod ({ cls := "SpectrumAccessModel", name := "room", desc := "(I)I" } : Jvm.MethodName)) ∈ lw_all := lw_g (lw_at lw_m13 64 rfl) rfl
theorem q3084 : (Jvm.Cond.code ({ cls := "SpectrumAccessModel", name := "room", desc := "(I)I" } : Jvm.MethodName) prog_22_method_94_code (5 : Nat) (Option.some Jvm.ClassFile.FieldType.int)) ∈ lw_all := lw_g (lw_at lw_m13 65 rfl) rfl
theorem q3085 : (Jvm.Cond.methodLink "SpectrumAccessModel" (373 : Nat) ({ cls := "SpectrumAccessModel", name := "sum", desc := "([IIIII)I" } : Jvm.MethodName)) ∈ lw_all := lw_g (lw_at lw_m13 66 rfl) rfl
theorem q3086 : (Jvm.Cond.privateMethod ({ cls := "SpectrumAccessModel", name := "sum", desc := "([IIIII)I" } : Jvm.MethodName)) ∈ lw_tbl := lw_at lw_m13 67 rfl
theorem q3087 : (Jvm.Cond.instanceMethod ({ cls := "SpectrumAccessModel", name := "sum", desc := "([IIIII)I" } : Jvm.MethodName)) ∈ lw_all := lw_g (lw_at lw_m13 68 rfl) rfl
theorem q3088 : (Jvm.Cond.code ({ cls := "SpectrumAccessModel", name := "sum", desc := "([IIIII)I" } : Jvm.MethodName) prog_22_method_53_code (8 : Nat) (Option.some Jvm.ClassFile.FieldType.int)) ∈ lw_all := lw_g (lw_at lw_m13 69 rfl) rfl
theorem q3089 : (Jvm.Cond.methodLink "SpectrumAccessModel" (326 : Nat) ({ cls := "SpectrumAccessModel", name := "isOf", desc := "(II)Z" } : Jvm.MethodName)) ∈ lw_all := lw_g (lw_at lw_m13 70 rfl) rfl
theorem q3090 : (Jvm.Cond.privateMethod ({ cls := "SpectrumAccessModel", name := "isOf", desc := "(II)Z" } : Jvm.MethodName)) ∈ lw_tbl := lw_at lw_m13 71 rfl
theorem q3091 : (Jvm.Cond.instanceMethod ({ cls := "SpectrumAccessModel", name := "isOf", desc := "(II)Z" } : Jvm.MethodName)) ∈ lw_all := lw_g (lw_at lw_m13 72 rfl) rfl
theorem q3092 : (Jvm.Cond.code ({ cls := "SpectrumAccessModel", name := "isOf", desc := "(II)Z" } : Jvm.MethodName) prog_22_method_52_code (3 : Nat) (Option.some Jvm.ClassFile.FieldType.boolean)) ∈ lw_all := lw_g (lw_at lw_m13 73 rfl) rfl
theorem q3093 : (Jvm.Cond.methodLink "SpectrumAccessModel" (260 : Nat) ({ cls := "SpectrumAccessModel", name := "isLicensed", desc := "(I)Z" } : Jvm.MethodName)) ∈ lw_all := lw_g (lw_at lw_m13 74 rfl) rfl
theorem q3094 : (Jvm.Cond.privateMethod ({ cls := "SpectrumAccessModel", name := "isLicensed", desc := "(I)Z" } : Jvm.MethodName)) ∈ lw_tbl := lw_at lw_m13 75 rfl
theorem q3095 : (Jvm.Cond.instanceMethod ({ cls := "SpectrumAccessModel", name := "isLicensed", desc := "(I)Z" } : Jvm.MethodName)) ∈ lw_all := lw_g (lw_at lw_m13 76 rfl) rfl
theorem q3096 : (Jvm.Cond.code ({ cls := "SpectrumAccessModel", name := "isLicensed", desc := "(I)Z" } : Jvm.MethodName) prog_22_method_51_code (2 : Nat) (Option.some Jvm.ClassFile.FieldType.boolean)) ∈ lw_all := lw_g (lw_at lw_m13 77 rfl) rfl
theorem q3097 : (Jvm.Cond.methodLink "SpectrumAccessModel" (329 : Nat) ({ cls := "SpectrumAccessModel", name := "counts", desc := "([IIIII)I" } : Jvm.MethodName)) ∈ lw_all := lw_g (lw_at lw_m13 78 rfl) rfl
theorem q3098 : (Jvm.Cond.privateMethod ({ cls := "SpectrumAccessModel", name := "counts", desc := "([IIIII)I" } : Jvm.MethodName)) ∈ lw_tbl := lw_at lw_m13 79 rfl
theorem q3099 : (Jvm.Cond.instanceMethod ({ cls := "SpectrumAccessModel", name := "counts", desc := "([IIIII)I" } : Jvm.MethodName)) ∈ lw_all := lw_g (lw_at lw_m13 80 rfl) rfl
theorem q3100 : (Jvm.Cond.code ({ cls := "SpectrumAccessModel", name := "counts", desc := "([IIIII)I" } : Jvm.MethodName) prog_22_method_50_code (8 : Nat) (Option.some Jvm.ClassFile.FieldType.int)) ∈ lw_all := lw_g (lw_at lw_m13 81 rfl) rfl
theorem q3101 : (Jvm.Cond.methodLink "SpectrumAccessModel" (317 : Nat) ({ cls := "java/lang/Math", name := "abs", desc := "(I)I" } : Jvm.MethodName)) ∈ lw_all := lw_g (lw_at lw_m13 82 rfl) rfl
theorem q3102 : (Jvm.Cond.methodLink "SpectrumAccessModel" (322 : Nat) ({ cls := "SpectrumAccessModel", name := "strength", desc := "([IIII)I" } : Jvm.MethodName)) ∈ lw_all := lw_g (lw_at lw_m13 83 rfl) rfl
theorem q3103 : (Jvm.Cond.privateMethod ({ cls := "SpectrumAccessModel", name := "strength", desc := "([IIII)I" } : Jvm.MethodName)) ∈ lw_tbl := lw_at lw_m13 84 rfl
theorem q3104 : (Jvm.Cond.instanceMethod ({ cls := "SpectrumAccessModel", name := "strength", desc := "([IIII)I" } : Jvm.MethodName)) ∈ lw_all := lw_g (lw_at lw_m13 85 rfl) rfl
theorem q3105 : (Jvm.Cond.code ({ cls := "SpectrumAccessModel", name := "strength", desc := "([IIII)I" } : Jvm.MethodName) prog_22_method_49_code (5 : Nat) (Option.some Jvm.ClassFile.FieldType.int)) ∈ lw_all := lw_g (lw_at lw_m13 86 rfl) rfl
theorem q3106 : (Jvm.Cond.methodLink "SpectrumAccessModel" (351 : Nat) ({ cls := "java/lang/Math", name := "max", desc := "(II)I" } : Jvm.MethodName)) ∈ lw_all := lw_g (lw_at lw_m13 87 rfl) rfl
theorem q3108 : (Jvm.Cond.instanceMethod ({ cls := "SpectrumAccessModel", name := "licenceChannels", desc := "(I)I" } : Jvm.MethodName)) ∈ lw_all := lw_g (lw_at lw_m13 89 rfl) rfl
theorem q3109 : (Jvm.Cond.selects "SpectrumAccessModel" ({ cls := "SpectrumAccessModel", name := "licenceChannels", desc := "(I)I" } : Jvm.MethodName) ({ cls := "SpectrumAccessModel", name := "licenceChannels", desc := "(I)I" } : Jvm.MethodName)) ∈ lw_all := lw_g (lw_at lw_m13 90 rfl) rfl
theorem q3110 : (Jvm.Cond.code ({ cls := "SpectrumAccessModel", name := "licenceChannels", desc := "(I)I" } : Jvm.MethodName) prog_22_method_96_code (2 : Nat) (Option.some Jvm.ClassFile.FieldType.int)) ∈ lw_all := lw_g (lw_at lw_m13 91 rfl) rfl
theorem q3111 : (Jvm.Cond.methodLink "SpectrumAccessModel" (468 : Nat) ({ cls := "SpectrumAccessModel", name := "isLicence", desc := "(I)Z" } : Jvm.MethodName)) ∈ lw_all := lw_g (lw_at lw_m13 92 rfl) rfl
theorem q3112 : (Jvm.Cond.privateMethod ({ cls := "SpectrumAccessModel", name := "isLicence", desc := "(I)Z" } : Jvm.MethodName)) ∈ lw_tbl := lw_at lw_m13 93 rfl
theorem q3113 : (Jvm.Cond.instanceMethod ({ cls := "SpectrumAccessModel", name := "isLicence", desc := "(I)Z" } : Jvm.MethodName)) ∈ lw_all := lw_g (lw_at lw_m13 94 rfl) rfl
theorem q3114 : (Jvm.Cond.code ({ cls := "SpectrumAccessModel", name := "isLicence", desc := "(I)Z" } : Jvm.MethodName) prog_22_method_88_code (2 : Nat) (Option.some Jvm.ClassFile.FieldType.boolean)) ∈ lw_all := lw_g (lw_at lw_m13 95 rfl) rfl
theorem q3116 : (Jvm.Cond.instanceMethod ({ cls := "SpectrumAccessModel", name := "licenceAt", desc := "(III)I" } : Jvm.MethodName)) ∈ lw_all := lw_g (lw_at lw_m13 97 rfl) rfl
theorem q3117 : (Jvm.Cond.selects "SpectrumAccessModel" ({ cls := "SpectrumAccessModel", name := "licenceAt", desc := "(III)I" } : Jvm.MethodName) ({ cls := "SpectrumAccessModel", name := "licenceAt", desc := "(III)I" } : Jvm.MethodName)) ∈ lw_all := lw_g (lw_at lw_m13 98 rfl) rfl
theorem q3118 : (Jvm.Cond.code ({ cls := "SpectrumAccessModel", name := "licenceAt", desc := "(III)I" } : Jvm.MethodName) prog_22_method_97_code (5 : Nat) (Option.some Jvm.ClassFile.FieldType.int)) ∈ lw_all := lw_g (lw_at lw_m13 99 rfl) rfl
theorem q3119 : (Jvm.Cond.methodLink "SpectrumAccessModel" (471 : Nat) ({ cls := "SpectrumAccessModel", name := "isPosition", desc := "(II)Z" } : Jvm.MethodName)) ∈ lw_all := lw_g (lw_at lw_m13 100 rfl) rfl
theorem q3120 : (Jvm.Cond.privateMethod ({ cls := "SpectrumAccessModel", name := "isPosition", desc := "(II)Z" } : Jvm.MethodName)) ∈ lw_tbl := lw_at lw_m13 101 rfl
theorem q3121 : (Jvm.Cond.instanceMethod ({ cls := "SpectrumAccessModel", name := "isPosition", desc := "(II)Z" } : Jvm.MethodName)) ∈ lw_all := lw_g (lw_at lw_m13 102 rfl) rfl
theorem q3122 : (Jvm.Cond.code ({ cls := "SpectrumAccessModel", name := "isPosition", desc := "(II)Z" } : Jvm.MethodName) prog_22_method_91_code (3 : Nat) (Option.some Jvm.ClassFile.FieldType.boolean)) ∈ lw_all := lw_g (lw_at lw_m13 103 rfl) rfl
theorem q3123 : (Jvm.Cond.methodLink "SpectrumAccessModel" (474 : Nat) ({ cls := "SpectrumAccessModel", name := "isChannel", desc := "(I)Z" } : Jvm.MethodName)) ∈ lw_all := lw_g (lw_at lw_m13 104 rfl) rfl
theorem q3124 : (Jvm.Cond.privateMethod ({ cls := "SpectrumAccessModel", name := "isChannel", desc := "(I)Z" } : Jvm.MethodName)) ∈ lw_tbl := lw_at lw_m13 105 rfl
theorem q3125 : (Jvm.Cond.instanceMethod ({ cls := "SpectrumAccessModel", name := "isChannel", desc := "(I)Z" } : Jvm.MethodName)) ∈ lw_all := lw_g (lw_at lw_m13 106 rfl) rfl
theorem q3126 : (Jvm.Cond.code ({ cls := "SpectrumAccessModel", name := "isChannel", desc := "(I)Z" } : Jvm.MethodName) prog_22_method_90_code (2 : Nat) (Option.some Jvm.ClassFile.FieldType.boolean)) ∈ lw_all := lw_g (lw_at lw_m13 107 rfl) rfl
theorem q3128 : (Jvm.Cond.instanceMethod ({ cls := "SpectrumAccessModel", name := "stateOf", desc := "(I)I" } : Jvm.MethodName)) ∈ lw_all := lw_g (lw_at lw_m13 109 rfl) rfl
theorem q3129 : (Jvm.Cond.selects "SpectrumAccessModel" ({ cls := "SpectrumAccessModel", name := "stateOf", desc := "(I)I" } : Jvm.MethodName) ({ cls := "SpectrumAccessModel", name := "stateOf", desc := "(I)I" } : Jvm.MethodName)) ∈ lw_all := lw_g (lw_at lw_m13 110 rfl) rfl
theorem q3130 : (Jvm.Cond.code ({ cls := "SpectrumAccessModel", name := "stateOf", desc := "(I)I" } : Jvm.MethodName) prog_22_method_99_code (2 : Nat) (Option.some Jvm.ClassFile.FieldType.int)) ∈ lw_all := lw_g (lw_at lw_m13 111 rfl) rfl
theorem q3131 : (Jvm.Cond.methodLink "SpectrumAccessModel" (480 : Nat) ({ cls := "SpectrumAccessModel", name := "ofDevice", desc := "(II)I" } : Jvm.MethodName)) ∈ lw_all := lw_g (lw_at lw_m13 112 rfl) rfl
theorem q3132 : (Jvm.Cond.privateMethod ({ cls := "SpectrumAccessModel", name := "ofDevice", desc := "(II)I" } : Jvm.MethodName)) ∈ lw_tbl := lw_at lw_m13 113 rfl
theorem q3133 : (Jvm.Cond.instanceMethod ({ cls := "SpectrumAccessModel", name := "ofDevice", desc := "(II)I" } : Jvm.MethodName)) ∈ lw_all := lw_g (lw_at lw_m13 114 rfl) rfl
theorem q3134 : (Jvm.Cond.code ({ cls := "SpectrumAccessModel", name := "ofDevice", desc := "(II)I" } : Jvm.MethodName) prog_22_method_98_code (3 : Nat) (Option.some Jvm.ClassFile.FieldType.int)) ∈ lw_all := lw_g (lw_at lw_m13 115 rfl) rfl
theorem q3135 : (Jvm.Cond.methodLink "SpectrumAccessModel" (477 : Nat) ({ cls := "SpectrumAccessModel", name := "isDevice", desc := "(I)Z" } : Jvm.MethodName)) ∈ lw_all := lw_g (lw_at lw_m13 116 rfl) rfl
theorem q3136 : (Jvm.Cond.privateMethod ({ cls := "SpectrumAccessModel", name := "isDevice", desc := "(I)Z" } : Jvm.MethodName)) ∈ lw_tbl := lw_at lw_m13 117 rfl
theorem q3137 : (Jvm.Cond.instanceMethod ({ cls := "SpectrumAccessModel", name := "isDevice", desc := "(I)Z" } : Jvm.MethodName)) ∈ lw_all := lw_g (lw_at lw_m13 118 rfl) rfl
theorem q3138 : (Jvm.Cond.code ({ cls := "SpectrumAccessModel", name := "isDevice", desc := "(I)Z" } : Jvm.MethodName) prog_22_method_89_code (2 : Nat) (Option.some Jvm.ClassFile.FieldType.boolean)) ∈ lw_all := lw_g (lw_at lw_m13 119 rfl) rfl
theorem q3140 : (Jvm.Cond.instanceMethod ({ cls := "SpectrumAccessModel", name := "licenceOf", desc := "(I)I" } : Jvm.MethodName)) ∈ lw_all := lw_g (lw_at lw_m13 121 rfl) rfl
theorem q3141 : (Jvm.Cond.selects "SpectrumAccessModel" ({ cls := "SpectrumAccessModel", name := "licenceOf", desc := "(I)I" } : Jvm.MethodName) ({ cls := "SpectrumAccessModel", name := "licenceOf", desc := "(I)I" } : Jvm.MethodName)) ∈ lw_all := lw_g (lw_at lw_m13 122 rfl) rfl
theorem q3142 : (Jvm.Cond.code ({ cls := "SpectrumAccessModel", name := "licenceOf", desc := "(I)I" } : Jvm.MethodName) prog_22_method_100_code (2 : Nat) (Option.some Jvm.ClassFile.FieldType.int)) ∈ lw_all := lw_g (lw_at lw_m13 123 rfl) rfl
theorem q3144 : (Jvm.Cond.instanceMethod ({ cls := "SpectrumAccessModel", name := "channelOf", desc := "(I)I" } : Jvm.MethodName)) ∈ lw_all := lw_g (lw_at lw_m13 125 rfl) rfl
theorem q3145 : (Jvm.Cond.selects "SpectrumAccessModel" ({ cls := "SpectrumAccessModel", name := "channelOf", desc := "(I)I" } : Jvm.MethodName) ({ cls := "SpectrumAccessModel", name := "channelOf", desc := "(I)I" } : Jvm.MethodName)) ∈ lw_all := lw_g (lw_at lw_m13 126 rfl) rfl
theorem q3146 : (Jvm.Cond.code ({ cls := "SpectrumAccessModel", name := "channelOf", desc := "(I)I" } : Jvm.MethodName) prog_22_method_101_code (2 : Nat) (Option.some Jvm.ClassFile.FieldType.int)) ∈ lw_all := lw_g (lw_at lw_m13 127 rfl) rfl
theorem q3148 : (Jvm.Cond.instanceMethod ({ cls := "SpectrumAccessModel", name := "powerOf", desc := "(I)I" } : Jvm.MethodName)) ∈ lw_all := lw_g (lw_at lw_m13 129 rfl) rfl
theorem q3149 : (Jvm.Cond.selects "SpectrumAccessModel" ({ cls := "SpectrumAccessModel", name := "powerOf", desc := "(I)I" } : Jvm.MethodName) ({ cls := "SpectrumAccessModel", name := "powerOf", desc := "(I)I" } : Jvm.MethodName)) ∈ lw_all := lw_g (lw_at lw_m13 130 rfl) rfl
theorem q3150 : (Jvm.Cond.code ({ cls := "SpectrumAccessModel", name := "powerOf", desc := "(I)I" } : Jvm.MethodName) prog_22_method_102_code (2 : Nat) (Option.some Jvm.ClassFile.FieldType.int)) ∈ lw_all := lw_g (lw_at lw_m13 131 rfl) rfl
theorem q3152 : (Jvm.Cond.instanceMethod ({ cls := "SpectrumAccessModel", name := "sinceOf", desc := "(I)I" } : Jvm.MethodName)) ∈ lw_all := lw_g (lw_at lw_m13 133 rfl) rfl
theorem q3153 : (Jvm.Cond.selects "SpectrumAccessModel" ({ cls := "SpectrumAccessModel", name := "sinceOf", desc := "(I)I" } : Jvm.MethodName) ({ cls := "SpectrumAccessModel", name := "sinceOf", desc := "(I)I" } : Jvm.MethodName)) ∈ lw_all := lw_g (lw_at lw_m13 134 rfl) rfl
theorem q3154 : (Jvm.Cond.code ({ cls := "SpectrumAccessModel", name := "sinceOf", desc := "(I)I" } : Jvm.MethodName) prog_22_method_103_code (2 : Nat) (Option.some Jvm.ClassFile.FieldType.int)) ∈ lw_all := lw_g (lw_at lw_m13 135 rfl) rfl
theorem q3156 : (Jvm.Cond.instanceMethod ({ cls := "SpectrumAccessModel", name := "movesOf", desc := "(I)I" } : Jvm.MethodName)) ∈ lw_all := lw_g (lw_at lw_m13 137 rfl) rfl
theorem q3157 : (Jvm.Cond.selects "SpectrumAccessModel" ({ cls := "SpectrumAccessModel", name := "movesOf", desc := "(I)I" } : Jvm.MethodName) ({ cls := "SpectrumAccessModel", name := "movesOf", desc := "(I)I" } : Jvm.MethodName)) ∈ lw_all := lw_g (lw_at lw_m13 138 rfl) rfl
theorem q3158 : (Jvm.Cond.code ({ cls := "SpectrumAccessModel", name := "movesOf", desc := "(I)I" } : Jvm.MethodName) prog_22_method_104_code (2 : Nat) (Option.some Jvm.ClassFile.FieldType.int)) ∈ lw_all := lw_g (lw_at lw_m13 139 rfl) rfl
theorem q3160 : (Jvm.Cond.instanceMethod ({ cls := "SpectrumAccessModel", name := "airtimeOf", desc := "(I)I" } : Jvm.MethodName)) ∈ lw_all := lw_g (lw_at lw_m13 141 rfl) rfl
theorem q3161 : (Jvm.Cond.selects "SpectrumAccessModel" ({ cls := "SpectrumAccessModel", name := "airtimeOf", desc := "(I)I" } : Jvm.MethodName) ({ cls := "SpectrumAccessModel", name := "airtimeOf", desc := "(I)I" } : Jvm.MethodName)) ∈ lw_all := lw_g (lw_at lw_m13 142 rfl) rfl
theorem q3162 : (Jvm.Cond.code ({ cls := "SpectrumAccessModel", name := "airtimeOf", desc := "(I)I" } : Jvm.MethodName) prog_22_method_105_code (2 : Nat) (Option.some Jvm.ClassFile.FieldType.int)) ∈ lw_all := lw_g (lw_at lw_m13 143 rfl) rfl
theorem q3164 : (Jvm.Cond.instanceMethod ({ cls := "SpectrumAccessModel", name := "leaseEndOf", desc := "(I)I" } : Jvm.MethodName)) ∈ lw_all := lw_g (lw_at lw_m13 145 rfl) rfl
theorem q3165 : (Jvm.Cond.selects "SpectrumAccessModel" ({ cls := "SpectrumAccessModel", name := "leaseEndOf", desc := "(I)I" } : Jvm.MethodName) ({ cls := "SpectrumAccessModel", name := "leaseEndOf", desc := "(I)I" } : Jvm.MethodName)) ∈ lw_all := lw_g (lw_at lw_m13 146 rfl) rfl
theorem q3166 : (Jvm.Cond.code ({ cls := "SpectrumAccessModel", name := "leaseEndOf", desc := "(I)I" } : Jvm.MethodName) prog_22_method_106_code (2 : Nat) (Option.some Jvm.ClassFile.FieldType.int)) ∈ lw_all := lw_g (lw_at lw_m13 147 rfl) rfl
theorem q3168 : (Jvm.Cond.instanceMethod ({ cls := "SpectrumAccessModel", name := "strengthOf", desc := "(III)I" } : Jvm.MethodName)) ∈ lw_all := lw_g (lw_at lw_m13 149 rfl) rfl
theorem q3169 : (Jvm.Cond.selects "SpectrumAccessModel" ({ cls := "SpectrumAccessModel", name := "strengthOf", desc := "(III)I" } : Jvm.MethodName) ({ cls := "SpectrumAccessModel", name := "strengthOf", desc := "(III)I" } : Jvm.MethodName)) ∈ lw_all := lw_g (lw_at lw_m13 150 rfl) rfl
theorem q3170 : (Jvm.Cond.code ({ cls := "SpectrumAccessModel", name := "strengthOf", desc := "(III)I" } : Jvm.MethodName) prog_22_method_107_code (4 : Nat) (Option.some Jvm.ClassFile.FieldType.int)) ∈ lw_all := lw_g (lw_at lw_m13 151 rfl) rfl
theorem q3172 : (Jvm.Cond.instanceMethod ({ cls := "SpectrumAccessModel", name := "interference", desc := "(IIII)I" } : Jvm.MethodName)) ∈ lw_all := lw_g (lw_at lw_m13 153 rfl) rfl
theorem q3173 : (Jvm.Cond.selects "SpectrumAccessModel" ({ cls := "SpectrumAccessModel", name := "interference", desc := "(IIII)I" } : Jvm.MethodName) ({ cls := "SpectrumAccessModel", name := "interference", desc := "(IIII)I" } : Jvm.MethodName)) ∈ lw_all := lw_g (lw_at lw_m13 154 rfl) rfl
theorem q3174 : (Jvm.Cond.code ({ cls := "SpectrumAccessModel", name := "interference", desc := "(IIII)I" } : Jvm.MethodName) prog_22_method_108_code (5 : Nat) (Option.some Jvm.ClassFile.FieldType.int)) ∈ lw_all := lw_g (lw_at lw_m13 155 rfl) rfl
theorem q3176 : (Jvm.Cond.instanceMethod ({ cls := "SpectrumAccessModel", name := "denials", desc := "()I" } : Jvm.MethodName)) ∈ lw_all := lw_g (lw_at lw_m13 157 rfl) rfl
theorem q3177 : (Jvm.Cond.selects "SpectrumAccessModel" ({ cls := "SpectrumAccessModel", name := "denials", desc := "()I" } : Jvm.MethodName) ({ cls := "SpectrumAccessModel", name := "denials", desc := "()I" } : Jvm.MethodName)) ∈ lw_all := lw_g (lw_at lw_m13 158 rfl) rfl
theorem q3178 : (Jvm.Cond.code ({ cls := "SpectrumAccessModel", name := "denials", desc := "()I" } : Jvm.MethodName) prog_22_method_109_code (1 : Nat) (Option.some Jvm.ClassFile.FieldType.int)) ∈ lw_all := lw_g (lw_at lw_m13 159 rfl) rfl
theorem q3180 : (Jvm.Cond.instanceMethod ({ cls := "SpectrumAccessModel", name := "isDenied", desc := "(II)Z" } : Jvm.MethodName)) ∈ lw_all := lw_g (lw_at lw_m13 161 rfl) rfl
theorem q3181 : (Jvm.Cond.selects "SpectrumAccessModel" ({ cls := "SpectrumAccessModel", name := "isDenied", desc := "(II)Z" } : Jvm.MethodName) ({ cls := "SpectrumAccessModel", name := "isDenied", desc := "(II)Z" } : Jvm.MethodName)) ∈ lw_all := lw_g (lw_at lw_m13 162 rfl) rfl
theorem q3182 : (Jvm.Cond.code ({ cls := "SpectrumAccessModel", name := "isDenied", desc := "(II)Z" } : Jvm.MethodName) prog_22_method_110_code (3 : Nat) (Option.some Jvm.ClassFile.FieldType.boolean)) ∈ lw_all := lw_g (lw_at lw_m13 163 rfl) rfl
theorem q3183 : (Jvm.Cond.methodLink "SpectrumAccessModel" (415 : Nat) ({ cls := "SpectrumAccessModel", name := "deniesDevice", desc := "([III)Z" } : Jvm.MethodName)) ∈ lw_all := lw_g (lw_at lw_m13 164 rfl) rfl
theorem q3184 : (Jvm.Cond.privateMethod ({ cls := "SpectrumAccessModel", name := "deniesDevice", desc := "([III)Z" } : Jvm.MethodName)) ∈ lw_tbl := lw_at lw_m13 165 rfl
theorem q3185 : (Jvm.Cond.instanceMethod ({ cls := "SpectrumAccessModel", name := "deniesDevice", desc := "([III)Z" } : Jvm.MethodName)) ∈ lw_all := lw_g (lw_at lw_m13 166 rfl) rfl
theorem q3186 : (Jvm.Cond.code ({ cls := "SpectrumAccessModel", name := "deniesDevice", desc := "([III)Z" } : Jvm.MethodName) prog_22_method_42_code (4 : Nat) (Option.some Jvm.ClassFile.FieldType.boolean)) ∈ lw_all := lw_g (lw_at lw_m13 167 rfl) rfl
theorem q3187 : (Jvm.Cond.methodLink "SpectrumAccessModel" (263 : Nat) ({ cls := "SpectrumAccessModel", name := "denies", desc := "([IIIII)Z" } : Jvm.MethodName)) ∈ lw_all := lw_g (lw_at lw_m13 168 rfl) rfl
theorem q3188 : (Jvm.Cond.privateMethod ({ cls := "SpectrumAccessModel", name := "denies", desc := "([IIIII)Z" } : Jvm.MethodName)) ∈ lw_tbl := lw_at lw_m13 169 rfl
theorem q3189 : (Jvm.Cond.instanceMethod ({ cls := "SpectrumAccessModel", name := "denies", desc := "([IIIII)Z" } : Jvm.MethodName)) ∈ lw_all := lw_g (lw_at lw_m13 170 rfl) rfl
theorem q3190 : (Jvm.Cond.code ({ cls := "SpectrumAccessModel", name := "denies", desc := "([IIIII)Z" } : Jvm.MethodName) prog_22_method_41_code (7 : Nat) (Option.some Jvm.ClassFile.FieldType.boolean)) ∈ lw_all := lw_g (lw_at lw_m13 171 rfl) rfl
theorem q3191 : (Jvm.Cond.methodLink "SpectrumAccessModel" (254 : Nat) ({ cls := "SpectrumAccessModel", name := "holds", desc := "(I)Z" } : Jvm.MethodName)) ∈ lw_all := lw_g (lw_at lw_m13 172 rfl) rfl
theorem q3192 : (Jvm.Cond.privateMethod ({ cls := "SpectrumAccessModel", name := "holds", desc := "(I)Z" } : Jvm.MethodName)) ∈ lw_tbl := lw_at lw_m13 173 rfl
theorem q3193 : (Jvm.Cond.instanceMethod ({ cls := "SpectrumAccessModel", name := "holds", desc := "(I)Z" } : Jvm.MethodName)) ∈ lw_all := lw_g (lw_at lw_m13 174 rfl) rfl
theorem q3194 : (Jvm.Cond.code ({ cls := "SpectrumAccessModel", name := "holds", desc := "(I)Z" } : Jvm.MethodName) prog_22_method_39_code (4 : Nat) (Option.some Jvm.ClassFile.FieldType.boolean)) ∈ lw_all := lw_g (lw_at lw_m13 175 rfl) rfl
theorem q3195 : (Jvm.Cond.methodLink "SpectrumAccessModel" (251 : Nat) ({ cls := "SpectrumAccessModel", name := "holdsOne", desc := "(I)Z" } : Jvm.MethodName)) ∈ lw_all := lw_g (lw_at lw_m13 176 rfl) rfl
theorem q3196 : (Jvm.Cond.privateMethod ({ cls := "SpectrumAccessModel", name := "holdsOne", desc := "(I)Z" } : Jvm.MethodName)) ∈ lw_tbl := lw_at lw_m13 177 rfl
theorem q3197 : (Jvm.Cond.instanceMethod ({ cls := "SpectrumAccessModel", name := "holdsOne", desc := "(I)Z" } : Jvm.MethodName)) ∈ lw_all := lw_g (lw_at lw_m13 178 rfl) rfl
theorem q3198 : (Jvm.Cond.code ({ cls := "SpectrumAccessModel", name := "holdsOne", desc := "(I)Z" } : Jvm.MethodName) prog_22_method_40_code (2 : Nat) (Option.some Jvm.ClassFile.FieldType.boolean)) ∈ lw_all := lw_g (lw_at lw_m13 179 rfl) rfl
theorem q3199 : (Jvm.Cond.methodLink "SpectrumAccessModel" (257 : Nat) ({ cls := "SpectrumAccessModel", name := "asked", desc := "(I)I" } : Jvm.MethodName)) ∈ lw_all := lw_g (lw_at lw_m13 180 rfl) rfl
theorem q3200 : (Jvm.Cond.privateMethod ({ cls := "SpectrumAccessModel", name := "asked", desc := "(I)I" } : Jvm.MethodName)) ∈ lw_tbl := lw_at lw_m13 181 rfl
theorem q3201 : (Jvm.Cond.instanceMethod ({ cls := "SpectrumAccessModel", name := "asked", desc := "(I)I" } : Jvm.MethodName)) ∈ lw_all := lw_g (lw_at lw_m13 182 rfl) rfl
theorem q3202 : (Jvm.Cond.code ({ cls := "SpectrumAccessModel", name := "asked", desc := "(I)I" } : Jvm.MethodName) prog_22_method_38_code (2 : Nat) (Option.some Jvm.ClassFile.FieldType.int)) ∈ lw_all := lw_g (lw_at lw_m13 183 rfl) rfl
theorem q3204 : (Jvm.Cond.instanceMethod ({ cls := "SpectrumAccessModel", name := "quietest", desc := "(II)I" } : Jvm.MethodName)) ∈ lw_all := lw_g (lw_at lw_m13 185 rfl) rfl
theorem q3205 : (Jvm.Cond.selects "SpectrumAccessModel" ({ cls := "SpectrumAccessModel", name := "quietest", desc := "(II)I" } : Jvm.MethodName) ({ cls := "SpectrumAccessModel", name := "quietest", desc := "(II)I" } : Jvm.MethodName)) ∈ lw_all := lw_g (lw_at lw_m13 186 rfl) rfl
theorem q3206 : (Jvm.Cond.code ({ cls := "SpectrumAccessModel", name := "quietest", desc := "(II)I" } : Jvm.MethodName) prog_22_method_111_code (5 : Nat) (Option.some Jvm.ClassFile.FieldType.int)) ∈ lw_all := lw_g (lw_at lw_m13 187 rfl) rfl
theorem q3208 : (Jvm.Cond.instanceMethod ({ cls := "SpectrumAccessModel", name := "mostMoved", desc := "(I)I" } : Jvm.MethodName)) ∈ lw_all := lw_g (lw_at lw_m13 189 rfl) rfl
theorem q3209 : (Jvm.Cond.selects "SpectrumAccessModel" ({ cls := "SpectrumAccessModel", name := "mostMoved", desc := "(I)I" } : Jvm.MethodName) ({ cls := "SpectrumAccessModel", name := "mostMoved", desc := "(I)I" } : Jvm.MethodName)) ∈ lw_all := lw_g (lw_at lw_m13 190 rfl) rfl
theorem q3210 : (Jvm.Cond.code ({ cls := "SpectrumAccessModel", name := "mostMoved", desc := "(I)I" } : Jvm.MethodName) prog_22_method_113_code (5 : Nat) (Option.some Jvm.ClassFile.FieldType.int)) ∈ lw_all := lw_g (lw_at lw_m13 191 rfl) rfl
theorem q3211 : (Jvm.Cond.methodLink "SpectrumAccessModel" (483 : Nat) ({ cls := "SpectrumAccessModel", name := "isMovedMore", desc := "(II)Z" } : Jvm.MethodName)) ∈ lw_all := lw_g (lw_at lw_m13 192 rfl) rfl
theorem q3212 : (Jvm.Cond.privateMethod ({ cls := "SpectrumAccessModel", name := "isMovedMore", desc := "(II)Z" } : Jvm.MethodName)) ∈ lw_tbl := lw_at lw_m13 193 rfl
theorem q3213 : (Jvm.Cond.instanceMethod ({ cls := "SpectrumAccessModel", name := "isMovedMore", desc := "(II)Z" } : Jvm.MethodName)) ∈ lw_all := lw_g (lw_at lw_m13 194 rfl) rfl
theorem q3214 : (Jvm.Cond.code ({ cls := "SpectrumAccessModel", name := "isMovedMore", desc := "(II)Z" } : Jvm.MethodName) prog_22_method_112_code (3 : Nat) (Option.some Jvm.ClassFile.FieldType.boolean)) ∈ lw_all := lw_g (lw_at lw_m13 195 rfl) rfl
theorem q3216 : (Jvm.Cond.instanceMethod ({ cls := "SpectrumAccessModel", name := "report", desc := "()I" } : Jvm.MethodName)) ∈ lw_all := lw_g (lw_at lw_m13 197 rfl) rfl
theorem q3217 : (Jvm.Cond.selects "SpectrumAccessModel" ({ cls := "SpectrumAccessModel", name := "report", desc := "()I" } : Jvm.MethodName) ({ cls := "SpectrumAccessModel", name := "report", desc := "()I" } : Jvm.MethodName)) ∈ lw_all := lw_g (lw_at lw_m13 198 rfl) rfl
theorem q3218 : (Jvm.Cond.code ({ cls := "SpectrumAccessModel", name := "report", desc := "()I" } : Jvm.MethodName) prog_22_method_116_code (4 : Nat) (Option.some Jvm.ClassFile.FieldType.int)) ∈ lw_all := lw_g (lw_at lw_m13 199 rfl) rfl
theorem q3219 : (Jvm.Cond.methodLink "SpectrumAccessModel" (489 : Nat) ({ cls := "SpectrumAccessModel", name := "writes", desc := "(I)V" } : Jvm.MethodName)) ∈ lw_all := lw_g (lw_at lw_m13 200 rfl) rfl
theorem q3220 : (Jvm.Cond.privateMethod ({ cls := "SpectrumAccessModel", name := "writes", desc := "(I)V" } : Jvm.MethodName)) ∈ lw_tbl := lw_at lw_m13 201 rfl
theorem q3221 : (Jvm.Cond.instanceMethod ({ cls := "SpectrumAccessModel", name := "writes", desc := "(I)V" } : Jvm.MethodName)) ∈ lw_all := lw_g (lw_at lw_m13 202 rfl) rfl
theorem q3222 : (Jvm.Cond.code ({ cls := "SpectrumAccessModel", name := "writes", desc := "(I)V" } : Jvm.MethodName) prog_22_method_114_code (2 : Nat) (Option.none : Option Jvm.ClassFile.FieldType)) ∈ lw_all := lw_g (lw_at lw_m13 203 rfl) rfl
theorem q3223 : (Jvm.Cond.methodLink "SpectrumAccessModel" (492 : Nat) ({ cls := "SpectrumAccessModel", name := "writesNumber", desc := "(I)V" } : Jvm.MethodName)) ∈ lw_all := lw_g (lw_at lw_m13 204 rfl) rfl
theorem q3224 : (Jvm.Cond.privateMethod ({ cls := "SpectrumAccessModel", name := "writesNumber", desc := "(I)V" } : Jvm.MethodName)) ∈ lw_tbl := lw_at lw_m13 205 rfl
theorem q3225 : (Jvm.Cond.instanceMethod ({ cls := "SpectrumAccessModel", name := "writesNumber", desc := "(I)V" } : Jvm.MethodName)) ∈ lw_all := lw_g (lw_at lw_m13 206 rfl) rfl
theorem q3226 : (Jvm.Cond.code ({ cls := "SpectrumAccessModel", name := "writesNumber", desc := "(I)V" } : Jvm.MethodName) prog_22_method_115_code (3 : Nat) (Option.none : Option Jvm.ClassFile.FieldType)) ∈ lw_all := lw_g (lw_at lw_m13 207 rfl) rfl
theorem q3228 : (Jvm.Cond.instanceMethod ({ cls := "SpectrumAccessModel", name := "reportByte", desc := "(I)I" } : Jvm.MethodName)) ∈ lw_all := lw_g (lw_at lw_m13 209 rfl) rfl
theorem q3229 : (Jvm.Cond.selects "SpectrumAccessModel" ({ cls := "SpectrumAccessModel", name := "reportByte", desc := "(I)I" } : Jvm.MethodName) ({ cls := "SpectrumAccessModel", name := "reportByte", desc := "(I)I" } : Jvm.MethodName)) ∈ lw_all := lw_g (lw_at lw_m13 210 rfl) rfl
theorem q3230 : (Jvm.Cond.code ({ cls := "SpectrumAccessModel", name := "reportByte", desc := "(I)I" } : Jvm.MethodName) prog_22_method_117_code (2 : Nat) (Option.some Jvm.ClassFile.FieldType.int)) ∈ lw_all := lw_g (lw_at lw_m13 211 rfl) rfl
theorem q3232 : (Jvm.Cond.instanceMethod ({ cls := "SpectrumAccessModel", name := "offeredChannel", desc := "(I)I" } : Jvm.MethodName)) ∈ lw_all := lw_g (lw_at lw_m13 213 rfl) rfl
theorem q3233 : (Jvm.Cond.selects "SpectrumAccessModel" ({ cls := "SpectrumAccessModel", name := "offeredChannel", desc := "(I)I" } : Jvm.MethodName) ({ cls := "SpectrumAccessModel", name := "offeredChannel", desc := "(I)I" } : Jvm.MethodName)) ∈ lw_all := lw_g (lw_at lw_m13 214 rfl) rfl
theorem q3234 : (Jvm.Cond.code ({ cls := "SpectrumAccessModel", name := "offeredChannel", desc := "(I)I" } : Jvm.MethodName) prog_22_method_120_code (2 : Nat) (Option.some Jvm.ClassFile.FieldType.int)) ∈ lw_all := lw_g (lw_at lw_m13 215 rfl) rfl
theorem q3235 : (Jvm.Cond.methodLink "SpectrumAccessModel" (498 : Nat) ({ cls := "SpectrumAccessModel", name := "offersTo", desc := "(I)Z" } : Jvm.MethodName)) ∈ lw_all := lw_g (lw_at lw_m13 216 rfl) rfl
theorem q3236 : (Jvm.Cond.privateMethod ({ cls := "SpectrumAccessModel", name := "offersTo", desc := "(I)Z" } : Jvm.MethodName)) ∈ lw_tbl := lw_at lw_m13 217 rfl
theorem q3237 : (Jvm.Cond.instanceMethod ({ cls := "SpectrumAccessModel", name := "offersTo", desc := "(I)Z" } : Jvm.MethodName)) ∈ lw_all := lw_g (lw_at lw_m13 218 rfl) rfl
theorem q3238 : (Jvm.Cond.code ({ cls := "SpectrumAccessModel", name := "offersTo", desc := "(I)Z" } : Jvm.MethodName) prog_22_method_119_code (2 : Nat) (Option.some Jvm.ClassFile.FieldType.boolean)) ∈ lw_all := lw_g (lw_at lw_m13 219 rfl) rfl
theorem q3239 : (Jvm.Cond.methodLink "SpectrumAccessModel" (495 : Nat) ({ cls := "SpectrumAccessModel", name := "tries", desc := "()V" } : Jvm.MethodName)) ∈ lw_all := lw_g (lw_at lw_m13 220 rfl) rfl
theorem q3240 : (Jvm.Cond.privateMethod ({ cls := "SpectrumAccessModel", name := "tries", desc := "()V" } : Jvm.MethodName)) ∈ lw_tbl := lw_at lw_m13 221 rfl
theorem q3241 : (Jvm.Cond.instanceMethod ({ cls := "SpectrumAccessModel", name := "tries", desc := "()V" } : Jvm.MethodName)) ∈ lw_all := lw_g (lw_at lw_m13 222 rfl) rfl
theorem q3242 : (Jvm.Cond.code ({ cls := "SpectrumAccessModel", name := "tries", desc := "()V" } : Jvm.MethodName) prog_22_method_118_code (1 : Nat) (Option.none : Option Jvm.ClassFile.FieldType)) ∈ lw_all := lw_g (lw_at lw_m13 223 rfl) rfl
theorem q3243 : (Jvm.Cond.methodLink "SpectrumAccessModel" (406 : Nat) ({ cls := "SpectrumAccessModel", name := "becomes", desc := "([III)V" } : Jvm.MethodName)) ∈ lw_all := lw_g (lw_at lw_m13 224 rfl) rfl
theorem q3244 : (Jvm.Cond.static ({ cls := "SpectrumAccessModel", name := "becomes", desc := "([III)V" } : Jvm.MethodName)) ∈ lw_all := lw_g (lw_at lw_m13 225 rfl) rfl
theorem q3245 : (Jvm.Cond.code ({ cls := "SpectrumAccessModel", name := "becomes", desc := "([III)V" } : Jvm.MethodName) prog_22_method_68_code (3 : Nat) (Option.none : Option Jvm.ClassFile.FieldType)) ∈ lw_all := lw_g (lw_at lw_m13 226 rfl) rfl
theorem q3246 : (Jvm.Cond.methodLink "SpectrumAccessModel" (436 : Nat) ({ cls := "SpectrumAccessModel", name := "offers", desc := "([II)V" } : Jvm.MethodName)) ∈ lw_all := lw_g (lw_at lw_m13 227 rfl) rfl
theorem q3247 : (Jvm.Cond.privateMethod ({ cls := "SpectrumAccessModel", name := "offers", desc := "([II)V" } : Jvm.MethodName)) ∈ lw_tbl := lw_at lw_m13 228 rfl
theorem q3248 : (Jvm.Cond.instanceMethod ({ cls := "SpectrumAccessModel", name := "offers", desc := "([II)V" } : Jvm.MethodName)) ∈ lw_all := lw_g (lw_at lw_m13 229 rfl) rfl
theorem q3249 : (Jvm.Cond.code ({ cls := "SpectrumAccessModel", name := "offers", desc := "([II)V" } : Jvm.MethodName) prog_22_method_66_code (5 : Nat) (Option.none : Option Jvm.ClassFile.FieldType)) ∈ lw_all := lw_g (lw_at lw_m13 230 rfl) rfl
theorem q3250 : (Jvm.Cond.methodLink "SpectrumAccessModel" (394 : Nat) ({ cls := "SpectrumAccessModel", name := "laysRooms", desc := "([II)V" } : Jvm.MethodName)) ∈ lw_all := lw_g (lw_at lw_m13 231 rfl) rfl
theorem q3251 : (Jvm.Cond.privateMethod ({ cls := "SpectrumAccessModel", name := "laysRooms", desc := "([II)V" } : Jvm.MethodName)) ∈ lw_tbl := lw_at lw_m13 232 rfl
theorem q3252 : (Jvm.Cond.instanceMethod ({ cls := "SpectrumAccessModel", name := "laysRooms", desc := "([II)V" } : Jvm.MethodName)) ∈ lw_all := lw_g (lw_at lw_m13 233 rfl) rfl
theorem q3253 : (Jvm.Cond.code ({ cls := "SpectrumAccessModel", name := "laysRooms", desc := "([II)V" } : Jvm.MethodName) prog_22_method_61_code (6 : Nat) (Option.none : Option Jvm.ClassFile.FieldType)) ∈ lw_all := lw_g (lw_at lw_m13 234 rfl) rfl
theorem q3254 : (Jvm.Cond.methodLink "SpectrumAccessModel" (357 : Nat) ({ cls := "SpectrumAccessModel", name := "takesRoom", desc := "([IIII)V" } : Jvm.MethodName)) ∈ lw_all := lw_g (lw_at lw_m13 235 rfl) rfl
theorem q3255 : (Jvm.Cond.privateMethod ({ cls := "SpectrumAccessModel", name := "takesRoom", desc := "([IIII)V" } : Jvm.MethodName)) ∈ lw_tbl := lw_at lw_m13 236 rfl
theorem q3256 : (Jvm.Cond.instanceMethod ({ cls := "SpectrumAccessModel", name := "takesRoom", desc := "([IIII)V" } : Jvm.MethodName)) ∈ lw_all := lw_g (lw_at lw_m13 237 rfl) rfl
theorem q3257 : (Jvm.Cond.code ({ cls := "SpectrumAccessModel", name := "takesRoom", desc := "([IIII)V" } : Jvm.MethodName) prog_22_method_58_code (8 : Nat) (Option.none : Option Jvm.ClassFile.FieldType)) ∈ lw_all := lw_g (lw_at lw_m13 238 rfl) rfl
theorem q3258 : (Jvm.Cond.methodLink "SpectrumAccessModel" (349 : Nat) ({ cls := "java/lang/Math", name := "min", desc := "(II)I" } : Jvm.MethodName)) ∈ lw_all := lw_g (lw_at lw_m13 239 rfl) rfl
theorem q3259 : (Jvm.Cond.methodLink "SpectrumAccessModel" (398 : Nat) ({ cls := "SpectrumAccessModel", name := "devicePower", desc := "([III)I" } : Jvm.MethodName)) ∈ lw_all := lw_g (lw_at lw_m14 0 rfl) rfl
theorem q3260 : (Jvm.Cond.privateMethod ({ cls := "SpectrumAccessModel", name := "devicePower", desc := "([III)I" } : Jvm.MethodName)) ∈ lw_tbl := lw_at lw_m14 1 rfl
theorem q3261 : (Jvm.Cond.instanceMethod ({ cls := "SpectrumAccessModel", name := "devicePower", desc := "([III)I" } : Jvm.MethodName)) ∈ lw_all := lw_g (lw_at lw_m14 2 rfl) rfl
theorem q3262 : (Jvm.Cond.code ({ cls := "SpectrumAccessModel", name := "devicePower", desc := "([III)I" } : Jvm.MethodName) prog_22_method_65_code (8 : Nat) (Option.some Jvm.ClassFile.FieldType.int)) ∈ lw_all := lw_g (lw_at lw_m14 3 rfl) rfl
theorem q3263 : (Jvm.Cond.methodLink "SpectrumAccessModel" (385 : Nat) ({ cls := "SpectrumAccessModel", name := "generalPower", desc := "([IIIII)I" } : Jvm.MethodName)) ∈ lw_all := lw_g (lw_at lw_m14 4 rfl) rfl
theorem q3264 : (Jvm.Cond.privateMethod ({ cls := "SpectrumAccessModel", name := "generalPower", desc := "([IIIII)I" } : Jvm.MethodName)) ∈ lw_tbl := lw_at lw_m14 5 rfl
theorem q3265 : (Jvm.Cond.instanceMethod ({ cls := "SpectrumAccessModel", name := "generalPower", desc := "([IIIII)I" } : Jvm.MethodName)) ∈ lw_all := lw_g (lw_at lw_m14 6 rfl) rfl
theorem q3266 : (Jvm.Cond.code ({ cls := "SpectrumAccessModel", name := "generalPower", desc := "([IIIII)I" } : Jvm.MethodName) prog_22_method_64_code (6 : Nat) (Option.some Jvm.ClassFile.FieldType.int)) ∈ lw_all := lw_g (lw_at lw_m14 7 rfl) rfl
theorem q3267 : (Jvm.Cond.methodLink "SpectrumAccessModel" (379 : Nat) ({ cls := "SpectrumAccessModel", name := "byIncumbents", desc := "([IIII)I" } : Jvm.MethodName)) ∈ lw_all := lw_g (lw_at lw_m14 8 rfl) rfl
theorem q3268 : (Jvm.Cond.privateMethod ({ cls := "SpectrumAccessModel", name := "byIncumbents", desc := "([IIII)I" } : Jvm.MethodName)) ∈ lw_tbl := lw_at lw_m14 9 rfl
theorem q3269 : (Jvm.Cond.instanceMethod ({ cls := "SpectrumAccessModel", name := "byIncumbents", desc := "([IIII)I" } : Jvm.MethodName)) ∈ lw_all := lw_g (lw_at lw_m14 10 rfl) rfl
theorem q3270 : (Jvm.Cond.code ({ cls := "SpectrumAccessModel", name := "byIncumbents", desc := "([IIII)I" } : Jvm.MethodName) prog_22_method_62_code (10 : Nat) (Option.some Jvm.ClassFile.FieldType.int)) ∈ lw_all := lw_g (lw_at lw_m14 11 rfl) rfl
theorem q3271 : (Jvm.Cond.methodLink "SpectrumAccessModel" (376 : Nat) ({ cls := "SpectrumAccessModel", name := "allowedBy", desc := "(IIII)I" } : Jvm.MethodName)) ∈ lw_all := lw_g (lw_at lw_m14 12 rfl) rfl
theorem q3272 : (Jvm.Cond.privateMethod ({ cls := "SpectrumAccessModel", name := "allowedBy", desc := "(IIII)I" } : Jvm.MethodName)) ∈ lw_tbl := lw_at lw_m14 13 rfl
theorem q3273 : (Jvm.Cond.instanceMethod ({ cls := "SpectrumAccessModel", name := "allowedBy", desc := "(IIII)I" } : Jvm.MethodName)) ∈ lw_all := lw_g (lw_at lw_m14 14 rfl) rfl
theorem q3274 : (Jvm.Cond.code ({ cls := "SpectrumAccessModel", name := "allowedBy", desc := "(IIII)I" } : Jvm.MethodName) prog_22_method_57_code (6 : Nat) (Option.some Jvm.ClassFile.FieldType.int)) ∈ lw_all := lw_g (lw_at lw_m14 15 rfl) rfl
theorem q3275 : (Jvm.Cond.methodLink "SpectrumAccessModel" (345 : Nat) ({ cls := "SpectrumAccessModel", name := "powerFor", desc := "(IIZ)I" } : Jvm.MethodName)) ∈ lw_all := lw_g (lw_at lw_m14 16 rfl) rfl
theorem q3276 : (Jvm.Cond.privateMethod ({ cls := "SpectrumAccessModel", name := "powerFor", desc := "(IIZ)I" } : Jvm.MethodName)) ∈ lw_tbl := lw_at lw_m14 17 rfl
theorem q3277 : (Jvm.Cond.instanceMethod ({ cls := "SpectrumAccessModel", name := "powerFor", desc := "(IIZ)I" } : Jvm.MethodName)) ∈ lw_all := lw_g (lw_at lw_m14 18 rfl) rfl
theorem q3278 : (Jvm.Cond.code ({ cls := "SpectrumAccessModel", name := "powerFor", desc := "(IIZ)I" } : Jvm.MethodName) prog_22_method_56_code (6 : Nat) (Option.some Jvm.ClassFile.FieldType.int)) ∈ lw_all := lw_g (lw_at lw_m14 19 rfl) rfl
theorem q3279 : (Jvm.Cond.constantLong "SpectrumAccessModel" (337 : Nat) (999 : Int64)) ∈ lw_all := lw_g (lw_at lw_m14 20 rfl) rfl
theorem q3280 : (Jvm.Cond.constantLong "SpectrumAccessModel" (339 : Nat) (1000 : Int64)) ∈ lw_all := lw_g (lw_at lw_m14 21 rfl) rfl
theorem q3281 : (Jvm.Cond.methodLink "SpectrumAccessModel" (341 : Nat) ({ cls := "java/lang/Math", name := "min", desc := "(JJ)J" } : Jvm.MethodName)) ∈ lw_all := lw_g (lw_at lw_m14 22 rfl) rfl
theorem q3282 : (Jvm.Cond.methodLink "SpectrumAccessModel" (382 : Nat) ({ cls := "SpectrumAccessModel", name := "byLicensed", desc := "([IIII)I" } : Jvm.MethodName)) ∈ lw_all := lw_g (lw_at lw_m14 23 rfl) rfl
theorem q3283 : (Jvm.Cond.privateMethod ({ cls := "SpectrumAccessModel", name := "byLicensed", desc := "([IIII)I" } : Jvm.MethodName)) ∈ lw_tbl := lw_at lw_m14 24 rfl
theorem q3284 : (Jvm.Cond.instanceMethod ({ cls := "SpectrumAccessModel", name := "byLicensed", desc := "([IIII)I" } : Jvm.MethodName)) ∈ lw_all := lw_g (lw_at lw_m14 25 rfl) rfl
theorem q3285 : (Jvm.Cond.code ({ cls := "SpectrumAccessModel", name := "byLicensed", desc := "([IIII)I" } : Jvm.MethodName) prog_22_method_63_code (8 : Nat) (Option.some Jvm.ClassFile.FieldType.int)) ∈ lw_all := lw_g (lw_at lw_m14 26 rfl) rfl
theorem q3287 : (Jvm.Cond.instanceMethod ({ cls := "SpectrumAccessModel", name := "offeredPower", desc := "(I)I" } : Jvm.MethodName)) ∈ lw_all := lw_g (lw_at lw_m14 28 rfl) rfl
theorem q3288 : (Jvm.Cond.selects "SpectrumAccessModel" ({ cls := "SpectrumAccessModel", name := "offeredPower", desc := "(I)I" } : Jvm.MethodName) ({ cls := "SpectrumAccessModel", name := "offeredPower", desc := "(I)I" } : Jvm.MethodName)) ∈ lw_all := lw_g (lw_at lw_m14 29 rfl) rfl
theorem q3289 : (Jvm.Cond.code ({ cls := "SpectrumAccessModel", name := "offeredPower", desc := "(I)I" } : Jvm.MethodName) prog_22_method_121_code (2 : Nat) (Option.some Jvm.ClassFile.FieldType.int)) ∈ lw_all := lw_g (lw_at lw_m14 30 rfl) rfl
theorem q3291 : (Jvm.Cond.instanceMethod ({ cls := "SpectrumAccessModel", name := "allowedPower", desc := "(III)I" } : Jvm.MethodName)) ∈ lw_all := lw_g (lw_at lw_m14 32 rfl) rfl
theorem q3292 : (Jvm.Cond.selects "SpectrumAccessModel" ({ cls := "SpectrumAccessModel", name := "allowedPower", desc := "(III)I" } : Jvm.MethodName) ({ cls := "SpectrumAccessModel", name := "allowedPower", desc := "(III)I" } : Jvm.MethodName)) ∈ lw_all := lw_g (lw_at lw_m14 33 rfl) rfl
theorem q3293 : (Jvm.Cond.code ({ cls := "SpectrumAccessModel", name := "allowedPower", desc := "(III)I" } : Jvm.MethodName) prog_22_method_122_code (4 : Nat) (Option.some Jvm.ClassFile.FieldType.int)) ∈ lw_all := lw_g (lw_at lw_m14 34 rfl) rfl
theorem q3295 : (Jvm.Cond.instanceMethod ({ cls := "SpectrumAccessModel", name := "bestSite", desc := "(I)I" } : Jvm.MethodName)) ∈ lw_all := lw_g (lw_at lw_m14 36 rfl) rfl
theorem q3296 : (Jvm.Cond.selects "SpectrumAccessModel" ({ cls := "SpectrumAccessModel", name := "bestSite", desc := "(I)I" } : Jvm.MethodName) ({ cls := "SpectrumAccessModel", name := "bestSite", desc := "(I)I" } : Jvm.MethodName)) ∈ lw_all := lw_g (lw_at lw_m14 37 rfl) rfl
theorem q3297 : (Jvm.Cond.code ({ cls := "SpectrumAccessModel", name := "bestSite", desc := "(I)I" } : Jvm.MethodName) prog_22_method_123_code (8 : Nat) (Option.some Jvm.ClassFile.FieldType.int)) ∈ lw_all := lw_g (lw_at lw_m14 38 rfl) rfl
theorem q3299 : (Jvm.Cond.instanceMethod ({ cls := "SpectrumAccessModel", name := "waiting", desc := "()I" } : Jvm.MethodName)) ∈ lw_all := lw_g (lw_at lw_m14 40 rfl) rfl
theorem q3300 : (Jvm.Cond.selects "SpectrumAccessModel" ({ cls := "SpectrumAccessModel", name := "waiting", desc := "()I" } : Jvm.MethodName) ({ cls := "SpectrumAccessModel", name := "waiting", desc := "()I" } : Jvm.MethodName)) ∈ lw_all := lw_g (lw_at lw_m14 41 rfl) rfl
theorem q3301 : (Jvm.Cond.code ({ cls := "SpectrumAccessModel", name := "waiting", desc := "()I" } : Jvm.MethodName) prog_22_method_124_code (3 : Nat) (Option.some Jvm.ClassFile.FieldType.int)) ∈ lw_all := lw_g (lw_at lw_m14 42 rfl) rfl
theorem q3303 : (Jvm.Cond.instanceMethod ({ cls := "SpectrumAccessModel", name := "queueAt", desc := "(I)I" } : Jvm.MethodName)) ∈ lw_all := lw_g (lw_at lw_m14 44 rfl) rfl
theorem q3304 : (Jvm.Cond.selects "SpectrumAccessModel" ({ cls := "SpectrumAccessModel", name := "queueAt", desc := "(I)I" } : Jvm.MethodName) ({ cls := "SpectrumAccessModel", name := "queueAt", desc := "(I)I" } : Jvm.MethodName)) ∈ lw_all := lw_g (lw_at lw_m14 45 rfl) rfl
theorem q3305 : (Jvm.Cond.code ({ cls := "SpectrumAccessModel", name := "queueAt", desc := "(I)I" } : Jvm.MethodName) prog_22_method_125_code (3 : Nat) (Option.some Jvm.ClassFile.FieldType.int)) ∈ lw_all := lw_g (lw_at lw_m14 46 rfl) rfl
theorem q3306 : (Jvm.Cond.methodLink "SpectrumAccessModel" (428 : Nat) ({ cls := "SpectrumAccessModel", name := "placeOf", desc := "([II)I" } : Jvm.MethodName)) ∈ lw_all := lw_g (lw_at lw_m14 47 rfl) rfl
theorem q3307 : (Jvm.Cond.privateMethod ({ cls := "SpectrumAccessModel", name := "placeOf", desc := "([II)I" } : Jvm.MethodName)) ∈ lw_tbl := lw_at lw_m14 48 rfl
theorem q3308 : (Jvm.Cond.instanceMethod ({ cls := "SpectrumAccessModel", name := "placeOf", desc := "([II)I" } : Jvm.MethodName)) ∈ lw_all := lw_g (lw_at lw_m14 49 rfl) rfl
theorem q3309 : (Jvm.Cond.code ({ cls := "SpectrumAccessModel", name := "placeOf", desc := "([II)I" } : Jvm.MethodName) prog_22_method_76_code (5 : Nat) (Option.some Jvm.ClassFile.FieldType.int)) ∈ lw_all := lw_g (lw_at lw_m14 50 rfl) rfl
theorem q3310 : (Jvm.Cond.methodLink "SpectrumAccessModel" (425 : Nat) ({ cls := "SpectrumAccessModel", name := "isAhead", desc := "([III)Z" } : Jvm.MethodName)) ∈ lw_all := lw_g (lw_at lw_m14 51 rfl) rfl
theorem q3311 : (Jvm.Cond.privateMethod ({ cls := "SpectrumAccessModel", name := "isAhead", desc := "([III)Z" } : Jvm.MethodName)) ∈ lw_tbl := lw_at lw_m14 52 rfl
theorem q3312 : (Jvm.Cond.instanceMethod ({ cls := "SpectrumAccessModel", name := "isAhead", desc := "([III)Z" } : Jvm.MethodName)) ∈ lw_all := lw_g (lw_at lw_m14 53 rfl) rfl
theorem q3313 : (Jvm.Cond.code ({ cls := "SpectrumAccessModel", name := "isAhead", desc := "([III)Z" } : Jvm.MethodName) prog_22_method_75_code (4 : Nat) (Option.some Jvm.ClassFile.FieldType.boolean)) ∈ lw_all := lw_g (lw_at lw_m14 54 rfl) rfl
theorem q3315 : (Jvm.Cond.instanceMethod ({ cls := "SpectrumAccessModel", name := "transmitting", desc := "(I)I" } : Jvm.MethodName)) ∈ lw_all := lw_g (lw_at lw_m14 56 rfl) rfl
theorem q3316 : (Jvm.Cond.selects "SpectrumAccessModel" ({ cls := "SpectrumAccessModel", name := "transmitting", desc := "(I)I" } : Jvm.MethodName) ({ cls := "SpectrumAccessModel", name := "transmitting", desc := "(I)I" } : Jvm.MethodName)) ∈ lw_all := lw_g (lw_at lw_m14 57 rfl) rfl
theorem q3317 : (Jvm.Cond.code ({ cls := "SpectrumAccessModel", name := "transmitting", desc := "(I)I" } : Jvm.MethodName) prog_22_method_126_code (4 : Nat) (Option.some Jvm.ClassFile.FieldType.int)) ∈ lw_all := lw_g (lw_at lw_m14 58 rfl) rfl
theorem q3319 : (Jvm.Cond.instanceMethod ({ cls := "SpectrumAccessModel", name := "moves", desc := "()I" } : Jvm.MethodName)) ∈ lw_all := lw_g (lw_at lw_m14 60 rfl) rfl
theorem q3320 : (Jvm.Cond.selects "SpectrumAccessModel" ({ cls := "SpectrumAccessModel", name := "moves", desc := "()I" } : Jvm.MethodName) ({ cls := "SpectrumAccessModel", name := "moves", desc := "()I" } : Jvm.MethodName)) ∈ lw_all := lw_g (lw_at lw_m14 61 rfl) rfl
theorem q3321 : (Jvm.Cond.code ({ cls := "SpectrumAccessModel", name := "moves", desc := "()I" } : Jvm.MethodName) prog_22_method_127_code (1 : Nat) (Option.some Jvm.ClassFile.FieldType.int)) ∈ lw_all := lw_g (lw_at lw_m14 62 rfl) rfl
theorem q3323 : (Jvm.Cond.instanceMethod ({ cls := "SpectrumAccessModel", name := "leaseEnds", desc := "()I" } : Jvm.MethodName)) ∈ lw_all := lw_g (lw_at lw_m14 64 rfl) rfl
theorem q3324 : (Jvm.Cond.selects "SpectrumAccessModel" ({ cls := "SpectrumAccessModel", name := "leaseEnds", desc := "()I" } : Jvm.MethodName) ({ cls := "SpectrumAccessModel", name := "leaseEnds", desc := "()I" } : Jvm.MethodName)) ∈ lw_all := lw_g (lw_at lw_m14 65 rfl) rfl
theorem q3325 : (Jvm.Cond.code ({ cls := "SpectrumAccessModel", name := "leaseEnds", desc := "()I" } : Jvm.MethodName) prog_22_method_128_code (1 : Nat) (Option.some Jvm.ClassFile.FieldType.int)) ∈ lw_all := lw_g (lw_at lw_m14 66 rfl) rfl
theorem q3327 : (Jvm.Cond.instanceMethod ({ cls := "SpectrumAccessModel", name := "events", desc := "()I" } : Jvm.MethodName)) ∈ lw_all := lw_g (lw_at lw_m14 68 rfl) rfl
theorem q3328 : (Jvm.Cond.selects "SpectrumAccessModel" ({ cls := "SpectrumAccessModel", name := "events", desc := "()I" } : Jvm.MethodName) ({ cls := "SpectrumAccessModel", name := "events", desc := "()I" } : Jvm.MethodName)) ∈ lw_all := lw_g (lw_at lw_m14 69 rfl) rfl
theorem q3329 : (Jvm.Cond.code ({ cls := "SpectrumAccessModel", name := "events", desc := "()I" } : Jvm.MethodName) prog_22_method_129_code (1 : Nat) (Option.some Jvm.ClassFile.FieldType.int)) ∈ lw_all := lw_g (lw_at lw_m14 70 rfl) rfl
theorem q3331 : (Jvm.Cond.instanceMethod ({ cls := "SpectrumAccessModel", name := "event", desc := "(II)I" } : Jvm.MethodName)) ∈ lw_all := lw_g (lw_at lw_m14 72 rfl) rfl
theorem q3332 : (Jvm.Cond.selects "SpectrumAccessModel" ({ cls := "SpectrumAccessModel", name := "event", desc := "(II)I" } : Jvm.MethodName) ({ cls := "SpectrumAccessModel", name := "event", desc := "(II)I" } : Jvm.MethodName)) ∈ lw_all := lw_g (lw_at lw_m14 73 rfl) rfl
theorem q3333 : (Jvm.Cond.code ({ cls := "SpectrumAccessModel", name := "event", desc := "(II)I" } : Jvm.MethodName) prog_22_method_130_code (3 : Nat) (Option.some Jvm.ClassFile.FieldType.int)) ∈ lw_all := lw_g (lw_at lw_m14 74 rfl) rfl
theorem q3335 : (Jvm.Cond.instanceMethod ({ cls := "SpectrumAccessModel", name := "movesIn", desc := "(I)I" } : Jvm.MethodName)) ∈ lw_all := lw_g (lw_at lw_m14 76 rfl) rfl
theorem q3336 : (Jvm.Cond.selects "SpectrumAccessModel" ({ cls := "SpectrumAccessModel", name := "movesIn", desc := "(I)I" } : Jvm.MethodName) ({ cls := "SpectrumAccessModel", name := "movesIn", desc := "(I)I" } : Jvm.MethodName)) ∈ lw_all := lw_g (lw_at lw_m14 77 rfl) rfl
theorem q3337 : (Jvm.Cond.code ({ cls := "SpectrumAccessModel", name := "movesIn", desc := "(I)I" } : Jvm.MethodName) prog_22_method_133_code (2 : Nat) (Option.some Jvm.ClassFile.FieldType.int)) ∈ lw_all := lw_g (lw_at lw_m14 78 rfl) rfl
theorem q3338 : (Jvm.Cond.methodLink "SpectrumAccessModel" (504 : Nat) ({ cls := "SpectrumAccessModel", name := "areTicks", desc := "(I)Z" } : Jvm.MethodName)) ∈ lw_all := lw_g (lw_at lw_m14 79 rfl) rfl
theorem q3339 : (Jvm.Cond.privateMethod ({ cls := "SpectrumAccessModel", name := "areTicks", desc := "(I)Z" } : Jvm.MethodName)) ∈ lw_tbl := lw_at lw_m14 80 rfl
theorem q3340 : (Jvm.Cond.instanceMethod ({ cls := "SpectrumAccessModel", name := "areTicks", desc := "(I)Z" } : Jvm.MethodName)) ∈ lw_all := lw_g (lw_at lw_m14 81 rfl) rfl
theorem q3341 : (Jvm.Cond.code ({ cls := "SpectrumAccessModel", name := "areTicks", desc := "(I)Z" } : Jvm.MethodName) prog_22_method_131_code (2 : Nat) (Option.some Jvm.ClassFile.FieldType.boolean)) ∈ lw_all := lw_g (lw_at lw_m14 82 rfl) rfl
theorem q3342 : (Jvm.Cond.methodLink "SpectrumAccessModel" (507 : Nat) ({ cls := "SpectrumAccessModel", name := "grows", desc := "(II)I" } : Jvm.MethodName)) ∈ lw_all := lw_g (lw_at lw_m14 83 rfl) rfl
theorem q3343 : (Jvm.Cond.privateMethod ({ cls := "SpectrumAccessModel", name := "grows", desc := "(II)I" } : Jvm.MethodName)) ∈ lw_tbl := lw_at lw_m14 84 rfl
theorem q3344 : (Jvm.Cond.instanceMethod ({ cls := "SpectrumAccessModel", name := "grows", desc := "(II)I" } : Jvm.MethodName)) ∈ lw_all := lw_g (lw_at lw_m14 85 rfl) rfl
theorem q3345 : (Jvm.Cond.code ({ cls := "SpectrumAccessModel", name := "grows", desc := "(II)I" } : Jvm.MethodName) prog_22_method_132_code (3 : Nat) (Option.some Jvm.ClassFile.FieldType.int)) ∈ lw_all := lw_g (lw_at lw_m14 86 rfl) rfl
theorem q3346 : (Jvm.Cond.methodLink "SpectrumAccessModel" (501 : Nat) ({ cls := "SpectrumAccessModel", name := "ticks", desc := "([II)V" } : Jvm.MethodName)) ∈ lw_all := lw_g (lw_at lw_m14 87 rfl) rfl
theorem q3347 : (Jvm.Cond.privateMethod ({ cls := "SpectrumAccessModel", name := "ticks", desc := "([II)V" } : Jvm.MethodName)) ∈ lw_tbl := lw_at lw_m14 88 rfl
theorem q3348 : (Jvm.Cond.instanceMethod ({ cls := "SpectrumAccessModel", name := "ticks", desc := "([II)V" } : Jvm.MethodName)) ∈ lw_all := lw_g (lw_at lw_m14 89 rfl) rfl
theorem q3349 : (Jvm.Cond.code ({ cls := "SpectrumAccessModel", name := "ticks", desc := "([II)V" } : Jvm.MethodName) prog_22_method_79_code (4 : Nat) (Option.none : Option Jvm.ClassFile.FieldType)) ∈ lw_all := lw_g (lw_at lw_m14 90 rfl) rfl
theorem q3350 : (Jvm.Cond.methodLink "SpectrumAccessModel" (452 : Nat) ({ cls := "SpectrumAccessModel", name := "tick", desc := "([I)V" } : Jvm.MethodName)) ∈ lw_all := lw_g (lw_at lw_m14 91 rfl) rfl
theorem q3351 : (Jvm.Cond.privateMethod ({ cls := "SpectrumAccessModel", name := "tick", desc := "([I)V" } : Jvm.MethodName)) ∈ lw_tbl := lw_at lw_m14 92 rfl
theorem q3352 : (Jvm.Cond.instanceMethod ({ cls := "SpectrumAccessModel", name := "tick", desc := "([I)V" } : Jvm.MethodName)) ∈ lw_all := lw_g (lw_at lw_m14 93 rfl) rfl
theorem q3353 : (Jvm.Cond.code ({ cls := "SpectrumAccessModel", name := "tick", desc := "([I)V" } : Jvm.MethodName) prog_22_method_78_code (3 : Nat) (Option.none : Option Jvm.ClassFile.FieldType)) ∈ lw_all := lw_g (lw_at lw_m14 94 rfl) rfl
theorem q3354 : (Jvm.Cond.methodLink "SpectrumAccessModel" (446 : Nat) ({ cls := "SpectrumAccessModel", name := "endsLease", desc := "([II)V" } : Jvm.MethodName)) ∈ lw_all := lw_g (lw_at lw_m14 95 rfl) rfl
theorem q3355 : (Jvm.Cond.privateMethod ({ cls := "SpectrumAccessModel", name := "endsLease", desc := "([II)V" } : Jvm.MethodName)) ∈ lw_tbl := lw_at lw_m14 96 rfl
theorem q3356 : (Jvm.Cond.instanceMethod ({ cls := "SpectrumAccessModel", name := "endsLease", desc := "([II)V" } : Jvm.MethodName)) ∈ lw_all := lw_g (lw_at lw_m14 97 rfl) rfl
theorem q3357 : (Jvm.Cond.code ({ cls := "SpectrumAccessModel", name := "endsLease", desc := "([II)V" } : Jvm.MethodName) prog_22_method_69_code (3 : Nat) (Option.none : Option Jvm.ClassFile.FieldType)) ∈ lw_all := lw_g (lw_at lw_m14 98 rfl) rfl
theorem q3358 : (Jvm.Cond.methodLink "SpectrumAccessModel" (402 : Nat) ({ cls := "SpectrumAccessModel", name := "keeps", desc := "([III)V" } : Jvm.MethodName)) ∈ lw_all := lw_g (lw_at lw_m14 99 rfl) rfl
theorem q3359 : (Jvm.Cond.static ({ cls := "SpectrumAccessModel", name := "keeps", desc := "([III)V" } : Jvm.MethodName)) ∈ lw_all := lw_g (lw_at lw_m14 100 rfl) rfl
theorem q3360 : (Jvm.Cond.code ({ cls := "SpectrumAccessModel", name := "keeps", desc := "([III)V" } : Jvm.MethodName) prog_22_method_67_code (4 : Nat) (Option.none : Option Jvm.ClassFile.FieldType)) ∈ lw_all := lw_g (lw_at lw_m14 101 rfl) rfl
theorem q3361 : (Jvm.Cond.methodLink "SpectrumAccessModel" (439 : Nat) ({ cls := "SpectrumAccessModel", name := "movesAll", desc := "([I)V" } : Jvm.MethodName)) ∈ lw_all := lw_g (lw_at lw_m14 102 rfl) rfl
theorem q3362 : (Jvm.Cond.privateMethod ({ cls := "SpectrumAccessModel", name := "movesAll", desc := "([I)V" } : Jvm.MethodName)) ∈ lw_tbl := lw_at lw_m14 103 rfl
theorem q3363 : (Jvm.Cond.instanceMethod ({ cls := "SpectrumAccessModel", name := "movesAll", desc := "([I)V" } : Jvm.MethodName)) ∈ lw_all := lw_g (lw_at lw_m14 104 rfl) rfl
theorem q3364 : (Jvm.Cond.code ({ cls := "SpectrumAccessModel", name := "movesAll", desc := "([I)V" } : Jvm.MethodName) prog_22_method_74_code (3 : Nat) (Option.none : Option Jvm.ClassFile.FieldType)) ∈ lw_all := lw_g (lw_at lw_m14 105 rfl) rfl
theorem q3365 : (Jvm.Cond.methodLink "SpectrumAccessModel" (412 : Nat) ({ cls := "SpectrumAccessModel", name := "forces", desc := "([II)V" } : Jvm.MethodName)) ∈ lw_all := lw_g (lw_at lw_m14 106 rfl) rfl
theorem q3366 : (Jvm.Cond.static ({ cls := "SpectrumAccessModel", name := "forces", desc := "([II)V" } : Jvm.MethodName)) ∈ lw_all := lw_g (lw_at lw_m14 107 rfl) rfl
theorem q3367 : (Jvm.Cond.code ({ cls := "SpectrumAccessModel", name := "forces", desc := "([II)V" } : Jvm.MethodName) prog_22_method_70_code (2 : Nat) (Option.none : Option Jvm.ClassFile.FieldType)) ∈ lw_all := lw_g (lw_at lw_m14 108 rfl) rfl
theorem q3368 : (Jvm.Cond.methodLink "SpectrumAccessModel" (419 : Nat) ({ cls := "SpectrumAccessModel", name := "clears", desc := "([II)V" } : Jvm.MethodName)) ∈ lw_all := lw_g (lw_at lw_m14 109 rfl) rfl
theorem q3369 : (Jvm.Cond.privateMethod ({ cls := "SpectrumAccessModel", name := "clears", desc := "([II)V" } : Jvm.MethodName)) ∈ lw_tbl := lw_at lw_m14 110 rfl
theorem q3370 : (Jvm.Cond.instanceMethod ({ cls := "SpectrumAccessModel", name := "clears", desc := "([II)V" } : Jvm.MethodName)) ∈ lw_all := lw_g (lw_at lw_m14 111 rfl) rfl
theorem q3371 : (Jvm.Cond.code ({ cls := "SpectrumAccessModel", name := "clears", desc := "([II)V" } : Jvm.MethodName) prog_22_method_72_code (6 : Nat) (Option.none : Option Jvm.ClassFile.FieldType)) ∈ lw_all := lw_g (lw_at lw_m14 112 rfl) rfl
theorem q3372 : (Jvm.Cond.methodLink "SpectrumAccessModel" (409 : Nat) ({ cls := "SpectrumAccessModel", name := "loudest", desc := "([IIIII)I" } : Jvm.MethodName)) ∈ lw_all := lw_g (lw_at lw_m14 113 rfl) rfl
theorem q3373 : (Jvm.Cond.privateMethod ({ cls := "SpectrumAccessModel", name := "loudest", desc := "([IIIII)I" } : Jvm.MethodName)) ∈ lw_tbl := lw_at lw_m14 114 rfl
theorem q3374 : (Jvm.Cond.instanceMethod ({ cls := "SpectrumAccessModel", name := "loudest", desc := "([IIIII)I" } : Jvm.MethodName)) ∈ lw_all := lw_g (lw_at lw_m14 115 rfl) rfl
theorem q3375 : (Jvm.Cond.code ({ cls := "SpectrumAccessModel", name := "loudest", desc := "([IIIII)I" } : Jvm.MethodName) prog_22_method_71_code (10 : Nat) (Option.some Jvm.ClassFile.FieldType.int)) ∈ lw_all := lw_g (lw_at lw_m14 116 rfl) rfl
theorem q3376 : (Jvm.Cond.methodLink "SpectrumAccessModel" (422 : Nat) ({ cls := "SpectrumAccessModel", name := "shields", desc := "([II)V" } : Jvm.MethodName)) ∈ lw_all := lw_g (lw_at lw_m14 117 rfl) rfl
theorem q3377 : (Jvm.Cond.privateMethod ({ cls := "SpectrumAccessModel", name := "shields", desc := "([II)V" } : Jvm.MethodName)) ∈ lw_tbl := lw_at lw_m14 118 rfl
theorem q3378 : (Jvm.Cond.instanceMethod ({ cls := "SpectrumAccessModel", name := "shields", desc := "([II)V" } : Jvm.MethodName)) ∈ lw_all := lw_g (lw_at lw_m14 119 rfl) rfl
theorem q3379 : (Jvm.Cond.code ({ cls := "SpectrumAccessModel", name := "shields", desc := "([II)V" } : Jvm.MethodName) prog_22_method_73_code (5 : Nat) (Option.none : Option Jvm.ClassFile.FieldType)) ∈ lw_all := lw_g (lw_at lw_m14 120 rfl) rfl
theorem q3380 : (Jvm.Cond.methodLink "SpectrumAccessModel" (449 : Nat) ({ cls := "SpectrumAccessModel", name := "grants", desc := "([I)V" } : Jvm.MethodName)) ∈ lw_all := lw_g (lw_at lw_m14 121 rfl) rfl
theorem q3381 : (Jvm.Cond.privateMethod ({ cls := "SpectrumAccessModel", name := "grants", desc := "([I)V" } : Jvm.MethodName)) ∈ lw_tbl := lw_at lw_m14 122 rfl
theorem q3382 : (Jvm.Cond.instanceMethod ({ cls := "SpectrumAccessModel", name := "grants", desc := "([I)V" } : Jvm.MethodName)) ∈ lw_all := lw_g (lw_at lw_m14 123 rfl) rfl
theorem q3383 : (Jvm.Cond.code ({ cls := "SpectrumAccessModel", name := "grants", desc := "([I)V" } : Jvm.MethodName) prog_22_method_77_code (5 : Nat) (Option.none : Option Jvm.ClassFile.FieldType)) ∈ lw_all := lw_g (lw_at lw_m14 124 rfl) rfl
theorem q3384 : (Jvm.Cond.methodLink "SpectrumAccessModel" (432 : Nat) ({ cls := "SpectrumAccessModel", name := "keepRooms", desc := "(Z)V" } : Jvm.MethodName)) ∈ lw_all := lw_g (lw_at lw_m14 125 rfl) rfl
theorem q3385 : (Jvm.Cond.privateMethod ({ cls := "SpectrumAccessModel", name := "keepRooms", desc := "(Z)V" } : Jvm.MethodName)) ∈ lw_tbl := lw_at lw_m14 126 rfl
theorem q3386 : (Jvm.Cond.instanceMethod ({ cls := "SpectrumAccessModel", name := "keepRooms", desc := "(Z)V" } : Jvm.MethodName)) ∈ lw_all := lw_g (lw_at lw_m14 127 rfl) rfl
theorem q3387 : (Jvm.Cond.code ({ cls := "SpectrumAccessModel", name := "keepRooms", desc := "(Z)V" } : Jvm.MethodName) prog_22_method_60_code (2 : Nat) (Option.none : Option Jvm.ClassFile.FieldType)) ∈ lw_all := lw_g (lw_at lw_m14 128 rfl) rfl
theorem q3388 : (Jvm.Cond.methodLink "SpectrumAccessModel" (443 : Nat) ({ cls := "SpectrumAccessModel", name := "startsIn", desc := "([II)V" } : Jvm.MethodName)) ∈ lw_all := lw_g (lw_at lw_m14 129 rfl) rfl
theorem q3389 : (Jvm.Cond.privateMethod ({ cls := "SpectrumAccessModel", name := "startsIn", desc := "([II)V" } : Jvm.MethodName)) ∈ lw_tbl := lw_at lw_m14 130 rfl
theorem q3390 : (Jvm.Cond.instanceMethod ({ cls := "SpectrumAccessModel", name := "startsIn", desc := "([II)V" } : Jvm.MethodName)) ∈ lw_all := lw_g (lw_at lw_m14 131 rfl) rfl
theorem q3391 : (Jvm.Cond.code ({ cls := "SpectrumAccessModel", name := "startsIn", desc := "([II)V" } : Jvm.MethodName) prog_22_method_59_code (4 : Nat) (Option.none : Option Jvm.ClassFile.FieldType)) ∈ lw_all := lw_g (lw_at lw_m14 132 rfl) rfl
theorem q3393 : (Jvm.Cond.instanceMethod ({ cls := "SpectrumAccessModel", name := "airtimeIn", desc := "(I)I" } : Jvm.MethodName)) ∈ lw_all := lw_g (lw_at lw_m14 134 rfl) rfl
theorem q3394 : (Jvm.Cond.selects "SpectrumAccessModel" ({ cls := "SpectrumAccessModel", name := "airtimeIn", desc := "(I)I" } : Jvm.MethodName) ({ cls := "SpectrumAccessModel", name := "airtimeIn", desc := "(I)I" } : Jvm.MethodName)) ∈ lw_all := lw_g (lw_at lw_m14 135 rfl) rfl
theorem q3395 : (Jvm.Cond.code ({ cls := "SpectrumAccessModel", name := "airtimeIn", desc := "(I)I" } : Jvm.MethodName) prog_22_method_134_code (2 : Nat) (Option.some Jvm.ClassFile.FieldType.int)) ∈ lw_all := lw_g (lw_at lw_m14 136 rfl) rfl
theorem q3397 : (Jvm.Cond.instanceMethod ({ cls := "SpectrumAccessModel", name := "firstMove", desc := "(I)I" } : Jvm.MethodName)) ∈ lw_all := lw_g (lw_at lw_m14 138 rfl) rfl
theorem q3398 : (Jvm.Cond.selects "SpectrumAccessModel" ({ cls := "SpectrumAccessModel", name := "firstMove", desc := "(I)I" } : Jvm.MethodName) ({ cls := "SpectrumAccessModel", name := "firstMove", desc := "(I)I" } : Jvm.MethodName)) ∈ lw_all := lw_g (lw_at lw_m14 139 rfl) rfl
theorem q3399 : (Jvm.Cond.code ({ cls := "SpectrumAccessModel", name := "firstMove", desc := "(I)I" } : Jvm.MethodName) prog_22_method_135_code (3 : Nat) (Option.some Jvm.ClassFile.FieldType.int)) ∈ lw_all := lw_g (lw_at lw_m14 140 rfl) rfl
theorem q3401 : (Jvm.Cond.instanceMethod ({ cls := "SpectrumAccessModel", name := "waitingAfter", desc := "(I)I" } : Jvm.MethodName)) ∈ lw_all := lw_g (lw_at lw_m14 142 rfl) rfl
theorem q3402 : (Jvm.Cond.selects "SpectrumAccessModel" ({ cls := "SpectrumAccessModel", name := "waitingAfter", desc := "(I)I" } : Jvm.MethodName) ({ cls := "SpectrumAccessModel", name := "waitingAfter", desc := "(I)I" } : Jvm.MethodName)) ∈ lw_all := lw_g (lw_at lw_m14 143 rfl) rfl
theorem q3403 : (Jvm.Cond.code ({ cls := "SpectrumAccessModel", name := "waitingAfter", desc := "(I)I" } : Jvm.MethodName) prog_22_method_136_code (4 : Nat) (Option.some Jvm.ClassFile.FieldType.int)) ∈ lw_all := lw_g (lw_at lw_m14 144 rfl) rfl
theorem q3405 : (Jvm.Cond.instanceMethod ({ cls := "SpectrumAccessModel", name := "troublemaker", desc := "(I)I" } : Jvm.MethodName)) ∈ lw_all := lw_g (lw_at lw_m14 146 rfl) rfl
theorem q3406 : (Jvm.Cond.selects "SpectrumAccessModel" ({ cls := "SpectrumAccessModel", name := "troublemaker", desc := "(I)I" } : Jvm.MethodName) ({ cls := "SpectrumAccessModel", name := "troublemaker", desc := "(I)I" } : Jvm.MethodName)) ∈ lw_all := lw_g (lw_at lw_m14 147 rfl) rfl
theorem q3407 : (Jvm.Cond.code ({ cls := "SpectrumAccessModel", name := "troublemaker", desc := "(I)I" } : Jvm.MethodName) prog_22_method_137_code (5 : Nat) (Option.some Jvm.ClassFile.FieldType.int)) ∈ lw_all := lw_g (lw_at lw_m14 148 rfl) rfl
theorem q3409 : (Jvm.Cond.instanceMethod ({ cls := "SpectrumAccessModel", name := "tightest", desc := "()I" } : Jvm.MethodName)) ∈ lw_all := lw_g (lw_at lw_m14 150 rfl) rfl
theorem q3410 : (Jvm.Cond.selects "SpectrumAccessModel" ({ cls := "SpectrumAccessModel", name := "tightest", desc := "()I" } : Jvm.MethodName) ({ cls := "SpectrumAccessModel", name := "tightest", desc := "()I" } : Jvm.MethodName)) ∈ lw_all := lw_g (lw_at lw_m14 151 rfl) rfl
theorem q3411 : (Jvm.Cond.code ({ cls := "SpectrumAccessModel", name := "tightest", desc := "()I" } : Jvm.MethodName) prog_22_method_138_code (3 : Nat) (Option.some Jvm.ClassFile.FieldType.int)) ∈ lw_all := lw_g (lw_at lw_m14 152 rfl) rfl
theorem q3413 : (Jvm.Cond.instanceMethod ({ cls := "SpectrumAccessModel", name := "advance", desc := "(I)I" } : Jvm.MethodName)) ∈ lw_all := lw_g (lw_at lw_m14 154 rfl) rfl
theorem q3414 : (Jvm.Cond.selects "SpectrumAccessModel" ({ cls := "SpectrumAccessModel", name := "advance", desc := "(I)I" } : Jvm.MethodName) ({ cls := "SpectrumAccessModel", name := "advance", desc := "(I)I" } : Jvm.MethodName)) ∈ lw_all := lw_g (lw_at lw_m14 155 rfl) rfl
theorem q3415 : (Jvm.Cond.code ({ cls := "SpectrumAccessModel", name := "advance", desc := "(I)I" } : Jvm.MethodName) prog_22_method_139_code (3 : Nat) (Option.some Jvm.ClassFile.FieldType.int)) ∈ lw_all := lw_g (lw_at lw_m14 156 rfl) rfl
theorem q3416 : (Jvm.Cond.methodLink "SpectrumAccessModel" (510 : Nat) ({ cls := "SpectrumAccessModel", name := "remember", desc := "()V" } : Jvm.MethodName)) ∈ lw_all := lw_g (lw_at lw_m14 157 rfl) rfl
theorem q3417 : (Jvm.Cond.privateMethod ({ cls := "SpectrumAccessModel", name := "remember", desc := "()V" } : Jvm.MethodName)) ∈ lw_tbl := lw_at lw_m14 158 rfl
theorem q3418 : (Jvm.Cond.instanceMethod ({ cls := "SpectrumAccessModel", name := "remember", desc := "()V" } : Jvm.MethodName)) ∈ lw_all := lw_g (lw_at lw_m14 159 rfl) rfl
theorem q3419 : (Jvm.Cond.code ({ cls := "SpectrumAccessModel", name := "remember", desc := "()V" } : Jvm.MethodName) prog_22_method_47_code (2 : Nat) (Option.none : Option Jvm.ClassFile.FieldType)) ∈ lw_all := lw_g (lw_at lw_m14 160 rfl) rfl
theorem q3421 : (Jvm.Cond.instanceMethod ({ cls := "SpectrumAccessModel", name := "start", desc := "(I)I" } : Jvm.MethodName)) ∈ lw_all := lw_g (lw_at lw_m14 162 rfl) rfl
theorem q3422 : (Jvm.Cond.selects "SpectrumAccessModel" ({ cls := "SpectrumAccessModel", name := "start", desc := "(I)I" } : Jvm.MethodName) ({ cls := "SpectrumAccessModel", name := "start", desc := "(I)I" } : Jvm.MethodName)) ∈ lw_all := lw_g (lw_at lw_m14 163 rfl) rfl
theorem q3423 : (Jvm.Cond.code ({ cls := "SpectrumAccessModel", name := "start", desc := "(I)I" } : Jvm.MethodName) prog_22_method_140_code (2 : Nat) (Option.some Jvm.ClassFile.FieldType.int)) ∈ lw_all := lw_g (lw_at lw_m14 164 rfl) rfl
theorem q3425 : (Jvm.Cond.instanceMethod ({ cls := "SpectrumAccessModel", name := "stop", desc := "(I)I" } : Jvm.MethodName)) ∈ lw_all := lw_g (lw_at lw_m14 166 rfl) rfl
theorem q3426 : (Jvm.Cond.selects "SpectrumAccessModel" ({ cls := "SpectrumAccessModel", name := "stop", desc := "(I)I" } : Jvm.MethodName) ({ cls := "SpectrumAccessModel", name := "stop", desc := "(I)I" } : Jvm.MethodName)) ∈ lw_all := lw_g (lw_at lw_m14 167 rfl) rfl
theorem q3427 : (Jvm.Cond.code ({ cls := "SpectrumAccessModel", name := "stop", desc := "(I)I" } : Jvm.MethodName) prog_22_method_141_code (3 : Nat) (Option.some Jvm.ClassFile.FieldType.int)) ∈ lw_all := lw_g (lw_at lw_m14 168 rfl) rfl
theorem q3429 : (Jvm.Cond.instanceMethod ({ cls := "SpectrumAccessModel", name := "setPower", desc := "(II)I" } : Jvm.MethodName)) ∈ lw_all := lw_g (lw_at lw_m14 170 rfl) rfl
theorem q3430 : (Jvm.Cond.selects "SpectrumAccessModel" ({ cls := "SpectrumAccessModel", name := "setPower", desc := "(II)I" } : Jvm.MethodName) ({ cls := "SpectrumAccessModel", name := "setPower", desc := "(II)I" } : Jvm.MethodName)) ∈ lw_all := lw_g (lw_at lw_m14 171 rfl) rfl
theorem q3431 : (Jvm.Cond.code ({ cls := "SpectrumAccessModel", name := "setPower", desc := "(II)I" } : Jvm.MethodName) prog_22_method_142_code (4 : Nat) (Option.some Jvm.ClassFile.FieldType.int)) ∈ lw_all := lw_g (lw_at lw_m14 172 rfl) rfl
theorem q3433 : (Jvm.Cond.instanceMethod ({ cls := "SpectrumAccessModel", name := "addIncumbent", desc := "(IIIIII)I" } : Jvm.MethodName)) ∈ lw_all := lw_g (lw_at lw_m14 174 rfl) rfl
theorem q3434 : (Jvm.Cond.selects "SpectrumAccessModel" ({ cls := "SpectrumAccessModel", name := "addIncumbent", desc := "(IIIIII)I" } : Jvm.MethodName) ({ cls := "SpectrumAccessModel", name := "addIncumbent", desc := "(IIIIII)I" } : Jvm.MethodName)) ∈ lw_all := lw_g (lw_at lw_m14 175 rfl) rfl
theorem q3435 : (Jvm.Cond.code ({ cls := "SpectrumAccessModel", name := "addIncumbent", desc := "(IIIIII)I" } : Jvm.MethodName) prog_22_method_143_code (8 : Nat) (Option.some Jvm.ClassFile.FieldType.int)) ∈ lw_all := lw_g (lw_at lw_m14 176 rfl) rfl
theorem q3437 : (Jvm.Cond.instanceMethod ({ cls := "SpectrumAccessModel", name := "endIncumbent", desc := "(I)I" } : Jvm.MethodName)) ∈ lw_all := lw_g (lw_at lw_m14 178 rfl) rfl
theorem q3438 : (Jvm.Cond.selects "SpectrumAccessModel" ({ cls := "SpectrumAccessModel", name := "endIncumbent", desc := "(I)I" } : Jvm.MethodName) ({ cls := "SpectrumAccessModel", name := "endIncumbent", desc := "(I)I" } : Jvm.MethodName)) ∈ lw_all := lw_g (lw_at lw_m14 179 rfl) rfl
theorem q3439 : (Jvm.Cond.code ({ cls := "SpectrumAccessModel", name := "endIncumbent", desc := "(I)I" } : Jvm.MethodName) prog_22_method_144_code (4 : Nat) (Option.some Jvm.ClassFile.FieldType.int)) ∈ lw_all := lw_g (lw_at lw_m14 180 rfl) rfl
theorem q3441 : (Jvm.Cond.instanceMethod ({ cls := "SpectrumAccessModel", name := "undo", desc := "()I" } : Jvm.MethodName)) ∈ lw_all := lw_g (lw_at lw_m14 182 rfl) rfl
theorem q3442 : (Jvm.Cond.selects "SpectrumAccessModel" ({ cls := "SpectrumAccessModel", name := "undo", desc := "()I" } : Jvm.MethodName) ({ cls := "SpectrumAccessModel", name := "undo", desc := "()I" } : Jvm.MethodName)) ∈ lw_all := lw_g (lw_at lw_m14 183 rfl) rfl
theorem q3443 : (Jvm.Cond.code ({ cls := "SpectrumAccessModel", name := "undo", desc := "()I" } : Jvm.MethodName) prog_22_method_145_code (1 : Nat) (Option.some Jvm.ClassFile.FieldType.int)) ∈ lw_all := lw_g (lw_at lw_m14 184 rfl) rfl
theorem q3445 : (Jvm.Cond.instanceMethod ({ cls := "SpectrumAccessModel", name := "undoable", desc := "()I" } : Jvm.MethodName)) ∈ lw_all := lw_g (lw_at lw_m14 186 rfl) rfl
theorem q3446 : (Jvm.Cond.selects "SpectrumAccessModel" ({ cls := "SpectrumAccessModel", name := "undoable", desc := "()I" } : Jvm.MethodName) ({ cls := "SpectrumAccessModel", name := "undoable", desc := "()I" } : Jvm.MethodName)) ∈ lw_all := lw_g (lw_at lw_m14 187 rfl) rfl
theorem q3447 : (Jvm.Cond.code ({ cls := "SpectrumAccessModel", name := "undoable", desc := "()I" } : Jvm.MethodName) prog_22_method_146_code (1 : Nat) (Option.some Jvm.ClassFile.FieldType.int)) ∈ lw_all := lw_g (lw_at lw_m14 188 rfl) rfl
theorem q3449 : (Jvm.Cond.instanceMethod ({ cls := "SpectrumAccessModel", name := "save", desc := "(I)I" } : Jvm.MethodName)) ∈ lw_all := lw_g (lw_at lw_m14 190 rfl) rfl
theorem q3450 : (Jvm.Cond.selects "SpectrumAccessModel" ({ cls := "SpectrumAccessModel", name := "save", desc := "(I)I" } : Jvm.MethodName) ({ cls := "SpectrumAccessModel", name := "save", desc := "(I)I" } : Jvm.MethodName)) ∈ lw_all := lw_g (lw_at lw_m14 191 rfl) rfl
theorem q3451 : (Jvm.Cond.code ({ cls := "SpectrumAccessModel", name := "save", desc := "(I)I" } : Jvm.MethodName) prog_22_method_147_code (2 : Nat) (Option.some Jvm.ClassFile.FieldType.int)) ∈ lw_all := lw_g (lw_at lw_m14 192 rfl) rfl
theorem q3453 : (Jvm.Cond.instanceMethod ({ cls := "SpectrumAccessModel", name := "restore", desc := "(I)I" } : Jvm.MethodName)) ∈ lw_all := lw_g (lw_at lw_m14 194 rfl) rfl
theorem q3454 : (Jvm.Cond.selects "SpectrumAccessModel" ({ cls := "SpectrumAccessModel", name := "restore", desc := "(I)I" } : Jvm.MethodName) ({ cls := "SpectrumAccessModel", name := "restore", desc := "(I)I" } : Jvm.MethodName)) ∈ lw_all := lw_g (lw_at lw_m14 195 rfl) rfl
theorem q3455 : (Jvm.Cond.code ({ cls := "SpectrumAccessModel", name := "restore", desc := "(I)I" } : Jvm.MethodName) prog_22_method_148_code (2 : Nat) (Option.some Jvm.ClassFile.FieldType.int)) ∈ lw_all := lw_g (lw_at lw_m14 196 rfl) rfl
theorem q3492 : (Jvm.Cond.castable "SpectrumAccessModel" "java/lang/Object") ∈ lw_tbl := lw_at lw_m14 233 rfl
theorem in_X2 : ∀ w ∈ wsX20, w ∈ lw_all := lw_in wsX20 [2759, 2761, 2763, 2765, 2767, 2769, 2771, 2773, 2775, 2777, 2779, 2781, 2783, 2785, 2787, 2789, 2791, 2793, 2795, 2797, 2799, 2801, 2803, 2805, 2807, 2809, 2811, 2813, 2815, 2817, 2819, 2821, 2823, 2825, 2827, 2829, 2831, 2833, 2835, 2837, 2839, 2841, 2843, 2845, 2847] (by decide +kernel) (by decide +kernel)


/-! SpectrumAccess$Parser -/
set_option maxRecDepth 100000
def RX3 : String := "SpectrumAccess$Parser"
def TX3 : u_T := fun k => match k with
  | 0 => ("SpectrumAccess$Parser", "text", "[B", true)
  | 1 => ("SpectrumAccess$Parser", "length", "I", true)
  | 2 => ("SpectrumAccess$Parser", "next", "I", false)
  | 3 => ("SpectrumAccess$Parser", "start", "I", false)
  | 4 => ("SpectrumAccess$Parser", "number", "I", false)
  | 5 => ("SpectrumAccess$Parser", "depth", "I", false)
  | 6 => ("SpectrumAccess$Parser", "token", "Ljava/lang/CharSequence;", false)
  | 7 => ("SpectrumAccess$Parser", "region", "LSpectrumAccess$Region;", true)
  | _ => ("SpectrumAccess$Parser", "state", "LSpectrumAccess$State;", true)
def tyX3 : Nat → FieldType := fun k => match k with
  | 0 => .array .byte
  | 1 => .int
  | 2 => .int
  | 3 => .int
  | 4 => .int
  | 5 => .int
  | 6 => .object "java/lang/CharSequence"
  | 7 => .object "SpectrumAccess$Region"
  | _ => .object "SpectrumAccess$State"
abbrev wsX30 : List Cond := u_ws RX3 TX3 9
theorem nmX3 : ∀ a, a < 9 → ∀ b, b < 9 → a ≠ b → (TX3 a).2.1 ≠ (TX3 b).2.1 := by decide +kernel
theorem tyX3_ok : ∀ k, k < 9 → parseFieldDescriptor (TX3 k).2.2.1 = some (tyX3 k) := by decide +kernel
