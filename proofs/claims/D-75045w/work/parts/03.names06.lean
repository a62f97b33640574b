set_option maxRecDepth 100000
abbrev cX3_init : ByteArray := prog_12_method_1_code
def yX3_init : MethodName := ⟨RX3, "<init>", "([BI)V"⟩
def dkwX3_init_2 : List UInt8 := [177]
abbrev dktX3_init_2 : List UInt8 := dkwX3_init_2 ++ []
def dkwX3_init_1 : List UInt8 := [187, 0, 24, 89, 42, 180, 0, 20, 183, 0, 26, 181, 0, 29, 42, 43, 181, 0, 33, 42, 28, 181, 0, 37]
abbrev dktX3_init_1 : List UInt8 := dkwX3_init_1 ++ dktX3_init_2
def dkwX3_init_0 : List UInt8 := [42, 183, 0, 3, 42, 18, 9, 181, 0, 11, 42, 187, 0, 17, 89, 183, 0, 19, 181, 0, 20, 42]
abbrev dktX3_init_0 : List UInt8 := dkwX3_init_0 ++ dktX3_init_1
theorem dksX3_init_0 : cX3_init.data.toList.drop 0 = dktX3_init_0 := by decide +kernel
theorem dksX3_init_1 : cX3_init.data.toList.drop 22 = dktX3_init_1 := dk_seg dksX3_init_0 22 rfl rfl
theorem dksX3_init_2 : cX3_init.data.toList.drop 46 = dktX3_init_2 := dk_seg dksX3_init_1 24 rfl rfl
theorem dX3_init_0 : decode cX3_init 0 = .ok (.aload_n 0, 1) := dk_42 (dk_at dksX3_init_0 0 rfl rfl)
theorem dX3_init_1 : decode cX3_init 1 = .ok (.invokespecial 3, 3) := dk_183 0 3 (dk_at dksX3_init_0 1 rfl rfl)
theorem dX3_init_4 : decode cX3_init 4 = .ok (.aload_n 0, 1) := dk_42 (dk_at dksX3_init_0 4 rfl rfl)
theorem dX3_init_5 : decode cX3_init 5 = .ok (.ldc 9, 2) := dk_18 9 (dk_at dksX3_init_0 5 rfl rfl)
theorem dX3_init_7 : decode cX3_init 7 = .ok (.putfield 11, 3) := dk_181 0 11 (dk_at dksX3_init_0 7 rfl rfl)
theorem dX3_init_10 : decode cX3_init 10 = .ok (.aload_n 0, 1) := dk_42 (dk_at dksX3_init_0 10 rfl rfl)
theorem dX3_init_11 : decode cX3_init 11 = .ok (.new 17, 3) := dk_187 0 17 (dk_at dksX3_init_0 11 rfl rfl)
theorem dX3_init_14 : decode cX3_init 14 = .ok (.dup, 1) := dk_89 (dk_at dksX3_init_0 14 rfl rfl)
theorem dX3_init_15 : decode cX3_init 15 = .ok (.invokespecial 19, 3) := dk_183 0 19 (dk_at dksX3_init_0 15 rfl rfl)
theorem dX3_init_18 : decode cX3_init 18 = .ok (.putfield 20, 3) := dk_181 0 20 (dk_at dksX3_init_0 18 rfl rfl)
theorem dX3_init_21 : decode cX3_init 21 = .ok (.aload_n 0, 1) := dk_42 (dk_at dksX3_init_0 21 rfl rfl)
theorem dX3_init_22 : decode cX3_init 22 = .ok (.new 24, 3) := dk_187 0 24 (dk_at dksX3_init_1 0 rfl rfl)
theorem dX3_init_25 : decode cX3_init 25 = .ok (.dup, 1) := dk_89 (dk_at dksX3_init_1 3 rfl rfl)
theorem dX3_init_26 : decode cX3_init 26 = .ok (.aload_n 0, 1) := dk_42 (dk_at dksX3_init_1 4 rfl rfl)
theorem dX3_init_27 : decode cX3_init 27 = .ok (.getfield 20, 3) := dk_180 0 20 (dk_at dksX3_init_1 5 rfl rfl)
theorem dX3_init_30 : decode cX3_init 30 = .ok (.invokespecial 26, 3) := dk_183 0 26 (dk_at dksX3_init_1 8 rfl rfl)
theorem dX3_init_33 : decode cX3_init 33 = .ok (.putfield 29, 3) := dk_181 0 29 (dk_at dksX3_init_1 11 rfl rfl)
theorem dX3_init_36 : decode cX3_init 36 = .ok (.aload_n 0, 1) := dk_42 (dk_at dksX3_init_1 14 rfl rfl)
theorem dX3_init_37 : decode cX3_init 37 = .ok (.aload_n 1, 1) := dk_43 (dk_at dksX3_init_1 15 rfl rfl)
theorem dX3_init_38 : decode cX3_init 38 = .ok (.putfield 33, 3) := dk_181 0 33 (dk_at dksX3_init_1 16 rfl rfl)
theorem dX3_init_41 : decode cX3_init 41 = .ok (.aload_n 0, 1) := dk_42 (dk_at dksX3_init_1 19 rfl rfl)
theorem dX3_init_42 : decode cX3_init 42 = .ok (.iload_n 2, 1) := dk_28 (dk_at dksX3_init_1 20 rfl rfl)
theorem dX3_init_43 : decode cX3_init 43 = .ok (.putfield 37, 3) := dk_181 0 37 (dk_at dksX3_init_1 21 rfl rfl)
theorem dX3_init_46 : decode cX3_init 46 = .ok (.return_, 1) := dk_177 (dk_at dksX3_init_2 0 rfl rfl)
abbrev cX3_parse : ByteArray := prog_12_method_10_code
def yX3_parse : MethodName := ⟨RX3, "parse", "()LSpectrumAccess$State;"⟩
def dkwX3_parse_2 : List UInt8 := [180, 0, 135, 185, 0, 139, 1, 0, 153, 0, 9, 42, 8, 182, 0, 110, 191, 42, 180, 0, 29, 176]
abbrev dktX3_parse_2 : List UInt8 := dkwX3_parse_2 ++ []
def dkwX3_parse_1 : List UInt8 := [42, 180, 0, 11, 185, 0, 130, 1, 0, 158, 0, 9, 42, 4, 182, 0, 110, 191, 42, 180, 0, 20]
abbrev dktX3_parse_1 : List UInt8 := dkwX3_parse_1 ++ dktX3_parse_2
def dkwX3_parse_0 : List UInt8 := [42, 182, 0, 104, 42, 182, 0, 123, 42, 18, 125, 182, 0, 107, 153, 0, 10, 42, 182, 0, 127, 167, 255, 243]
abbrev dktX3_parse_0 : List UInt8 := dkwX3_parse_0 ++ dktX3_parse_1
theorem dksX3_parse_0 : cX3_parse.data.toList.drop 0 = dktX3_parse_0 := by decide +kernel
theorem dksX3_parse_1 : cX3_parse.data.toList.drop 24 = dktX3_parse_1 := dk_seg dksX3_parse_0 24 rfl rfl
theorem dksX3_parse_2 : cX3_parse.data.toList.drop 46 = dktX3_parse_2 := dk_seg dksX3_parse_1 22 rfl rfl
theorem dX3_parse_0 : decode cX3_parse 0 = .ok (.aload_n 0, 1) := dk_42 (dk_at dksX3_parse_0 0 rfl rfl)
theorem dX3_parse_1 : decode cX3_parse 1 = .ok (.invokevirtual 104, 3) := dk_182 0 104 (dk_at dksX3_parse_0 1 rfl rfl)
theorem dX3_parse_4 : decode cX3_parse 4 = .ok (.aload_n 0, 1) := dk_42 (dk_at dksX3_parse_0 4 rfl rfl)
theorem dX3_parse_5 : decode cX3_parse 5 = .ok (.invokevirtual 123, 3) := dk_182 0 123 (dk_at dksX3_parse_0 5 rfl rfl)
theorem dX3_parse_8 : decode cX3_parse 8 = .ok (.aload_n 0, 1) := dk_42 (dk_at dksX3_parse_0 8 rfl rfl)
theorem dX3_parse_9 : decode cX3_parse 9 = .ok (.ldc 125, 2) := dk_18 125 (dk_at dksX3_parse_0 9 rfl rfl)
theorem dX3_parse_11 : decode cX3_parse 11 = .ok (.invokevirtual 107, 3) := dk_182 0 107 (dk_at dksX3_parse_0 11 rfl rfl)
theorem dX3_parse_14 : decode cX3_parse 14 = .ok (.ifCond .eq 10, 3) := dk_153 0 10 (dk_at dksX3_parse_0 14 rfl rfl)
theorem dX3_parse_17 : decode cX3_parse 17 = .ok (.aload_n 0, 1) := dk_42 (dk_at dksX3_parse_0 17 rfl rfl)
theorem dX3_parse_18 : decode cX3_parse 18 = .ok (.invokevirtual 127, 3) := dk_182 0 127 (dk_at dksX3_parse_0 18 rfl rfl)
theorem dX3_parse_21 : decode cX3_parse 21 = .ok (.goto (-13), 3) := dk_167 255 243 (dk_at dksX3_parse_0 21 rfl rfl)
theorem dX3_parse_24 : decode cX3_parse 24 = .ok (.aload_n 0, 1) := dk_42 (dk_at dksX3_parse_1 0 rfl rfl)
theorem dX3_parse_25 : decode cX3_parse 25 = .ok (.getfield 11, 3) := dk_180 0 11 (dk_at dksX3_parse_1 1 rfl rfl)
theorem dX3_parse_28 : decode cX3_parse 28 = .ok (.invokeinterface 130 1, 5) := by decide +kernel
theorem dX3_parse_33 : decode cX3_parse 33 = .ok (.ifCond .le 9, 3) := dk_158 0 9 (dk_at dksX3_parse_1 9 rfl rfl)
theorem dX3_parse_36 : decode cX3_parse 36 = .ok (.aload_n 0, 1) := dk_42 (dk_at dksX3_parse_1 12 rfl rfl)
theorem dX3_parse_37 : decode cX3_parse 37 = .ok (.iconst 1, 1) := dk_4 (dk_at dksX3_parse_1 13 rfl rfl)
theorem dX3_parse_38 : decode cX3_parse 38 = .ok (.invokevirtual 110, 3) := dk_182 0 110 (dk_at dksX3_parse_1 14 rfl rfl)
theorem dX3_parse_41 : decode cX3_parse 41 = .ok (.athrow, 1) := dk_191 (dk_at dksX3_parse_1 17 rfl rfl)
theorem dX3_parse_42 : decode cX3_parse 42 = .ok (.aload_n 0, 1) := dk_42 (dk_at dksX3_parse_1 18 rfl rfl)
theorem dX3_parse_43 : decode cX3_parse 43 = .ok (.getfield 20, 3) := dk_180 0 20 (dk_at dksX3_parse_1 19 rfl rfl)
theorem dX3_parse_46 : decode cX3_parse 46 = .ok (.getfield 135, 3) := dk_180 0 135 (dk_at dksX3_parse_2 0 rfl rfl)
theorem dX3_parse_49 : decode cX3_parse 49 = .ok (.invokeinterface 139 1, 5) := by decide +kernel
theorem dX3_parse_54 : decode cX3_parse 54 = .ok (.ifCond .eq 9, 3) := dk_153 0 9 (dk_at dksX3_parse_2 8 rfl rfl)
theorem dX3_parse_57 : decode cX3_parse 57 = .ok (.aload_n 0, 1) := dk_42 (dk_at dksX3_parse_2 11 rfl rfl)
theorem dX3_parse_58 : decode cX3_parse 58 = .ok (.iconst 5, 1) := dk_8 (dk_at dksX3_parse_2 12 rfl rfl)
theorem dX3_parse_59 : decode cX3_parse 59 = .ok (.invokevirtual 110, 3) := dk_182 0 110 (dk_at dksX3_parse_2 13 rfl rfl)
theorem dX3_parse_62 : decode cX3_parse 62 = .ok (.athrow, 1) := dk_191 (dk_at dksX3_parse_2 16 rfl rfl)
theorem dX3_parse_63 : decode cX3_parse 63 = .ok (.aload_n 0, 1) := dk_42 (dk_at dksX3_parse_2 17 rfl rfl)
theorem dX3_parse_64 : decode cX3_parse 64 = .ok (.getfield 29, 3) := dk_180 0 29 (dk_at dksX3_parse_2 18 rfl rfl)
theorem dX3_parse_67 : decode cX3_parse 67 = .ok (.areturn, 1) := dk_176 (dk_at dksX3_parse_2 21 rfl rfl)
abbrev cX3_advance : ByteArray := prog_12_method_3_code
def yX3_advance : MethodName := ⟨RX3, "advance", "()V"⟩
def dkwX3_advance_13 : List UInt8 := [146, 184, 0, 91, 181, 0, 11, 177]
abbrev dktX3_advance_13 : List UInt8 := dkwX3_advance_13 ++ []
def dkwX3_advance_12 : List UInt8 := [180, 0, 41, 4, 96, 181, 0, 41, 42, 18, 84, 27, 182, 0, 86, 156, 0, 8, 18, 66, 167, 0, 8, 27]
abbrev dktX3_advance_12 : List UInt8 := dkwX3_advance_12 ++ dktX3_advance_13
def dkwX3_advance_11 : List UInt8 := [42, 180, 0, 48, 100, 8, 164, 0, 8, 18, 66, 167, 0, 5, 18, 82, 181, 0, 11, 167, 0, 36, 42, 89]
abbrev dktX3_advance_11 : List UInt8 := dkwX3_advance_11 ++ dktX3_advance_12
def dkwX3_advance_10 : List UInt8 := [184, 0, 76, 181, 0, 72, 42, 89, 180, 0, 41, 4, 96, 181, 0, 41, 167, 255, 197, 42, 42, 180, 0, 41]
abbrev dktX3_advance_10 : List UInt8 := dkwX3_advance_10 ++ dktX3_advance_11
def dkwX3_advance_9 : List UInt8 := [42, 18, 75, 16, 10, 42, 180, 0, 72, 104, 42, 42, 180, 0, 41, 182, 0, 44, 96, 16, 48, 100]
abbrev dktX3_advance_9 : List UInt8 := dkwX3_advance_9 ++ dktX3_advance_10
def dkwX3_advance_8 : List UInt8 := [181, 0, 72, 42, 42, 180, 0, 41, 182, 0, 44, 133, 20, 0, 68, 20, 0, 70, 184, 0, 55, 153, 0, 44]
abbrev dktX3_advance_8 : List UInt8 := dkwX3_advance_8 ++ dktX3_advance_9
def dkwX3_advance_7 : List UInt8 := [181, 0, 11, 167, 0, 144, 27, 133, 20, 0, 68, 20, 0, 70, 184, 0, 55, 153, 0, 97, 42, 3]
abbrev dktX3_advance_7 : List UInt8 := dkwX3_advance_7 ++ dktX3_advance_8
def dkwX3_advance_6 : List UInt8 := [167, 255, 197, 42, 42, 180, 0, 41, 42, 180, 0, 48, 100, 16, 9, 164, 0, 8, 18, 66, 167, 0, 4, 44]
abbrev dktX3_advance_6 : List UInt8 := dkwX3_advance_6 ++ dktX3_advance_7
def dkwX3_advance_5 : List UInt8 := [42, 42, 180, 0, 41, 182, 0, 44, 146, 182, 0, 62, 87, 42, 89, 180, 0, 41, 4, 96, 181, 0, 41]
abbrev dktX3_advance_5 : List UInt8 := dkwX3_advance_5 ++ dktX3_advance_6
def dkwX3_advance_4 : List UInt8 := [20, 0, 53, 184, 0, 55, 153, 0, 44, 42, 180, 0, 41, 42, 180, 0, 48, 100, 16, 9, 163, 0, 17, 44]
abbrev dktX3_advance_4 : List UInt8 := dkwX3_advance_4 ++ dktX3_advance_5
def dkwX3_advance_3 : List UInt8 := [153, 0, 100, 187, 0, 59, 89, 183, 0, 61, 77, 42, 42, 180, 0, 41, 182, 0, 44, 133, 20, 0, 51]
abbrev dktX3_advance_3 : List UInt8 := dkwX3_advance_3 ++ dktX3_advance_4
def dkwX3_advance_2 : List UInt8 := [160, 0, 12, 42, 18, 9, 181, 0, 11, 167, 0, 255, 27, 133, 20, 0, 51, 20, 0, 53, 184, 0, 55]
abbrev dktX3_advance_2 : List UInt8 := dkwX3_advance_2 ++ dktX3_advance_3
def dkwX3_advance_1 : List UInt8 := [167, 255, 233, 42, 42, 180, 0, 41, 181, 0, 48, 42, 42, 180, 0, 41, 182, 0, 44, 60, 27, 2]
abbrev dktX3_advance_1 : List UInt8 := dkwX3_advance_1 ++ dktX3_advance_2
def dkwX3_advance_0 : List UInt8 := [42, 42, 180, 0, 41, 182, 0, 44, 16, 32, 160, 0, 16, 42, 89, 180, 0, 41, 4, 96, 181, 0, 41]
abbrev dktX3_advance_0 : List UInt8 := dkwX3_advance_0 ++ dktX3_advance_1
theorem dksX3_advance_0 : cX3_advance.data.toList.drop 0 = dktX3_advance_0 := by decide +kernel
theorem dksX3_advance_1 : cX3_advance.data.toList.drop 23 = dktX3_advance_1 := dk_seg dksX3_advance_0 23 rfl rfl
theorem dksX3_advance_2 : cX3_advance.data.toList.drop 45 = dktX3_advance_2 := dk_seg dksX3_advance_1 22 rfl rfl
theorem dksX3_advance_3 : cX3_advance.data.toList.drop 68 = dktX3_advance_3 := dk_seg dksX3_advance_2 23 rfl rfl
theorem dksX3_advance_4 : cX3_advance.data.toList.drop 91 = dktX3_advance_4 := dk_seg dksX3_advance_3 23 rfl rfl
theorem dksX3_advance_5 : cX3_advance.data.toList.drop 115 = dktX3_advance_5 := dk_seg dksX3_advance_4 24 rfl rfl
theorem dksX3_advance_6 : cX3_advance.data.toList.drop 138 = dktX3_advance_6 := dk_seg dksX3_advance_5 23 rfl rfl
theorem dksX3_advance_7 : cX3_advance.data.toList.drop 162 = dktX3_advance_7 := dk_seg dksX3_advance_6 24 rfl rfl
theorem dksX3_advance_8 : cX3_advance.data.toList.drop 184 = dktX3_advance_8 := dk_seg dksX3_advance_7 22 rfl rfl
theorem dksX3_advance_9 : cX3_advance.data.toList.drop 208 = dktX3_advance_9 := dk_seg dksX3_advance_8 24 rfl rfl
theorem dksX3_advance_10 : cX3_advance.data.toList.drop 230 = dktX3_advance_10 := dk_seg dksX3_advance_9 22 rfl rfl
theorem dksX3_advance_11 : cX3_advance.data.toList.drop 254 = dktX3_advance_11 := dk_seg dksX3_advance_10 24 rfl rfl
theorem dksX3_advance_12 : cX3_advance.data.toList.drop 278 = dktX3_advance_12 := dk_seg dksX3_advance_11 24 rfl rfl
theorem dksX3_advance_13 : cX3_advance.data.toList.drop 302 = dktX3_advance_13 := dk_seg dksX3_advance_12 24 rfl rfl
theorem dX3_advance_0 : decode cX3_advance 0 = .ok (.aload_n 0, 1) := dk_42 (dk_at dksX3_advance_0 0 rfl rfl)
theorem dX3_advance_1 : decode cX3_advance 1 = .ok (.aload_n 0, 1) := dk_42 (dk_at dksX3_advance_0 1 rfl rfl)
theorem dX3_advance_2 : decode cX3_advance 2 = .ok (.getfield 41, 3) := dk_180 0 41 (dk_at dksX3_advance_0 2 rfl rfl)
theorem dX3_advance_5 : decode cX3_advance 5 = .ok (.invokevirtual 44, 3) := dk_182 0 44 (dk_at dksX3_advance_0 5 rfl rfl)
theorem dX3_advance_8 : decode cX3_advance 8 = .ok (.bipush 32, 2) := dk_16 32 (dk_at dksX3_advance_0 8 rfl rfl)
theorem dX3_advance_10 : decode cX3_advance 10 = .ok (.if_icmp .ne 16, 3) := dk_160 0 16 (dk_at dksX3_advance_0 10 rfl rfl)
theorem dX3_advance_13 : decode cX3_advance 13 = .ok (.aload_n 0, 1) := dk_42 (dk_at dksX3_advance_0 13 rfl rfl)
theorem dX3_advance_14 : decode cX3_advance 14 = .ok (.dup, 1) := dk_89 (dk_at dksX3_advance_0 14 rfl rfl)
theorem dX3_advance_15 : decode cX3_advance 15 = .ok (.getfield 41, 3) := dk_180 0 41 (dk_at dksX3_advance_0 15 rfl rfl)
theorem dX3_advance_18 : decode cX3_advance 18 = .ok (.iconst 1, 1) := dk_4 (dk_at dksX3_advance_0 18 rfl rfl)
theorem dX3_advance_19 : decode cX3_advance 19 = .ok (.iadd, 1) := dk_96 (dk_at dksX3_advance_0 19 rfl rfl)
theorem dX3_advance_20 : decode cX3_advance 20 = .ok (.putfield 41, 3) := dk_181 0 41 (dk_at dksX3_advance_0 20 rfl rfl)
theorem dX3_advance_23 : decode cX3_advance 23 = .ok (.goto (-23), 3) := dk_167 255 233 (dk_at dksX3_advance_1 0 rfl rfl)
theorem dX3_advance_26 : decode cX3_advance 26 = .ok (.aload_n 0, 1) := dk_42 (dk_at dksX3_advance_1 3 rfl rfl)
theorem dX3_advance_27 : decode cX3_advance 27 = .ok (.aload_n 0, 1) := dk_42 (dk_at dksX3_advance_1 4 rfl rfl)
theorem dX3_advance_28 : decode cX3_advance 28 = .ok (.getfield 41, 3) := dk_180 0 41 (dk_at dksX3_advance_1 5 rfl rfl)
theorem dX3_advance_31 : decode cX3_advance 31 = .ok (.putfield 48, 3) := dk_181 0 48 (dk_at dksX3_advance_1 8 rfl rfl)
theorem dX3_advance_34 : decode cX3_advance 34 = .ok (.aload_n 0, 1) := dk_42 (dk_at dksX3_advance_1 11 rfl rfl)
theorem dX3_advance_35 : decode cX3_advance 35 = .ok (.aload_n 0, 1) := dk_42 (dk_at dksX3_advance_1 12 rfl rfl)
theorem dX3_advance_36 : decode cX3_advance 36 = .ok (.getfield 41, 3) := dk_180 0 41 (dk_at dksX3_advance_1 13 rfl rfl)
theorem dX3_advance_39 : decode cX3_advance 39 = .ok (.invokevirtual 44, 3) := dk_182 0 44 (dk_at dksX3_advance_1 16 rfl rfl)
theorem dX3_advance_42 : decode cX3_advance 42 = .ok (.istore_n 1, 1) := dk_60 (dk_at dksX3_advance_1 19 rfl rfl)
theorem dX3_advance_43 : decode cX3_advance 43 = .ok (.iload_n 1, 1) := dk_27 (dk_at dksX3_advance_1 20 rfl rfl)
theorem dX3_advance_44 : decode cX3_advance 44 = .ok (.iconst (-1), 1) := dk_2 (dk_at dksX3_advance_1 21 rfl rfl)
theorem dX3_advance_45 : decode cX3_advance 45 = .ok (.if_icmp .ne 12, 3) := dk_160 0 12 (dk_at dksX3_advance_2 0 rfl rfl)
theorem dX3_advance_48 : decode cX3_advance 48 = .ok (.aload_n 0, 1) := dk_42 (dk_at dksX3_advance_2 3 rfl rfl)
theorem dX3_advance_49 : decode cX3_advance 49 = .ok (.ldc 9, 2) := dk_18 9 (dk_at dksX3_advance_2 4 rfl rfl)
theorem dX3_advance_51 : decode cX3_advance 51 = .ok (.putfield 11, 3) := dk_181 0 11 (dk_at dksX3_advance_2 6 rfl rfl)
theorem dX3_advance_54 : decode cX3_advance 54 = .ok (.goto 255, 3) := dk_167 0 255 (dk_at dksX3_advance_2 9 rfl rfl)
theorem dX3_advance_57 : decode cX3_advance 57 = .ok (.iload_n 1, 1) := dk_27 (dk_at dksX3_advance_2 12 rfl rfl)
theorem dX3_advance_58 : decode cX3_advance 58 = .ok (.i2l, 1) := dk_133 (dk_at dksX3_advance_2 13 rfl rfl)
theorem dX3_advance_59 : decode cX3_advance 59 = .ok (.ldc2_w 51, 3) := dk_20 0 51 (dk_at dksX3_advance_2 14 rfl rfl)
theorem dX3_advance_62 : decode cX3_advance 62 = .ok (.ldc2_w 53, 3) := dk_20 0 53 (dk_at dksX3_advance_2 17 rfl rfl)
theorem dX3_advance_65 : decode cX3_advance 65 = .ok (.invokestatic 55, 3) := dk_184 0 55 (dk_at dksX3_advance_2 20 rfl rfl)
theorem dX3_advance_68 : decode cX3_advance 68 = .ok (.ifCond .eq 100, 3) := dk_153 0 100 (dk_at dksX3_advance_3 0 rfl rfl)
theorem dX3_advance_71 : decode cX3_advance 71 = .ok (.new 59, 3) := dk_187 0 59 (dk_at dksX3_advance_3 3 rfl rfl)
theorem dX3_advance_74 : decode cX3_advance 74 = .ok (.dup, 1) := dk_89 (dk_at dksX3_advance_3 6 rfl rfl)
theorem dX3_advance_75 : decode cX3_advance 75 = .ok (.invokespecial 61, 3) := dk_183 0 61 (dk_at dksX3_advance_3 7 rfl rfl)
theorem dX3_advance_78 : decode cX3_advance 78 = .ok (.astore_n 2, 1) := dk_77 (dk_at dksX3_advance_3 10 rfl rfl)
theorem dX3_advance_79 : decode cX3_advance 79 = .ok (.aload_n 0, 1) := dk_42 (dk_at dksX3_advance_3 11 rfl rfl)
theorem dX3_advance_80 : decode cX3_advance 80 = .ok (.aload_n 0, 1) := dk_42 (dk_at dksX3_advance_3 12 rfl rfl)
theorem dX3_advance_81 : decode cX3_advance 81 = .ok (.getfield 41, 3) := dk_180 0 41 (dk_at dksX3_advance_3 13 rfl rfl)
theorem dX3_advance_84 : decode cX3_advance 84 = .ok (.invokevirtual 44, 3) := dk_182 0 44 (dk_at dksX3_advance_3 16 rfl rfl)
theorem dX3_advance_87 : decode cX3_advance 87 = .ok (.i2l, 1) := dk_133 (dk_at dksX3_advance_3 19 rfl rfl)
theorem dX3_advance_88 : decode cX3_advance 88 = .ok (.ldc2_w 51, 3) := dk_20 0 51 (dk_at dksX3_advance_3 20 rfl rfl)
theorem dX3_advance_91 : decode cX3_advance 91 = .ok (.ldc2_w 53, 3) := dk_20 0 53 (dk_at dksX3_advance_4 0 rfl rfl)
theorem dX3_advance_94 : decode cX3_advance 94 = .ok (.invokestatic 55, 3) := dk_184 0 55 (dk_at dksX3_advance_4 3 rfl rfl)
theorem dX3_advance_97 : decode cX3_advance 97 = .ok (.ifCond .eq 44, 3) := dk_153 0 44 (dk_at dksX3_advance_4 6 rfl rfl)
theorem dX3_advance_100 : decode cX3_advance 100 = .ok (.aload_n 0, 1) := dk_42 (dk_at dksX3_advance_4 9 rfl rfl)
theorem dX3_advance_101 : decode cX3_advance 101 = .ok (.getfield 41, 3) := dk_180 0 41 (dk_at dksX3_advance_4 10 rfl rfl)
theorem dX3_advance_104 : decode cX3_advance 104 = .ok (.aload_n 0, 1) := dk_42 (dk_at dksX3_advance_4 13 rfl rfl)
theorem dX3_advance_105 : decode cX3_advance 105 = .ok (.getfield 48, 3) := dk_180 0 48 (dk_at dksX3_advance_4 14 rfl rfl)
theorem dX3_advance_108 : decode cX3_advance 108 = .ok (.isub, 1) := dk_100 (dk_at dksX3_advance_4 17 rfl rfl)
theorem dX3_advance_109 : decode cX3_advance 109 = .ok (.bipush 9, 2) := dk_16 9 (dk_at dksX3_advance_4 18 rfl rfl)
theorem dX3_advance_111 : decode cX3_advance 111 = .ok (.if_icmp .gt 17, 3) := dk_163 0 17 (dk_at dksX3_advance_4 20 rfl rfl)
theorem dX3_advance_114 : decode cX3_advance 114 = .ok (.aload_n 2, 1) := dk_44 (dk_at dksX3_advance_4 23 rfl rfl)
theorem dX3_advance_115 : decode cX3_advance 115 = .ok (.aload_n 0, 1) := dk_42 (dk_at dksX3_advance_5 0 rfl rfl)
theorem dX3_advance_116 : decode cX3_advance 116 = .ok (.aload_n 0, 1) := dk_42 (dk_at dksX3_advance_5 1 rfl rfl)
theorem dX3_advance_117 : decode cX3_advance 117 = .ok (.getfield 41, 3) := dk_180 0 41 (dk_at dksX3_advance_5 2 rfl rfl)
theorem dX3_advance_120 : decode cX3_advance 120 = .ok (.invokevirtual 44, 3) := dk_182 0 44 (dk_at dksX3_advance_5 5 rfl rfl)
theorem dX3_advance_123 : decode cX3_advance 123 = .ok (.i2c, 1) := dk_146 (dk_at dksX3_advance_5 8 rfl rfl)
theorem dX3_advance_124 : decode cX3_advance 124 = .ok (.invokevirtual 62, 3) := dk_182 0 62 (dk_at dksX3_advance_5 9 rfl rfl)
theorem dX3_advance_127 : decode cX3_advance 127 = .ok (.pop, 1) := dk_87 (dk_at dksX3_advance_5 12 rfl rfl)
theorem dX3_advance_128 : decode cX3_advance 128 = .ok (.aload_n 0, 1) := dk_42 (dk_at dksX3_advance_5 13 rfl rfl)
theorem dX3_advance_129 : decode cX3_advance 129 = .ok (.dup, 1) := dk_89 (dk_at dksX3_advance_5 14 rfl rfl)
theorem dX3_advance_130 : decode cX3_advance 130 = .ok (.getfield 41, 3) := dk_180 0 41 (dk_at dksX3_advance_5 15 rfl rfl)
theorem dX3_advance_133 : decode cX3_advance 133 = .ok (.iconst 1, 1) := dk_4 (dk_at dksX3_advance_5 18 rfl rfl)
theorem dX3_advance_134 : decode cX3_advance 134 = .ok (.iadd, 1) := dk_96 (dk_at dksX3_advance_5 19 rfl rfl)
theorem dX3_advance_135 : decode cX3_advance 135 = .ok (.putfield 41, 3) := dk_181 0 41 (dk_at dksX3_advance_5 20 rfl rfl)
theorem dX3_advance_138 : decode cX3_advance 138 = .ok (.goto (-59), 3) := dk_167 255 197 (dk_at dksX3_advance_6 0 rfl rfl)
theorem dX3_advance_141 : decode cX3_advance 141 = .ok (.aload_n 0, 1) := dk_42 (dk_at dksX3_advance_6 3 rfl rfl)
theorem dX3_advance_142 : decode cX3_advance 142 = .ok (.aload_n 0, 1) := dk_42 (dk_at dksX3_advance_6 4 rfl rfl)
theorem dX3_advance_143 : decode cX3_advance 143 = .ok (.getfield 41, 3) := dk_180 0 41 (dk_at dksX3_advance_6 5 rfl rfl)
theorem dX3_advance_146 : decode cX3_advance 146 = .ok (.aload_n 0, 1) := dk_42 (dk_at dksX3_advance_6 8 rfl rfl)
theorem dX3_advance_147 : decode cX3_advance 147 = .ok (.getfield 48, 3) := dk_180 0 48 (dk_at dksX3_advance_6 9 rfl rfl)
theorem dX3_advance_150 : decode cX3_advance 150 = .ok (.isub, 1) := dk_100 (dk_at dksX3_advance_6 12 rfl rfl)
theorem dX3_advance_151 : decode cX3_advance 151 = .ok (.bipush 9, 2) := dk_16 9 (dk_at dksX3_advance_6 13 rfl rfl)
theorem dX3_advance_153 : decode cX3_advance 153 = .ok (.if_icmp .le 8, 3) := dk_164 0 8 (dk_at dksX3_advance_6 15 rfl rfl)
theorem dX3_advance_156 : decode cX3_advance 156 = .ok (.ldc 66, 2) := dk_18 66 (dk_at dksX3_advance_6 18 rfl rfl)
theorem dX3_advance_158 : decode cX3_advance 158 = .ok (.goto 4, 3) := dk_167 0 4 (dk_at dksX3_advance_6 20 rfl rfl)
theorem dX3_advance_161 : decode cX3_advance 161 = .ok (.aload_n 2, 1) := dk_44 (dk_at dksX3_advance_6 23 rfl rfl)
theorem dX3_advance_162 : decode cX3_advance 162 = .ok (.putfield 11, 3) := dk_181 0 11 (dk_at dksX3_advance_7 0 rfl rfl)
theorem dX3_advance_165 : decode cX3_advance 165 = .ok (.goto 144, 3) := dk_167 0 144 (dk_at dksX3_advance_7 3 rfl rfl)
theorem dX3_advance_168 : decode cX3_advance 168 = .ok (.iload_n 1, 1) := dk_27 (dk_at dksX3_advance_7 6 rfl rfl)
theorem dX3_advance_169 : decode cX3_advance 169 = .ok (.i2l, 1) := dk_133 (dk_at dksX3_advance_7 7 rfl rfl)
theorem dX3_advance_170 : decode cX3_advance 170 = .ok (.ldc2_w 68, 3) := dk_20 0 68 (dk_at dksX3_advance_7 8 rfl rfl)
theorem dX3_advance_173 : decode cX3_advance 173 = .ok (.ldc2_w 70, 3) := dk_20 0 70 (dk_at dksX3_advance_7 11 rfl rfl)
theorem dX3_advance_176 : decode cX3_advance 176 = .ok (.invokestatic 55, 3) := dk_184 0 55 (dk_at dksX3_advance_7 14 rfl rfl)
theorem dX3_advance_179 : decode cX3_advance 179 = .ok (.ifCond .eq 97, 3) := dk_153 0 97 (dk_at dksX3_advance_7 17 rfl rfl)
theorem dX3_advance_182 : decode cX3_advance 182 = .ok (.aload_n 0, 1) := dk_42 (dk_at dksX3_advance_7 20 rfl rfl)
theorem dX3_advance_183 : decode cX3_advance 183 = .ok (.iconst 0, 1) := dk_3 (dk_at dksX3_advance_7 21 rfl rfl)
theorem dX3_advance_184 : decode cX3_advance 184 = .ok (.putfield 72, 3) := dk_181 0 72 (dk_at dksX3_advance_8 0 rfl rfl)
theorem dX3_advance_187 : decode cX3_advance 187 = .ok (.aload_n 0, 1) := dk_42 (dk_at dksX3_advance_8 3 rfl rfl)
theorem dX3_advance_188 : decode cX3_advance 188 = .ok (.aload_n 0, 1) := dk_42 (dk_at dksX3_advance_8 4 rfl rfl)
theorem dX3_advance_189 : decode cX3_advance 189 = .ok (.getfield 41, 3) := dk_180 0 41 (dk_at dksX3_advance_8 5 rfl rfl)
theorem dX3_advance_192 : decode cX3_advance 192 = .ok (.invokevirtual 44, 3) := dk_182 0 44 (dk_at dksX3_advance_8 8 rfl rfl)
theorem dX3_advance_195 : decode cX3_advance 195 = .ok (.i2l, 1) := dk_133 (dk_at dksX3_advance_8 11 rfl rfl)
theorem dX3_advance_196 : decode cX3_advance 196 = .ok (.ldc2_w 68, 3) := dk_20 0 68 (dk_at dksX3_advance_8 12 rfl rfl)
theorem dX3_advance_199 : decode cX3_advance 199 = .ok (.ldc2_w 70, 3) := dk_20 0 70 (dk_at dksX3_advance_8 15 rfl rfl)
theorem dX3_advance_202 : decode cX3_advance 202 = .ok (.invokestatic 55, 3) := dk_184 0 55 (dk_at dksX3_advance_8 18 rfl rfl)
theorem dX3_advance_205 : decode cX3_advance 205 = .ok (.ifCond .eq 44, 3) := dk_153 0 44 (dk_at dksX3_advance_8 21 rfl rfl)
theorem dX3_advance_208 : decode cX3_advance 208 = .ok (.aload_n 0, 1) := dk_42 (dk_at dksX3_advance_9 0 rfl rfl)
theorem dX3_advance_209 : decode cX3_advance 209 = .ok (.ldc 75, 2) := dk_18 75 (dk_at dksX3_advance_9 1 rfl rfl)
theorem dX3_advance_211 : decode cX3_advance 211 = .ok (.bipush 10, 2) := dk_16 10 (dk_at dksX3_advance_9 3 rfl rfl)
theorem dX3_advance_213 : decode cX3_advance 213 = .ok (.aload_n 0, 1) := dk_42 (dk_at dksX3_advance_9 5 rfl rfl)
theorem dX3_advance_214 : decode cX3_advance 214 = .ok (.getfield 72, 3) := dk_180 0 72 (dk_at dksX3_advance_9 6 rfl rfl)
theorem dX3_advance_217 : decode cX3_advance 217 = .ok (.imul, 1) := dk_104 (dk_at dksX3_advance_9 9 rfl rfl)
theorem dX3_advance_218 : decode cX3_advance 218 = .ok (.aload_n 0, 1) := dk_42 (dk_at dksX3_advance_9 10 rfl rfl)
theorem dX3_advance_219 : decode cX3_advance 219 = .ok (.aload_n 0, 1) := dk_42 (dk_at dksX3_advance_9 11 rfl rfl)
theorem dX3_advance_220 : decode cX3_advance 220 = .ok (.getfield 41, 3) := dk_180 0 41 (dk_at dksX3_advance_9 12 rfl rfl)
theorem dX3_advance_223 : decode cX3_advance 223 = .ok (.invokevirtual 44, 3) := dk_182 0 44 (dk_at dksX3_advance_9 15 rfl rfl)
theorem dX3_advance_226 : decode cX3_advance 226 = .ok (.iadd, 1) := dk_96 (dk_at dksX3_advance_9 18 rfl rfl)
theorem dX3_advance_227 : decode cX3_advance 227 = .ok (.bipush 48, 2) := dk_16 48 (dk_at dksX3_advance_9 19 rfl rfl)
theorem dX3_advance_229 : decode cX3_advance 229 = .ok (.isub, 1) := dk_100 (dk_at dksX3_advance_9 21 rfl rfl)
theorem dX3_advance_230 : decode cX3_advance 230 = .ok (.invokestatic 76, 3) := dk_184 0 76 (dk_at dksX3_advance_10 0 rfl rfl)
theorem dX3_advance_233 : decode cX3_advance 233 = .ok (.putfield 72, 3) := dk_181 0 72 (dk_at dksX3_advance_10 3 rfl rfl)
theorem dX3_advance_236 : decode cX3_advance 236 = .ok (.aload_n 0, 1) := dk_42 (dk_at dksX3_advance_10 6 rfl rfl)
theorem dX3_advance_237 : decode cX3_advance 237 = .ok (.dup, 1) := dk_89 (dk_at dksX3_advance_10 7 rfl rfl)
theorem dX3_advance_238 : decode cX3_advance 238 = .ok (.getfield 41, 3) := dk_180 0 41 (dk_at dksX3_advance_10 8 rfl rfl)
theorem dX3_advance_241 : decode cX3_advance 241 = .ok (.iconst 1, 1) := dk_4 (dk_at dksX3_advance_10 11 rfl rfl)
theorem dX3_advance_242 : decode cX3_advance 242 = .ok (.iadd, 1) := dk_96 (dk_at dksX3_advance_10 12 rfl rfl)
theorem dX3_advance_243 : decode cX3_advance 243 = .ok (.putfield 41, 3) := dk_181 0 41 (dk_at dksX3_advance_10 13 rfl rfl)
theorem dX3_advance_246 : decode cX3_advance 246 = .ok (.goto (-59), 3) := dk_167 255 197 (dk_at dksX3_advance_10 16 rfl rfl)
theorem dX3_advance_249 : decode cX3_advance 249 = .ok (.aload_n 0, 1) := dk_42 (dk_at dksX3_advance_10 19 rfl rfl)
theorem dX3_advance_250 : decode cX3_advance 250 = .ok (.aload_n 0, 1) := dk_42 (dk_at dksX3_advance_10 20 rfl rfl)
theorem dX3_advance_251 : decode cX3_advance 251 = .ok (.getfield 41, 3) := dk_180 0 41 (dk_at dksX3_advance_10 21 rfl rfl)
theorem dX3_advance_254 : decode cX3_advance 254 = .ok (.aload_n 0, 1) := dk_42 (dk_at dksX3_advance_11 0 rfl rfl)
theorem dX3_advance_255 : decode cX3_advance 255 = .ok (.getfield 48, 3) := dk_180 0 48 (dk_at dksX3_advance_11 1 rfl rfl)
theorem dX3_advance_258 : decode cX3_advance 258 = .ok (.isub, 1) := dk_100 (dk_at dksX3_advance_11 4 rfl rfl)
theorem dX3_advance_259 : decode cX3_advance 259 = .ok (.iconst 5, 1) := dk_8 (dk_at dksX3_advance_11 5 rfl rfl)
theorem dX3_advance_260 : decode cX3_advance 260 = .ok (.if_icmp .le 8, 3) := dk_164 0 8 (dk_at dksX3_advance_11 6 rfl rfl)
theorem dX3_advance_263 : decode cX3_advance 263 = .ok (.ldc 66, 2) := dk_18 66 (dk_at dksX3_advance_11 9 rfl rfl)
theorem dX3_advance_265 : decode cX3_advance 265 = .ok (.goto 5, 3) := dk_167 0 5 (dk_at dksX3_advance_11 11 rfl rfl)
theorem dX3_advance_268 : decode cX3_advance 268 = .ok (.ldc 82, 2) := dk_18 82 (dk_at dksX3_advance_11 14 rfl rfl)
theorem dX3_advance_270 : decode cX3_advance 270 = .ok (.putfield 11, 3) := dk_181 0 11 (dk_at dksX3_advance_11 16 rfl rfl)
theorem dX3_advance_273 : decode cX3_advance 273 = .ok (.goto 36, 3) := dk_167 0 36 (dk_at dksX3_advance_11 19 rfl rfl)
theorem dX3_advance_276 : decode cX3_advance 276 = .ok (.aload_n 0, 1) := dk_42 (dk_at dksX3_advance_11 22 rfl rfl)
theorem dX3_advance_277 : decode cX3_advance 277 = .ok (.dup, 1) := dk_89 (dk_at dksX3_advance_11 23 rfl rfl)
theorem dX3_advance_278 : decode cX3_advance 278 = .ok (.getfield 41, 3) := dk_180 0 41 (dk_at dksX3_advance_12 0 rfl rfl)
theorem dX3_advance_281 : decode cX3_advance 281 = .ok (.iconst 1, 1) := dk_4 (dk_at dksX3_advance_12 3 rfl rfl)
theorem dX3_advance_282 : decode cX3_advance 282 = .ok (.iadd, 1) := dk_96 (dk_at dksX3_advance_12 4 rfl rfl)
theorem dX3_advance_283 : decode cX3_advance 283 = .ok (.putfield 41, 3) := dk_181 0 41 (dk_at dksX3_advance_12 5 rfl rfl)
theorem dX3_advance_286 : decode cX3_advance 286 = .ok (.aload_n 0, 1) := dk_42 (dk_at dksX3_advance_12 8 rfl rfl)
theorem dX3_advance_287 : decode cX3_advance 287 = .ok (.ldc 84, 2) := dk_18 84 (dk_at dksX3_advance_12 9 rfl rfl)
theorem dX3_advance_289 : decode cX3_advance 289 = .ok (.iload_n 1, 1) := dk_27 (dk_at dksX3_advance_12 11 rfl rfl)
theorem dX3_advance_290 : decode cX3_advance 290 = .ok (.invokevirtual 86, 3) := dk_182 0 86 (dk_at dksX3_advance_12 12 rfl rfl)
theorem dX3_advance_293 : decode cX3_advance 293 = .ok (.ifCond .ge 8, 3) := dk_156 0 8 (dk_at dksX3_advance_12 15 rfl rfl)
theorem dX3_advance_296 : decode cX3_advance 296 = .ok (.ldc 66, 2) := dk_18 66 (dk_at dksX3_advance_12 18 rfl rfl)
theorem dX3_advance_298 : decode cX3_advance 298 = .ok (.goto 8, 3) := dk_167 0 8 (dk_at dksX3_advance_12 20 rfl rfl)
theorem dX3_advance_301 : decode cX3_advance 301 = .ok (.iload_n 1, 1) := dk_27 (dk_at dksX3_advance_12 23 rfl rfl)
theorem dX3_advance_302 : decode cX3_advance 302 = .ok (.i2c, 1) := dk_146 (dk_at dksX3_advance_13 0 rfl rfl)
theorem dX3_advance_303 : decode cX3_advance 303 = .ok (.invokestatic 91, 3) := dk_184 0 91 (dk_at dksX3_advance_13 1 rfl rfl)
theorem dX3_advance_306 : decode cX3_advance 306 = .ok (.putfield 11, 3) := dk_181 0 11 (dk_at dksX3_advance_13 4 rfl rfl)
theorem dX3_advance_309 : decode cX3_advance 309 = .ok (.return_, 1) := dk_177 (dk_at dksX3_advance_13 7 rfl rfl)
abbrev cX3_at : ByteArray := prog_12_method_2_code
def yX3_at : MethodName := ⟨RX3, "at", "(I)I"⟩
def dkwX3_at_0 : List UInt8 := [27, 42, 180, 0, 37, 162, 0, 16, 42, 180, 0, 33, 27, 51, 17, 0, 255, 126, 167, 0, 4, 2, 172]
abbrev dktX3_at_0 : List UInt8 := dkwX3_at_0 ++ []
theorem dksX3_at_0 : cX3_at.data.toList.drop 0 = dktX3_at_0 := by decide +kernel
theorem dX3_at_0 : decode cX3_at 0 = .ok (.iload_n 1, 1) := dk_27 (dk_at dksX3_at_0 0 rfl rfl)
theorem dX3_at_1 : decode cX3_at 1 = .ok (.aload_n 0, 1) := dk_42 (dk_at dksX3_at_0 1 rfl rfl)
theorem dX3_at_2 : decode cX3_at 2 = .ok (.getfield 37, 3) := dk_180 0 37 (dk_at dksX3_at_0 2 rfl rfl)
theorem dX3_at_5 : decode cX3_at 5 = .ok (.if_icmp .ge 16, 3) := dk_162 0 16 (dk_at dksX3_at_0 5 rfl rfl)
theorem dX3_at_8 : decode cX3_at 8 = .ok (.aload_n 0, 1) := dk_42 (dk_at dksX3_at_0 8 rfl rfl)
theorem dX3_at_9 : decode cX3_at 9 = .ok (.getfield 33, 3) := dk_180 0 33 (dk_at dksX3_at_0 9 rfl rfl)
theorem dX3_at_12 : decode cX3_at 12 = .ok (.iload_n 1, 1) := dk_27 (dk_at dksX3_at_0 12 rfl rfl)
theorem dX3_at_13 : decode cX3_at 13 = .ok (.baload, 1) := dk_51 (dk_at dksX3_at_0 13 rfl rfl)
theorem dX3_at_14 : decode cX3_at 14 = .ok (.sipush 255, 3) := dk_17 0 255 (dk_at dksX3_at_0 14 rfl rfl)
theorem dX3_at_17 : decode cX3_at 17 = .ok (.iand, 1) := dk_126 (dk_at dksX3_at_0 17 rfl rfl)
theorem dX3_at_18 : decode cX3_at 18 = .ok (.goto 4, 3) := dk_167 0 4 (dk_at dksX3_at_0 18 rfl rfl)
theorem dX3_at_21 : decode cX3_at 21 = .ok (.iconst (-1), 1) := dk_2 (dk_at dksX3_at_0 21 rfl rfl)
theorem dX3_at_22 : decode cX3_at 22 = .ok (.ireturn, 1) := dk_172 (dk_at dksX3_at_0 22 rfl rfl)
abbrev cX3_region : ByteArray := prog_12_method_11_code
def yX3_region : MethodName := ⟨RX3, "region", "()V"⟩
def dkwX3_region_5 : List UInt8 := [18, 176, 3, 16, 99, 182, 0, 146, 181, 0, 178, 177]
abbrev dktX3_region_5 : List UInt8 := dkwX3_region_5 ++ []
def dkwX3_region_4 : List UInt8 := [181, 0, 170, 42, 180, 0, 20, 42, 18, 172, 4, 16, 99, 182, 0, 146, 181, 0, 174, 42, 180, 0, 20, 42]
abbrev dktX3_region_4 : List UInt8 := dkwX3_region_4 ++ dktX3_region_5
def dkwX3_region_3 : List UInt8 := [18, 165, 182, 0, 146, 181, 0, 166, 42, 180, 0, 20, 42, 18, 168, 4, 17, 3, 231, 182, 0, 146]
abbrev dktX3_region_3 : List UInt8 := dkwX3_region_3 ++ dktX3_region_4
def dkwX3_region_2 : List UInt8 := [180, 0, 20, 42, 18, 159, 5, 16, 99, 182, 0, 146, 181, 0, 161, 42, 180, 0, 20, 42, 18, 163, 3]
abbrev dktX3_region_2 : List UInt8 := dkwX3_region_2 ++ dktX3_region_3
def dkwX3_region_1 : List UInt8 := [182, 0, 121, 181, 0, 152, 42, 180, 0, 20, 42, 18, 155, 4, 16, 8, 182, 0, 146, 181, 0, 157, 42]
abbrev dktX3_region_1 : List UInt8 := dkwX3_region_1 ++ dktX3_region_2
def dkwX3_region_0 : List UInt8 := [42, 180, 0, 20, 42, 18, 145, 4, 16, 30, 182, 0, 146, 181, 0, 149, 42, 180, 0, 20, 42, 4, 16, 30]
abbrev dktX3_region_0 : List UInt8 := dkwX3_region_0 ++ dktX3_region_1
theorem dksX3_region_0 : cX3_region.data.toList.drop 0 = dktX3_region_0 := by decide +kernel
theorem dksX3_region_1 : cX3_region.data.toList.drop 24 = dktX3_region_1 := dk_seg dksX3_region_0 24 rfl rfl
theorem dksX3_region_2 : cX3_region.data.toList.drop 47 = dktX3_region_2 := dk_seg dksX3_region_1 23 rfl rfl
theorem dksX3_region_3 : cX3_region.data.toList.drop 70 = dktX3_region_3 := dk_seg dksX3_region_2 23 rfl rfl
theorem dksX3_region_4 : cX3_region.data.toList.drop 92 = dktX3_region_4 := dk_seg dksX3_region_3 22 rfl rfl
theorem dksX3_region_5 : cX3_region.data.toList.drop 116 = dktX3_region_5 := dk_seg dksX3_region_4 24 rfl rfl
theorem dX3_region_0 : decode cX3_region 0 = .ok (.aload_n 0, 1) := dk_42 (dk_at dksX3_region_0 0 rfl rfl)
theorem dX3_region_1 : decode cX3_region 1 = .ok (.getfield 20, 3) := dk_180 0 20 (dk_at dksX3_region_0 1 rfl rfl)
theorem dX3_region_4 : decode cX3_region 4 = .ok (.aload_n 0, 1) := dk_42 (dk_at dksX3_region_0 4 rfl rfl)
theorem dX3_region_5 : decode cX3_region 5 = .ok (.ldc 145, 2) := dk_18 145 (dk_at dksX3_region_0 5 rfl rfl)
theorem dX3_region_7 : decode cX3_region 7 = .ok (.iconst 1, 1) := dk_4 (dk_at dksX3_region_0 7 rfl rfl)
theorem dX3_region_8 : decode cX3_region 8 = .ok (.bipush 30, 2) := dk_16 30 (dk_at dksX3_region_0 8 rfl rfl)
theorem dX3_region_10 : decode cX3_region 10 = .ok (.invokevirtual 146, 3) := dk_182 0 146 (dk_at dksX3_region_0 10 rfl rfl)
theorem dX3_region_13 : decode cX3_region 13 = .ok (.putfield 149, 3) := dk_181 0 149 (dk_at dksX3_region_0 13 rfl rfl)
theorem dX3_region_16 : decode cX3_region 16 = .ok (.aload_n 0, 1) := dk_42 (dk_at dksX3_region_0 16 rfl rfl)
theorem dX3_region_17 : decode cX3_region 17 = .ok (.getfield 20, 3) := dk_180 0 20 (dk_at dksX3_region_0 17 rfl rfl)
theorem dX3_region_20 : decode cX3_region 20 = .ok (.aload_n 0, 1) := dk_42 (dk_at dksX3_region_0 20 rfl rfl)
theorem dX3_region_21 : decode cX3_region 21 = .ok (.iconst 1, 1) := dk_4 (dk_at dksX3_region_0 21 rfl rfl)
theorem dX3_region_22 : decode cX3_region 22 = .ok (.bipush 30, 2) := dk_16 30 (dk_at dksX3_region_0 22 rfl rfl)
theorem dX3_region_24 : decode cX3_region 24 = .ok (.invokevirtual 121, 3) := dk_182 0 121 (dk_at dksX3_region_1 0 rfl rfl)
theorem dX3_region_27 : decode cX3_region 27 = .ok (.putfield 152, 3) := dk_181 0 152 (dk_at dksX3_region_1 3 rfl rfl)
theorem dX3_region_30 : decode cX3_region 30 = .ok (.aload_n 0, 1) := dk_42 (dk_at dksX3_region_1 6 rfl rfl)
theorem dX3_region_31 : decode cX3_region 31 = .ok (.getfield 20, 3) := dk_180 0 20 (dk_at dksX3_region_1 7 rfl rfl)
theorem dX3_region_34 : decode cX3_region 34 = .ok (.aload_n 0, 1) := dk_42 (dk_at dksX3_region_1 10 rfl rfl)
theorem dX3_region_35 : decode cX3_region 35 = .ok (.ldc 155, 2) := dk_18 155 (dk_at dksX3_region_1 11 rfl rfl)
theorem dX3_region_37 : decode cX3_region 37 = .ok (.iconst 1, 1) := dk_4 (dk_at dksX3_region_1 13 rfl rfl)
theorem dX3_region_38 : decode cX3_region 38 = .ok (.bipush 8, 2) := dk_16 8 (dk_at dksX3_region_1 14 rfl rfl)
theorem dX3_region_40 : decode cX3_region 40 = .ok (.invokevirtual 146, 3) := dk_182 0 146 (dk_at dksX3_region_1 16 rfl rfl)
theorem dX3_region_43 : decode cX3_region 43 = .ok (.putfield 157, 3) := dk_181 0 157 (dk_at dksX3_region_1 19 rfl rfl)
theorem dX3_region_46 : decode cX3_region 46 = .ok (.aload_n 0, 1) := dk_42 (dk_at dksX3_region_1 22 rfl rfl)
theorem dX3_region_47 : decode cX3_region 47 = .ok (.getfield 20, 3) := dk_180 0 20 (dk_at dksX3_region_2 0 rfl rfl)
theorem dX3_region_50 : decode cX3_region 50 = .ok (.aload_n 0, 1) := dk_42 (dk_at dksX3_region_2 3 rfl rfl)
theorem dX3_region_51 : decode cX3_region 51 = .ok (.ldc 159, 2) := dk_18 159 (dk_at dksX3_region_2 4 rfl rfl)
theorem dX3_region_53 : decode cX3_region 53 = .ok (.iconst 2, 1) := dk_5 (dk_at dksX3_region_2 6 rfl rfl)
theorem dX3_region_54 : decode cX3_region 54 = .ok (.bipush 99, 2) := dk_16 99 (dk_at dksX3_region_2 7 rfl rfl)
theorem dX3_region_56 : decode cX3_region 56 = .ok (.invokevirtual 146, 3) := dk_182 0 146 (dk_at dksX3_region_2 9 rfl rfl)
theorem dX3_region_59 : decode cX3_region 59 = .ok (.putfield 161, 3) := dk_181 0 161 (dk_at dksX3_region_2 12 rfl rfl)
theorem dX3_region_62 : decode cX3_region 62 = .ok (.aload_n 0, 1) := dk_42 (dk_at dksX3_region_2 15 rfl rfl)
theorem dX3_region_63 : decode cX3_region 63 = .ok (.getfield 20, 3) := dk_180 0 20 (dk_at dksX3_region_2 16 rfl rfl)
theorem dX3_region_66 : decode cX3_region 66 = .ok (.aload_n 0, 1) := dk_42 (dk_at dksX3_region_2 19 rfl rfl)
theorem dX3_region_67 : decode cX3_region 67 = .ok (.ldc 163, 2) := dk_18 163 (dk_at dksX3_region_2 20 rfl rfl)
theorem dX3_region_69 : decode cX3_region 69 = .ok (.iconst 0, 1) := dk_3 (dk_at dksX3_region_2 22 rfl rfl)
theorem dX3_region_70 : decode cX3_region 70 = .ok (.ldc 165, 2) := dk_18 165 (dk_at dksX3_region_3 0 rfl rfl)
theorem dX3_region_72 : decode cX3_region 72 = .ok (.invokevirtual 146, 3) := dk_182 0 146 (dk_at dksX3_region_3 2 rfl rfl)
theorem dX3_region_75 : decode cX3_region 75 = .ok (.putfield 166, 3) := dk_181 0 166 (dk_at dksX3_region_3 5 rfl rfl)
theorem dX3_region_78 : decode cX3_region 78 = .ok (.aload_n 0, 1) := dk_42 (dk_at dksX3_region_3 8 rfl rfl)
theorem dX3_region_79 : decode cX3_region 79 = .ok (.getfield 20, 3) := dk_180 0 20 (dk_at dksX3_region_3 9 rfl rfl)
theorem dX3_region_82 : decode cX3_region 82 = .ok (.aload_n 0, 1) := dk_42 (dk_at dksX3_region_3 12 rfl rfl)
theorem dX3_region_83 : decode cX3_region 83 = .ok (.ldc 168, 2) := dk_18 168 (dk_at dksX3_region_3 13 rfl rfl)
theorem dX3_region_85 : decode cX3_region 85 = .ok (.iconst 1, 1) := dk_4 (dk_at dksX3_region_3 15 rfl rfl)
theorem dX3_region_86 : decode cX3_region 86 = .ok (.sipush 999, 3) := dk_17 3 231 (dk_at dksX3_region_3 16 rfl rfl)
theorem dX3_region_89 : decode cX3_region 89 = .ok (.invokevirtual 146, 3) := dk_182 0 146 (dk_at dksX3_region_3 19 rfl rfl)
theorem dX3_region_92 : decode cX3_region 92 = .ok (.putfield 170, 3) := dk_181 0 170 (dk_at dksX3_region_4 0 rfl rfl)
theorem dX3_region_95 : decode cX3_region 95 = .ok (.aload_n 0, 1) := dk_42 (dk_at dksX3_region_4 3 rfl rfl)
theorem dX3_region_96 : decode cX3_region 96 = .ok (.getfield 20, 3) := dk_180 0 20 (dk_at dksX3_region_4 4 rfl rfl)
theorem dX3_region_99 : decode cX3_region 99 = .ok (.aload_n 0, 1) := dk_42 (dk_at dksX3_region_4 7 rfl rfl)
theorem dX3_region_100 : decode cX3_region 100 = .ok (.ldc 172, 2) := dk_18 172 (dk_at dksX3_region_4 8 rfl rfl)
theorem dX3_region_102 : decode cX3_region 102 = .ok (.iconst 1, 1) := dk_4 (dk_at dksX3_region_4 10 rfl rfl)
theorem dX3_region_103 : decode cX3_region 103 = .ok (.bipush 99, 2) := dk_16 99 (dk_at dksX3_region_4 11 rfl rfl)
theorem dX3_region_105 : decode cX3_region 105 = .ok (.invokevirtual 146, 3) := dk_182 0 146 (dk_at dksX3_region_4 13 rfl rfl)
theorem dX3_region_108 : decode cX3_region 108 = .ok (.putfield 174, 3) := dk_181 0 174 (dk_at dksX3_region_4 16 rfl rfl)
theorem dX3_region_111 : decode cX3_region 111 = .ok (.aload_n 0, 1) := dk_42 (dk_at dksX3_region_4 19 rfl rfl)
theorem dX3_region_112 : decode cX3_region 112 = .ok (.getfield 20, 3) := dk_180 0 20 (dk_at dksX3_region_4 20 rfl rfl)
theorem dX3_region_115 : decode cX3_region 115 = .ok (.aload_n 0, 1) := dk_42 (dk_at dksX3_region_4 23 rfl rfl)
theorem dX3_region_116 : decode cX3_region 116 = .ok (.ldc 176, 2) := dk_18 176 (dk_at dksX3_region_5 0 rfl rfl)
theorem dX3_region_118 : decode cX3_region 118 = .ok (.iconst 0, 1) := dk_3 (dk_at dksX3_region_5 2 rfl rfl)
theorem dX3_region_119 : decode cX3_region 119 = .ok (.bipush 99, 2) := dk_16 99 (dk_at dksX3_region_5 3 rfl rfl)
theorem dX3_region_121 : decode cX3_region 121 = .ok (.invokevirtual 146, 3) := dk_182 0 146 (dk_at dksX3_region_5 5 rfl rfl)
theorem dX3_region_124 : decode cX3_region 124 = .ok (.putfield 178, 3) := dk_181 0 178 (dk_at dksX3_region_5 8 rfl rfl)
theorem dX3_region_127 : decode cX3_region 127 = .ok (.return_, 1) := dk_177 (dk_at dksX3_region_5 11 rfl rfl)
abbrev cX3_number : ByteArray := prog_12_method_9_code
def yX3_number : MethodName := ⟨RX3, "number", "(Ljava/lang/String;II)I"⟩
def dkwX3_number_0 : List UInt8 := [42, 43, 182, 0, 117, 42, 28, 29, 182, 0, 121, 172]
abbrev dktX3_number_0 : List UInt8 := dkwX3_number_0 ++ []
theorem dksX3_number_0 : cX3_number.data.toList.drop 0 = dktX3_number_0 := by decide +kernel
theorem dX3_number_0 : decode cX3_number 0 = .ok (.aload_n 0, 1) := dk_42 (dk_at dksX3_number_0 0 rfl rfl)
theorem dX3_number_1 : decode cX3_number 1 = .ok (.aload_n 1, 1) := dk_43 (dk_at dksX3_number_0 1 rfl rfl)
theorem dX3_number_2 : decode cX3_number 2 = .ok (.invokevirtual 117, 3) := dk_182 0 117 (dk_at dksX3_number_0 2 rfl rfl)
theorem dX3_number_5 : decode cX3_number 5 = .ok (.aload_n 0, 1) := dk_42 (dk_at dksX3_number_0 5 rfl rfl)
theorem dX3_number_6 : decode cX3_number 6 = .ok (.iload_n 2, 1) := dk_28 (dk_at dksX3_number_0 6 rfl rfl)
theorem dX3_number_7 : decode cX3_number 7 = .ok (.iload_n 3, 1) := dk_29 (dk_at dksX3_number_0 7 rfl rfl)
theorem dX3_number_8 : decode cX3_number 8 = .ok (.invokevirtual 121, 3) := dk_182 0 121 (dk_at dksX3_number_0 8 rfl rfl)
theorem dX3_number_11 : decode cX3_number 11 = .ok (.ireturn, 1) := dk_172 (dk_at dksX3_number_0 11 rfl rfl)
abbrev cX3_expect : ByteArray := prog_12_method_6_code
def yX3_expect : MethodName := ⟨RX3, "expect", "(Ljava/lang/String;)V"⟩
def dkwX3_expect_0 : List UInt8 := [42, 43, 182, 0, 107, 154, 0, 9, 42, 4, 182, 0, 110, 191, 177]
abbrev dktX3_expect_0 : List UInt8 := dkwX3_expect_0 ++ []
theorem dksX3_expect_0 : cX3_expect.data.toList.drop 0 = dktX3_expect_0 := by decide +kernel
theorem dX3_expect_0 : decode cX3_expect 0 = .ok (.aload_n 0, 1) := dk_42 (dk_at dksX3_expect_0 0 rfl rfl)
theorem dX3_expect_1 : decode cX3_expect 1 = .ok (.aload_n 1, 1) := dk_43 (dk_at dksX3_expect_0 1 rfl rfl)
theorem dX3_expect_2 : decode cX3_expect 2 = .ok (.invokevirtual 107, 3) := dk_182 0 107 (dk_at dksX3_expect_0 2 rfl rfl)
theorem dX3_expect_5 : decode cX3_expect 5 = .ok (.ifCond .ne 9, 3) := dk_154 0 9 (dk_at dksX3_expect_0 5 rfl rfl)
theorem dX3_expect_8 : decode cX3_expect 8 = .ok (.aload_n 0, 1) := dk_42 (dk_at dksX3_expect_0 8 rfl rfl)
theorem dX3_expect_9 : decode cX3_expect 9 = .ok (.iconst 1, 1) := dk_4 (dk_at dksX3_expect_0 9 rfl rfl)
theorem dX3_expect_10 : decode cX3_expect 10 = .ok (.invokevirtual 110, 3) := dk_182 0 110 (dk_at dksX3_expect_0 10 rfl rfl)
theorem dX3_expect_13 : decode cX3_expect 13 = .ok (.athrow, 1) := dk_191 (dk_at dksX3_expect_0 13 rfl rfl)
theorem dX3_expect_14 : decode cX3_expect 14 = .ok (.return_, 1) := dk_177 (dk_at dksX3_expect_0 14 rfl rfl)
abbrev cX3_takes : ByteArray := prog_12_method_5_code
def yX3_takes : MethodName := ⟨RX3, "takes", "(Ljava/lang/String;)Z"⟩
def dkwX3_takes_0 : List UInt8 := [42, 43, 182, 0, 100, 61, 28, 153, 0, 7, 42, 182, 0, 104, 28, 172]
abbrev dktX3_takes_0 : List UInt8 := dkwX3_takes_0 ++ []
theorem dksX3_takes_0 : cX3_takes.data.toList.drop 0 = dktX3_takes_0 := by decide +kernel
theorem dX3_takes_0 : decode cX3_takes 0 = .ok (.aload_n 0, 1) := dk_42 (dk_at dksX3_takes_0 0 rfl rfl)
theorem dX3_takes_1 : decode cX3_takes 1 = .ok (.aload_n 1, 1) := dk_43 (dk_at dksX3_takes_0 1 rfl rfl)
theorem dX3_takes_2 : decode cX3_takes 2 = .ok (.invokevirtual 100, 3) := dk_182 0 100 (dk_at dksX3_takes_0 2 rfl rfl)
theorem dX3_takes_5 : decode cX3_takes 5 = .ok (.istore_n 2, 1) := dk_61 (dk_at dksX3_takes_0 5 rfl rfl)
theorem dX3_takes_6 : decode cX3_takes 6 = .ok (.iload_n 2, 1) := dk_28 (dk_at dksX3_takes_0 6 rfl rfl)
theorem dX3_takes_7 : decode cX3_takes 7 = .ok (.ifCond .eq 7, 3) := dk_153 0 7 (dk_at dksX3_takes_0 7 rfl rfl)
theorem dX3_takes_10 : decode cX3_takes 10 = .ok (.aload_n 0, 1) := dk_42 (dk_at dksX3_takes_0 10 rfl rfl)
theorem dX3_takes_11 : decode cX3_takes 11 = .ok (.invokevirtual 104, 3) := dk_182 0 104 (dk_at dksX3_takes_0 11 rfl rfl)
theorem dX3_takes_14 : decode cX3_takes 14 = .ok (.iload_n 2, 1) := dk_28 (dk_at dksX3_takes_0 14 rfl rfl)
theorem dX3_takes_15 : decode cX3_takes 15 = .ok (.ireturn, 1) := dk_172 (dk_at dksX3_takes_0 15 rfl rfl)
abbrev cX3_is : ByteArray := prog_12_method_19_code
def yX3_is : MethodName := ⟨RX3, "is", "(Ljava/lang/String;)Z"⟩
def dkwX3_is_0 : List UInt8 := [42, 180, 0, 11, 185, 0, 180, 1, 0, 43, 182, 0, 189, 172]
abbrev dktX3_is_0 : List UInt8 := dkwX3_is_0 ++ []
theorem dksX3_is_0 : cX3_is.data.toList.drop 0 = dktX3_is_0 := by decide +kernel
theorem dX3_is_0 : decode cX3_is 0 = .ok (.aload_n 0, 1) := dk_42 (dk_at dksX3_is_0 0 rfl rfl)
theorem dX3_is_1 : decode cX3_is 1 = .ok (.getfield 11, 3) := dk_180 0 11 (dk_at dksX3_is_0 1 rfl rfl)
theorem dX3_is_4 : decode cX3_is 4 = .ok (.invokeinterface 180 1, 5) := by decide +kernel
theorem dX3_is_9 : decode cX3_is 9 = .ok (.aload_n 1, 1) := dk_43 (dk_at dksX3_is_0 9 rfl rfl)
theorem dX3_is_10 : decode cX3_is 10 = .ok (.invokevirtual 189, 3) := dk_182 0 189 (dk_at dksX3_is_0 10 rfl rfl)
theorem dX3_is_13 : decode cX3_is 13 = .ok (.ireturn, 1) := dk_172 (dk_at dksX3_is_0 13 rfl rfl)
abbrev cX3_flaw : ByteArray := prog_12_method_4_code
def yX3_flaw : MethodName := ⟨RX3, "flaw", "(I)LSpectrumAccess$Flaw;"⟩
def dkwX3_flaw_0 : List UInt8 := [187, 0, 95, 89, 27, 42, 180, 0, 48, 183, 0, 97, 176]
abbrev dktX3_flaw_0 : List UInt8 := dkwX3_flaw_0 ++ []
theorem dksX3_flaw_0 : cX3_flaw.data.toList.drop 0 = dktX3_flaw_0 := by decide +kernel
theorem dX3_flaw_0 : decode cX3_flaw 0 = .ok (.new 95, 3) := dk_187 0 95 (dk_at dksX3_flaw_0 0 rfl rfl)
theorem dX3_flaw_3 : decode cX3_flaw 3 = .ok (.dup, 1) := dk_89 (dk_at dksX3_flaw_0 3 rfl rfl)
theorem dX3_flaw_4 : decode cX3_flaw 4 = .ok (.iload_n 1, 1) := dk_27 (dk_at dksX3_flaw_0 4 rfl rfl)
theorem dX3_flaw_5 : decode cX3_flaw 5 = .ok (.aload_n 0, 1) := dk_42 (dk_at dksX3_flaw_0 5 rfl rfl)
theorem dX3_flaw_6 : decode cX3_flaw 6 = .ok (.getfield 48, 3) := dk_180 0 48 (dk_at dksX3_flaw_0 6 rfl rfl)
theorem dX3_flaw_9 : decode cX3_flaw 9 = .ok (.invokespecial 97, 3) := dk_183 0 97 (dk_at dksX3_flaw_0 9 rfl rfl)
theorem dX3_flaw_12 : decode cX3_flaw 12 = .ok (.areturn, 1) := dk_176 (dk_at dksX3_flaw_0 12 rfl rfl)
abbrev cX3_number_2 : ByteArray := prog_12_method_7_code
def yX3_number_2 : MethodName := ⟨RX3, "number", "(II)I"⟩
def dkwX3_number_2_0 : List UInt8 := [42, 27, 28, 182, 0, 114, 62, 42, 182, 0, 104, 29, 172]
abbrev dktX3_number_2_0 : List UInt8 := dkwX3_number_2_0 ++ []
theorem dksX3_number_2_0 : cX3_number_2.data.toList.drop 0 = dktX3_number_2_0 := by decide +kernel
theorem dX3_number_2_0 : decode cX3_number_2 0 = .ok (.aload_n 0, 1) := dk_42 (dk_at dksX3_number_2_0 0 rfl rfl)
theorem dX3_number_2_1 : decode cX3_number_2 1 = .ok (.iload_n 1, 1) := dk_27 (dk_at dksX3_number_2_0 1 rfl rfl)
theorem dX3_number_2_2 : decode cX3_number_2 2 = .ok (.iload_n 2, 1) := dk_28 (dk_at dksX3_number_2_0 2 rfl rfl)
theorem dX3_number_2_3 : decode cX3_number_2 3 = .ok (.invokevirtual 114, 3) := dk_182 0 114 (dk_at dksX3_number_2_0 3 rfl rfl)
theorem dX3_number_2_6 : decode cX3_number_2 6 = .ok (.istore_n 3, 1) := dk_62 (dk_at dksX3_number_2_0 6 rfl rfl)
theorem dX3_number_2_7 : decode cX3_number_2 7 = .ok (.aload_n 0, 1) := dk_42 (dk_at dksX3_number_2_0 7 rfl rfl)
theorem dX3_number_2_8 : decode cX3_number_2 8 = .ok (.invokevirtual 104, 3) := dk_182 0 104 (dk_at dksX3_number_2_0 8 rfl rfl)
theorem dX3_number_2_11 : decode cX3_number_2 11 = .ok (.iload_n 3, 1) := dk_29 (dk_at dksX3_number_2_0 11 rfl rfl)
theorem dX3_number_2_12 : decode cX3_number_2 12 = .ok (.ireturn, 1) := dk_172 (dk_at dksX3_number_2_0 12 rfl rfl)
abbrev cX3_numberHere : ByteArray := prog_12_method_8_code
def yX3_numberHere : MethodName := ⟨RX3, "numberHere", "(II)I"⟩
def dkwX3_numberHere_1 : List UInt8 := [184, 0, 55, 154, 0, 9, 42, 5, 182, 0, 110, 191, 42, 180, 0, 72, 172]
abbrev dktX3_numberHere_1 : List UInt8 := dkwX3_numberHere_1 ++ []
def dkwX3_numberHere_0 : List UInt8 := [42, 18, 82, 182, 0, 100, 154, 0, 9, 42, 4, 182, 0, 110, 191, 42, 180, 0, 72, 133, 27, 133, 28, 133]
abbrev dktX3_numberHere_0 : List UInt8 := dkwX3_numberHere_0 ++ dktX3_numberHere_1
theorem dksX3_numberHere_0 : cX3_numberHere.data.toList.drop 0 = dktX3_numberHere_0 := by decide +kernel
theorem dksX3_numberHere_1 : cX3_numberHere.data.toList.drop 24 = dktX3_numberHere_1 := dk_seg dksX3_numberHere_0 24 rfl rfl
theorem dX3_numberHere_0 : decode cX3_numberHere 0 = .ok (.aload_n 0, 1) := dk_42 (dk_at dksX3_numberHere_0 0 rfl rfl)
theorem dX3_numberHere_1 : decode cX3_numberHere 1 = .ok (.ldc 82, 2) := dk_18 82 (dk_at dksX3_numberHere_0 1 rfl rfl)
theorem dX3_numberHere_3 : decode cX3_numberHere 3 = .ok (.invokevirtual 100, 3) := dk_182 0 100 (dk_at dksX3_numberHere_0 3 rfl rfl)
theorem dX3_numberHere_6 : decode cX3_numberHere 6 = .ok (.ifCond .ne 9, 3) := dk_154 0 9 (dk_at dksX3_numberHere_0 6 rfl rfl)
theorem dX3_numberHere_9 : decode cX3_numberHere 9 = .ok (.aload_n 0, 1) := dk_42 (dk_at dksX3_numberHere_0 9 rfl rfl)
theorem dX3_numberHere_10 : decode cX3_numberHere 10 = .ok (.iconst 1, 1) := dk_4 (dk_at dksX3_numberHere_0 10 rfl rfl)
theorem dX3_numberHere_11 : decode cX3_numberHere 11 = .ok (.invokevirtual 110, 3) := dk_182 0 110 (dk_at dksX3_numberHere_0 11 rfl rfl)
theorem dX3_numberHere_14 : decode cX3_numberHere 14 = .ok (.athrow, 1) := dk_191 (dk_at dksX3_numberHere_0 14 rfl rfl)
theorem dX3_numberHere_15 : decode cX3_numberHere 15 = .ok (.aload_n 0, 1) := dk_42 (dk_at dksX3_numberHere_0 15 rfl rfl)
theorem dX3_numberHere_16 : decode cX3_numberHere 16 = .ok (.getfield 72, 3) := dk_180 0 72 (dk_at dksX3_numberHere_0 16 rfl rfl)
theorem dX3_numberHere_19 : decode cX3_numberHere 19 = .ok (.i2l, 1) := dk_133 (dk_at dksX3_numberHere_0 19 rfl rfl)
theorem dX3_numberHere_20 : decode cX3_numberHere 20 = .ok (.iload_n 1, 1) := dk_27 (dk_at dksX3_numberHere_0 20 rfl rfl)
theorem dX3_numberHere_21 : decode cX3_numberHere 21 = .ok (.i2l, 1) := dk_133 (dk_at dksX3_numberHere_0 21 rfl rfl)
theorem dX3_numberHere_22 : decode cX3_numberHere 22 = .ok (.iload_n 2, 1) := dk_28 (dk_at dksX3_numberHere_0 22 rfl rfl)
theorem dX3_numberHere_23 : decode cX3_numberHere 23 = .ok (.i2l, 1) := dk_133 (dk_at dksX3_numberHere_0 23 rfl rfl)
theorem dX3_numberHere_24 : decode cX3_numberHere 24 = .ok (.invokestatic 55, 3) := dk_184 0 55 (dk_at dksX3_numberHere_1 0 rfl rfl)
theorem dX3_numberHere_27 : decode cX3_numberHere 27 = .ok (.ifCond .ne 9, 3) := dk_154 0 9 (dk_at dksX3_numberHere_1 3 rfl rfl)
theorem dX3_numberHere_30 : decode cX3_numberHere 30 = .ok (.aload_n 0, 1) := dk_42 (dk_at dksX3_numberHere_1 6 rfl rfl)
theorem dX3_numberHere_31 : decode cX3_numberHere 31 = .ok (.iconst 2, 1) := dk_5 (dk_at dksX3_numberHere_1 7 rfl rfl)
theorem dX3_numberHere_32 : decode cX3_numberHere 32 = .ok (.invokevirtual 110, 3) := dk_182 0 110 (dk_at dksX3_numberHere_1 8 rfl rfl)
theorem dX3_numberHere_35 : decode cX3_numberHere 35 = .ok (.athrow, 1) := dk_191 (dk_at dksX3_numberHere_1 11 rfl rfl)
theorem dX3_numberHere_36 : decode cX3_numberHere 36 = .ok (.aload_n 0, 1) := dk_42 (dk_at dksX3_numberHere_1 12 rfl rfl)
theorem dX3_numberHere_37 : decode cX3_numberHere 37 = .ok (.getfield 72, 3) := dk_180 0 72 (dk_at dksX3_numberHere_1 13 rfl rfl)
theorem dX3_numberHere_40 : decode cX3_numberHere 40 = .ok (.ireturn, 1) := dk_172 (dk_at dksX3_numberHere_1 16 rfl rfl)
abbrev cX3_line : ByteArray := prog_12_method_12_code
def yX3_line : MethodName := ⟨RX3, "line", "()V"⟩
def dkwX3_line_21 : List UInt8 := [167, 0, 7, 42, 182, 0, 238, 177]
abbrev dktX3_line_21 : List UInt8 := dkwX3_line_21 ++ []
def dkwX3_line_20 : List UInt8 := [182, 0, 232, 167, 0, 27, 42, 180, 0, 20, 180, 0, 213, 42, 182, 0, 234, 185, 0, 229, 2, 0, 87]
abbrev dktX3_line_20 : List UInt8 := dkwX3_line_20 ++ dktX3_line_21
def dkwX3_line_19 : List UInt8 := [182, 0, 223, 42, 3, 16, 99, 182, 0, 121, 183, 0, 226, 185, 0, 229, 2, 0, 87, 167, 0, 34, 42]
abbrev dktX3_line_19 : List UInt8 := dkwX3_line_19 ++ dktX3_line_20
def dkwX3_line_18 : List UInt8 := [42, 182, 0, 216, 167, 0, 72, 42, 180, 0, 20, 180, 0, 207, 187, 0, 218, 89, 42, 182, 0, 220, 42]
abbrev dktX3_line_18 : List UInt8 := dkwX3_line_18 ++ dktX3_line_19
def dkwX3_line_17 : List UInt8 := [170, 0, 0, 0, 101, 0, 0, 0, 0, 0, 0, 0, 3, 0, 0, 0, 29, 0, 0, 0, 36, 0, 0, 0, 74, 0, 0, 0, 81]
abbrev dktX3_line_17 : List UInt8 := dkwX3_line_17 ++ dktX3_line_18
def dkwX3_line_16 : List UInt8 := [182, 0, 189, 153, 0, 6, 6, 54, 4, 21, 4]
abbrev dktX3_line_16 : List UInt8 := dkwX3_line_16 ++ dktX3_line_17
def dkwX3_line_15 : List UInt8 := [4, 54, 4, 167, 0, 30, 45, 18, 195, 182, 0, 189, 153, 0, 21, 5, 54, 4, 167, 0, 15, 45, 18, 199]
abbrev dktX3_line_15 : List UInt8 := dkwX3_line_15 ++ dktX3_line_16
def dkwX3_line_14 : List UInt8 := [45, 18, 187, 182, 0, 189, 153, 0, 51, 3, 54, 4, 167, 0, 45, 45, 18, 193, 182, 0, 189, 153, 0, 36]
abbrev dktX3_line_14 : List UInt8 := dkwX3_line_14 ++ dktX3_line_15
def dkwX3_line_13 : List UInt8 := [171, 0, 0, 0, 0, 99, 0, 0, 0, 4, 181, 176, 209, 63, 0, 0, 0, 42, 202, 0, 83, 186, 0, 0, 0, 57, 0, 46, 254, 12, 0, 0, 0, 87, 9, 240, 130, 81, 0, 0, 0, 72]
abbrev dktX3_line_13 : List UInt8 := dkwX3_line_13 ++ dktX3_line_14
def dkwX3_line_12 : List UInt8 := [45, 182, 0, 184]
abbrev dktX3_line_12 : List UInt8 := dkwX3_line_12 ++ dktX3_line_13
def dkwX3_line_11 : List UInt8 := [182, 0, 110, 191, 61, 28, 154, 0, 9, 42, 7, 182, 0, 110, 191, 42, 182, 0, 104, 43, 78, 2, 54, 4]
abbrev dktX3_line_11 : List UInt8 := dkwX3_line_11 ++ dktX3_line_12
def dkwX3_line_10 : List UInt8 := [167, 0, 26, 7, 42, 180, 0, 20, 180, 0, 213, 185, 0, 204, 1, 0, 100, 167, 0, 9, 42, 4]
abbrev dktX3_line_10 : List UInt8 := dkwX3_line_10 ++ dktX3_line_11
def dkwX3_line_9 : List UInt8 := [185, 0, 204, 1, 0, 100, 167, 0, 44, 16, 16, 42, 180, 0, 20, 180, 0, 135, 185, 0, 204, 1, 0, 100]
abbrev dktX3_line_9 : List UInt8 := dkwX3_line_9 ++ dktX3_line_10
def dkwX3_line_8 : List UInt8 := [180, 0, 207, 185, 0, 204, 1, 0, 100, 167, 0, 61, 8, 42, 180, 0, 20, 180, 0, 210]
abbrev dktX3_line_8 : List UInt8 := dkwX3_line_8 ++ dktX3_line_9
def dkwX3_line_7 : List UInt8 := [16, 6, 42, 180, 0, 29, 180, 0, 201, 185, 0, 204, 1, 0, 100, 167, 0, 79, 16, 6, 42, 180, 0, 20]
abbrev dktX3_line_7 : List UInt8 := dkwX3_line_7 ++ dktX3_line_8
def dkwX3_line_6 : List UInt8 := [170, 0, 0, 0, 0, 122, 0, 0, 0, 0, 0, 0, 0, 4, 0, 0, 0, 34, 0, 0, 0, 52, 0, 0, 0, 70, 0, 0, 0, 87, 0, 0, 0, 105]
abbrev dktX3_line_6 : List UInt8 := dkwX3_line_6 ++ dktX3_line_7
def dkwX3_line_5 : List UInt8 := [21, 4]
abbrev dktX3_line_5 : List UInt8 := dkwX3_line_5 ++ dktX3_line_6
def dkwX3_line_4 : List UInt8 := [182, 0, 189, 153, 0, 21, 6, 54, 4, 167, 0, 15, 45, 18, 199, 182, 0, 189, 153, 0, 6, 7, 54, 4]
abbrev dktX3_line_4 : List UInt8 := dkwX3_line_4 ++ dktX3_line_5
def dkwX3_line_3 : List UInt8 := [4, 54, 4, 167, 0, 45, 45, 18, 195, 182, 0, 189, 153, 0, 36, 5, 54, 4, 167, 0, 30, 45, 18, 197]
abbrev dktX3_line_3 : List UInt8 := dkwX3_line_3 ++ dktX3_line_4
def dkwX3_line_2 : List UInt8 := [45, 18, 187, 182, 0, 189, 153, 0, 66, 3, 54, 4, 167, 0, 60, 45, 18, 193, 182, 0, 189, 153, 0, 51]
abbrev dktX3_line_2 : List UInt8 := dkwX3_line_2 ++ dktX3_line_3
def dkwX3_line_1 : List UInt8 := [171, 0, 0, 0, 121, 0, 0, 0, 5, 176, 107, 30, 86, 0, 0, 0, 94, 181, 176, 209, 63, 0, 0, 0, 49, 202, 0, 83, 186, 0, 0, 0, 64, 0, 46, 254, 12, 0, 0, 0, 109, 9, 240, 130, 81, 0, 0, 0, 79]
abbrev dktX3_line_1 : List UInt8 := dkwX3_line_1 ++ dktX3_line_2
def dkwX3_line_0 : List UInt8 := [42, 180, 0, 11, 185, 0, 180, 1, 0, 76, 43, 78, 2, 54, 4, 45, 182, 0, 184]
abbrev dktX3_line_0 : List UInt8 := dkwX3_line_0 ++ dktX3_line_1
theorem dksX3_line_0 : cX3_line.data.toList.drop 0 = dktX3_line_0 := by decide +kernel
theorem dksX3_line_1 : cX3_line.data.toList.drop 19 = dktX3_line_1 := dk_seg dksX3_line_0 19 rfl rfl
theorem dksX3_line_2 : cX3_line.data.toList.drop 68 = dktX3_line_2 := dk_seg dksX3_line_1 49 rfl rfl
theorem dksX3_line_3 : cX3_line.data.toList.drop 92 = dktX3_line_3 := dk_seg dksX3_line_2 24 rfl rfl
theorem dksX3_line_4 : cX3_line.data.toList.drop 116 = dktX3_line_4 := dk_seg dksX3_line_3 24 rfl rfl
theorem dksX3_line_5 : cX3_line.data.toList.drop 140 = dktX3_line_5 := dk_seg dksX3_line_4 24 rfl rfl
theorem dksX3_line_6 : cX3_line.data.toList.drop 142 = dktX3_line_6 := dk_seg dksX3_line_5 2 rfl rfl
theorem dksX3_line_7 : cX3_line.data.toList.drop 176 = dktX3_line_7 := dk_seg dksX3_line_6 34 rfl rfl
theorem dksX3_line_8 : cX3_line.data.toList.drop 200 = dktX3_line_8 := dk_seg dksX3_line_7 24 rfl rfl
theorem dksX3_line_9 : cX3_line.data.toList.drop 220 = dktX3_line_9 := dk_seg dksX3_line_8 20 rfl rfl
theorem dksX3_line_10 : cX3_line.data.toList.drop 244 = dktX3_line_10 := dk_seg dksX3_line_9 24 rfl rfl
theorem dksX3_line_11 : cX3_line.data.toList.drop 266 = dktX3_line_11 := dk_seg dksX3_line_10 22 rfl rfl
theorem dksX3_line_12 : cX3_line.data.toList.drop 290 = dktX3_line_12 := dk_seg dksX3_line_11 24 rfl rfl
theorem dksX3_line_13 : cX3_line.data.toList.drop 294 = dktX3_line_13 := dk_seg dksX3_line_12 4 rfl rfl
theorem dksX3_line_14 : cX3_line.data.toList.drop 336 = dktX3_line_14 := dk_seg dksX3_line_13 42 rfl rfl
theorem dksX3_line_15 : cX3_line.data.toList.drop 360 = dktX3_line_15 := dk_seg dksX3_line_14 24 rfl rfl
theorem dksX3_line_16 : cX3_line.data.toList.drop 384 = dktX3_line_16 := dk_seg dksX3_line_15 24 rfl rfl
theorem dksX3_line_17 : cX3_line.data.toList.drop 395 = dktX3_line_17 := dk_seg dksX3_line_16 11 rfl rfl
theorem dksX3_line_18 : cX3_line.data.toList.drop 424 = dktX3_line_18 := dk_seg dksX3_line_17 29 rfl rfl
theorem dksX3_line_19 : cX3_line.data.toList.drop 447 = dktX3_line_19 := dk_seg dksX3_line_18 23 rfl rfl
theorem dksX3_line_20 : cX3_line.data.toList.drop 470 = dktX3_line_20 := dk_seg dksX3_line_19 23 rfl rfl
theorem dksX3_line_21 : cX3_line.data.toList.drop 493 = dktX3_line_21 := dk_seg dksX3_line_20 23 rfl rfl
theorem dX3_line_0 : decode cX3_line 0 = .ok (.aload_n 0, 1) := dk_42 (dk_at dksX3_line_0 0 rfl rfl)
theorem dX3_line_1 : decode cX3_line 1 = .ok (.getfield 11, 3) := dk_180 0 11 (dk_at dksX3_line_0 1 rfl rfl)
theorem dX3_line_4 : decode cX3_line 4 = .ok (.invokeinterface 180 1, 5) := by decide +kernel
theorem dX3_line_9 : decode cX3_line 9 = .ok (.astore_n 1, 1) := dk_76 (dk_at dksX3_line_0 9 rfl rfl)
theorem dX3_line_10 : decode cX3_line 10 = .ok (.aload_n 1, 1) := dk_43 (dk_at dksX3_line_0 10 rfl rfl)
theorem dX3_line_11 : decode cX3_line 11 = .ok (.astore_n 3, 1) := dk_78 (dk_at dksX3_line_0 11 rfl rfl)
theorem dX3_line_12 : decode cX3_line 12 = .ok (.iconst (-1), 1) := dk_2 (dk_at dksX3_line_0 12 rfl rfl)
theorem dX3_line_13 : decode cX3_line 13 = .ok (.istore 4, 2) := dk_54 4 (dk_at dksX3_line_0 13 rfl rfl)
theorem dX3_line_15 : decode cX3_line 15 = .ok (.aload_n 3, 1) := dk_45 (dk_at dksX3_line_0 15 rfl rfl)
theorem dX3_line_16 : decode cX3_line 16 = .ok (.invokevirtual 184, 3) := dk_182 0 184 (dk_at dksX3_line_0 16 rfl rfl)
theorem dX3_line_19 : decode cX3_line 19 = .ok (.lookupswitch 121 #[(-1335157162, 94), (-1246703297, 49), (-905948230, 64), (3079692, 109), (166756945, 79)], 49) := by decide +kernel
theorem dX3_line_68 : decode cX3_line 68 = .ok (.aload_n 3, 1) := dk_45 (dk_at dksX3_line_2 0 rfl rfl)
theorem dX3_line_69 : decode cX3_line 69 = .ok (.ldc 187, 2) := dk_18 187 (dk_at dksX3_line_2 1 rfl rfl)
theorem dX3_line_71 : decode cX3_line 71 = .ok (.invokevirtual 189, 3) := dk_182 0 189 (dk_at dksX3_line_2 3 rfl rfl)
theorem dX3_line_74 : decode cX3_line 74 = .ok (.ifCond .eq 66, 3) := dk_153 0 66 (dk_at dksX3_line_2 6 rfl rfl)
theorem dX3_line_77 : decode cX3_line 77 = .ok (.iconst 0, 1) := dk_3 (dk_at dksX3_line_2 9 rfl rfl)
theorem dX3_line_78 : decode cX3_line 78 = .ok (.istore 4, 2) := dk_54 4 (dk_at dksX3_line_2 10 rfl rfl)
theorem dX3_line_80 : decode cX3_line 80 = .ok (.goto 60, 3) := dk_167 0 60 (dk_at dksX3_line_2 12 rfl rfl)
theorem dX3_line_83 : decode cX3_line 83 = .ok (.aload_n 3, 1) := dk_45 (dk_at dksX3_line_2 15 rfl rfl)
theorem dX3_line_84 : decode cX3_line 84 = .ok (.ldc 193, 2) := dk_18 193 (dk_at dksX3_line_2 16 rfl rfl)
theorem dX3_line_86 : decode cX3_line 86 = .ok (.invokevirtual 189, 3) := dk_182 0 189 (dk_at dksX3_line_2 18 rfl rfl)
theorem dX3_line_89 : decode cX3_line 89 = .ok (.ifCond .eq 51, 3) := dk_153 0 51 (dk_at dksX3_line_2 21 rfl rfl)
theorem dX3_line_92 : decode cX3_line 92 = .ok (.iconst 1, 1) := dk_4 (dk_at dksX3_line_3 0 rfl rfl)
theorem dX3_line_93 : decode cX3_line 93 = .ok (.istore 4, 2) := dk_54 4 (dk_at dksX3_line_3 1 rfl rfl)
theorem dX3_line_95 : decode cX3_line 95 = .ok (.goto 45, 3) := dk_167 0 45 (dk_at dksX3_line_3 3 rfl rfl)
theorem dX3_line_98 : decode cX3_line 98 = .ok (.aload_n 3, 1) := dk_45 (dk_at dksX3_line_3 6 rfl rfl)
theorem dX3_line_99 : decode cX3_line 99 = .ok (.ldc 195, 2) := dk_18 195 (dk_at dksX3_line_3 7 rfl rfl)
theorem dX3_line_101 : decode cX3_line 101 = .ok (.invokevirtual 189, 3) := dk_182 0 189 (dk_at dksX3_line_3 9 rfl rfl)
theorem dX3_line_104 : decode cX3_line 104 = .ok (.ifCond .eq 36, 3) := dk_153 0 36 (dk_at dksX3_line_3 12 rfl rfl)
theorem dX3_line_107 : decode cX3_line 107 = .ok (.iconst 2, 1) := dk_5 (dk_at dksX3_line_3 15 rfl rfl)
theorem dX3_line_108 : decode cX3_line 108 = .ok (.istore 4, 2) := dk_54 4 (dk_at dksX3_line_3 16 rfl rfl)
theorem dX3_line_110 : decode cX3_line 110 = .ok (.goto 30, 3) := dk_167 0 30 (dk_at dksX3_line_3 18 rfl rfl)
theorem dX3_line_113 : decode cX3_line 113 = .ok (.aload_n 3, 1) := dk_45 (dk_at dksX3_line_3 21 rfl rfl)
theorem dX3_line_114 : decode cX3_line 114 = .ok (.ldc 197, 2) := dk_18 197 (dk_at dksX3_line_3 22 rfl rfl)
theorem dX3_line_116 : decode cX3_line 116 = .ok (.invokevirtual 189, 3) := dk_182 0 189 (dk_at dksX3_line_4 0 rfl rfl)
theorem dX3_line_119 : decode cX3_line 119 = .ok (.ifCond .eq 21, 3) := dk_153 0 21 (dk_at dksX3_line_4 3 rfl rfl)
theorem dX3_line_122 : decode cX3_line 122 = .ok (.iconst 3, 1) := dk_6 (dk_at dksX3_line_4 6 rfl rfl)
theorem dX3_line_123 : decode cX3_line 123 = .ok (.istore 4, 2) := dk_54 4 (dk_at dksX3_line_4 7 rfl rfl)
theorem dX3_line_125 : decode cX3_line 125 = .ok (.goto 15, 3) := dk_167 0 15 (dk_at dksX3_line_4 9 rfl rfl)
theorem dX3_line_128 : decode cX3_line 128 = .ok (.aload_n 3, 1) := dk_45 (dk_at dksX3_line_4 12 rfl rfl)
theorem dX3_line_129 : decode cX3_line 129 = .ok (.ldc 199, 2) := dk_18 199 (dk_at dksX3_line_4 13 rfl rfl)
theorem dX3_line_131 : decode cX3_line 131 = .ok (.invokevirtual 189, 3) := dk_182 0 189 (dk_at dksX3_line_4 15 rfl rfl)
theorem dX3_line_134 : decode cX3_line 134 = .ok (.ifCond .eq 6, 3) := dk_153 0 6 (dk_at dksX3_line_4 18 rfl rfl)
theorem dX3_line_137 : decode cX3_line 137 = .ok (.iconst 4, 1) := dk_7 (dk_at dksX3_line_4 21 rfl rfl)
theorem dX3_line_138 : decode cX3_line 138 = .ok (.istore 4, 2) := dk_54 4 (dk_at dksX3_line_4 22 rfl rfl)
theorem dX3_line_140 : decode cX3_line 140 = .ok (.iload 4, 2) := dk_21 4 (dk_at dksX3_line_5 0 rfl rfl)
theorem dX3_line_142 : decode cX3_line 142 = .ok (.tableswitch 122 0 4 #[34, 52, 70, 87, 105], 34) := by decide +kernel
theorem dX3_line_176 : decode cX3_line 176 = .ok (.bipush 6, 2) := dk_16 6 (dk_at dksX3_line_7 0 rfl rfl)
theorem dX3_line_178 : decode cX3_line 178 = .ok (.aload_n 0, 1) := dk_42 (dk_at dksX3_line_7 2 rfl rfl)
theorem dX3_line_179 : decode cX3_line 179 = .ok (.getfield 29, 3) := dk_180 0 29 (dk_at dksX3_line_7 3 rfl rfl)
theorem dX3_line_182 : decode cX3_line 182 = .ok (.getfield 201, 3) := dk_180 0 201 (dk_at dksX3_line_7 6 rfl rfl)
theorem dX3_line_185 : decode cX3_line 185 = .ok (.invokeinterface 204 1, 5) := by decide +kernel
theorem dX3_line_190 : decode cX3_line 190 = .ok (.isub, 1) := dk_100 (dk_at dksX3_line_7 14 rfl rfl)
theorem dX3_line_191 : decode cX3_line 191 = .ok (.goto 79, 3) := dk_167 0 79 (dk_at dksX3_line_7 15 rfl rfl)
theorem dX3_line_194 : decode cX3_line 194 = .ok (.bipush 6, 2) := dk_16 6 (dk_at dksX3_line_7 18 rfl rfl)
theorem dX3_line_196 : decode cX3_line 196 = .ok (.aload_n 0, 1) := dk_42 (dk_at dksX3_line_7 20 rfl rfl)
theorem dX3_line_197 : decode cX3_line 197 = .ok (.getfield 20, 3) := dk_180 0 20 (dk_at dksX3_line_7 21 rfl rfl)
theorem dX3_line_200 : decode cX3_line 200 = .ok (.getfield 207, 3) := dk_180 0 207 (dk_at dksX3_line_8 0 rfl rfl)
theorem dX3_line_203 : decode cX3_line 203 = .ok (.invokeinterface 204 1, 5) := by decide +kernel
theorem dX3_line_208 : decode cX3_line 208 = .ok (.isub, 1) := dk_100 (dk_at dksX3_line_8 8 rfl rfl)
theorem dX3_line_209 : decode cX3_line 209 = .ok (.goto 61, 3) := dk_167 0 61 (dk_at dksX3_line_8 9 rfl rfl)
theorem dX3_line_212 : decode cX3_line 212 = .ok (.iconst 5, 1) := dk_8 (dk_at dksX3_line_8 12 rfl rfl)
theorem dX3_line_213 : decode cX3_line 213 = .ok (.aload_n 0, 1) := dk_42 (dk_at dksX3_line_8 13 rfl rfl)
theorem dX3_line_214 : decode cX3_line 214 = .ok (.getfield 20, 3) := dk_180 0 20 (dk_at dksX3_line_8 14 rfl rfl)
theorem dX3_line_217 : decode cX3_line 217 = .ok (.getfield 210, 3) := dk_180 0 210 (dk_at dksX3_line_8 17 rfl rfl)
theorem dX3_line_220 : decode cX3_line 220 = .ok (.invokeinterface 204 1, 5) := by decide +kernel
theorem dX3_line_225 : decode cX3_line 225 = .ok (.isub, 1) := dk_100 (dk_at dksX3_line_9 5 rfl rfl)
theorem dX3_line_226 : decode cX3_line 226 = .ok (.goto 44, 3) := dk_167 0 44 (dk_at dksX3_line_9 6 rfl rfl)
theorem dX3_line_229 : decode cX3_line 229 = .ok (.bipush 16, 2) := dk_16 16 (dk_at dksX3_line_9 9 rfl rfl)
theorem dX3_line_231 : decode cX3_line 231 = .ok (.aload_n 0, 1) := dk_42 (dk_at dksX3_line_9 11 rfl rfl)
theorem dX3_line_232 : decode cX3_line 232 = .ok (.getfield 20, 3) := dk_180 0 20 (dk_at dksX3_line_9 12 rfl rfl)
theorem dX3_line_235 : decode cX3_line 235 = .ok (.getfield 135, 3) := dk_180 0 135 (dk_at dksX3_line_9 15 rfl rfl)
theorem dX3_line_238 : decode cX3_line 238 = .ok (.invokeinterface 204 1, 5) := by decide +kernel
theorem dX3_line_243 : decode cX3_line 243 = .ok (.isub, 1) := dk_100 (dk_at dksX3_line_9 23 rfl rfl)
theorem dX3_line_244 : decode cX3_line 244 = .ok (.goto 26, 3) := dk_167 0 26 (dk_at dksX3_line_10 0 rfl rfl)
theorem dX3_line_247 : decode cX3_line 247 = .ok (.iconst 4, 1) := dk_7 (dk_at dksX3_line_10 3 rfl rfl)
theorem dX3_line_248 : decode cX3_line 248 = .ok (.aload_n 0, 1) := dk_42 (dk_at dksX3_line_10 4 rfl rfl)
theorem dX3_line_249 : decode cX3_line 249 = .ok (.getfield 20, 3) := dk_180 0 20 (dk_at dksX3_line_10 5 rfl rfl)
theorem dX3_line_252 : decode cX3_line 252 = .ok (.getfield 213, 3) := dk_180 0 213 (dk_at dksX3_line_10 8 rfl rfl)
theorem dX3_line_255 : decode cX3_line 255 = .ok (.invokeinterface 204 1, 5) := by decide +kernel
theorem dX3_line_260 : decode cX3_line 260 = .ok (.isub, 1) := dk_100 (dk_at dksX3_line_10 16 rfl rfl)
theorem dX3_line_261 : decode cX3_line 261 = .ok (.goto 9, 3) := dk_167 0 9 (dk_at dksX3_line_10 17 rfl rfl)
theorem dX3_line_264 : decode cX3_line 264 = .ok (.aload_n 0, 1) := dk_42 (dk_at dksX3_line_10 20 rfl rfl)
theorem dX3_line_265 : decode cX3_line 265 = .ok (.iconst 1, 1) := dk_4 (dk_at dksX3_line_10 21 rfl rfl)
theorem dX3_line_266 : decode cX3_line 266 = .ok (.invokevirtual 110, 3) := dk_182 0 110 (dk_at dksX3_line_11 0 rfl rfl)
theorem dX3_line_269 : decode cX3_line 269 = .ok (.athrow, 1) := dk_191 (dk_at dksX3_line_11 3 rfl rfl)
theorem dX3_line_270 : decode cX3_line 270 = .ok (.istore_n 2, 1) := dk_61 (dk_at dksX3_line_11 4 rfl rfl)
theorem dX3_line_271 : decode cX3_line 271 = .ok (.iload_n 2, 1) := dk_28 (dk_at dksX3_line_11 5 rfl rfl)
theorem dX3_line_272 : decode cX3_line 272 = .ok (.ifCond .ne 9, 3) := dk_154 0 9 (dk_at dksX3_line_11 6 rfl rfl)
theorem dX3_line_275 : decode cX3_line 275 = .ok (.aload_n 0, 1) := dk_42 (dk_at dksX3_line_11 9 rfl rfl)
theorem dX3_line_276 : decode cX3_line 276 = .ok (.iconst 4, 1) := dk_7 (dk_at dksX3_line_11 10 rfl rfl)
theorem dX3_line_277 : decode cX3_line 277 = .ok (.invokevirtual 110, 3) := dk_182 0 110 (dk_at dksX3_line_11 11 rfl rfl)
theorem dX3_line_280 : decode cX3_line 280 = .ok (.athrow, 1) := dk_191 (dk_at dksX3_line_11 14 rfl rfl)
theorem dX3_line_281 : decode cX3_line 281 = .ok (.aload_n 0, 1) := dk_42 (dk_at dksX3_line_11 15 rfl rfl)
theorem dX3_line_282 : decode cX3_line 282 = .ok (.invokevirtual 104, 3) := dk_182 0 104 (dk_at dksX3_line_11 16 rfl rfl)
theorem dX3_line_285 : decode cX3_line 285 = .ok (.aload_n 1, 1) := dk_43 (dk_at dksX3_line_11 19 rfl rfl)
theorem dX3_line_286 : decode cX3_line 286 = .ok (.astore_n 3, 1) := dk_78 (dk_at dksX3_line_11 20 rfl rfl)
theorem dX3_line_287 : decode cX3_line 287 = .ok (.iconst (-1), 1) := dk_2 (dk_at dksX3_line_11 21 rfl rfl)
theorem dX3_line_288 : decode cX3_line 288 = .ok (.istore 4, 2) := dk_54 4 (dk_at dksX3_line_11 22 rfl rfl)
theorem dX3_line_290 : decode cX3_line 290 = .ok (.aload_n 3, 1) := dk_45 (dk_at dksX3_line_12 0 rfl rfl)
theorem dX3_line_291 : decode cX3_line 291 = .ok (.invokevirtual 184, 3) := dk_182 0 184 (dk_at dksX3_line_12 1 rfl rfl)
theorem dX3_line_294 : decode cX3_line 294 = .ok (.lookupswitch 99 #[(-1246703297, 42), (-905948230, 57), (3079692, 87), (166756945, 72)], 42) := by decide +kernel
theorem dX3_line_336 : decode cX3_line 336 = .ok (.aload_n 3, 1) := dk_45 (dk_at dksX3_line_14 0 rfl rfl)
theorem dX3_line_337 : decode cX3_line 337 = .ok (.ldc 187, 2) := dk_18 187 (dk_at dksX3_line_14 1 rfl rfl)
theorem dX3_line_339 : decode cX3_line 339 = .ok (.invokevirtual 189, 3) := dk_182 0 189 (dk_at dksX3_line_14 3 rfl rfl)
theorem dX3_line_342 : decode cX3_line 342 = .ok (.ifCond .eq 51, 3) := dk_153 0 51 (dk_at dksX3_line_14 6 rfl rfl)
theorem dX3_line_345 : decode cX3_line 345 = .ok (.iconst 0, 1) := dk_3 (dk_at dksX3_line_14 9 rfl rfl)
theorem dX3_line_346 : decode cX3_line 346 = .ok (.istore 4, 2) := dk_54 4 (dk_at dksX3_line_14 10 rfl rfl)
theorem dX3_line_348 : decode cX3_line 348 = .ok (.goto 45, 3) := dk_167 0 45 (dk_at dksX3_line_14 12 rfl rfl)
theorem dX3_line_351 : decode cX3_line 351 = .ok (.aload_n 3, 1) := dk_45 (dk_at dksX3_line_14 15 rfl rfl)
theorem dX3_line_352 : decode cX3_line 352 = .ok (.ldc 193, 2) := dk_18 193 (dk_at dksX3_line_14 16 rfl rfl)
theorem dX3_line_354 : decode cX3_line 354 = .ok (.invokevirtual 189, 3) := dk_182 0 189 (dk_at dksX3_line_14 18 rfl rfl)
theorem dX3_line_357 : decode cX3_line 357 = .ok (.ifCond .eq 36, 3) := dk_153 0 36 (dk_at dksX3_line_14 21 rfl rfl)
theorem dX3_line_360 : decode cX3_line 360 = .ok (.iconst 1, 1) := dk_4 (dk_at dksX3_line_15 0 rfl rfl)
theorem dX3_line_361 : decode cX3_line 361 = .ok (.istore 4, 2) := dk_54 4 (dk_at dksX3_line_15 1 rfl rfl)
theorem dX3_line_363 : decode cX3_line 363 = .ok (.goto 30, 3) := dk_167 0 30 (dk_at dksX3_line_15 3 rfl rfl)
theorem dX3_line_366 : decode cX3_line 366 = .ok (.aload_n 3, 1) := dk_45 (dk_at dksX3_line_15 6 rfl rfl)
theorem dX3_line_367 : decode cX3_line 367 = .ok (.ldc 195, 2) := dk_18 195 (dk_at dksX3_line_15 7 rfl rfl)
theorem dX3_line_369 : decode cX3_line 369 = .ok (.invokevirtual 189, 3) := dk_182 0 189 (dk_at dksX3_line_15 9 rfl rfl)
theorem dX3_line_372 : decode cX3_line 372 = .ok (.ifCond .eq 21, 3) := dk_153 0 21 (dk_at dksX3_line_15 12 rfl rfl)
theorem dX3_line_375 : decode cX3_line 375 = .ok (.iconst 2, 1) := dk_5 (dk_at dksX3_line_15 15 rfl rfl)
theorem dX3_line_376 : decode cX3_line 376 = .ok (.istore 4, 2) := dk_54 4 (dk_at dksX3_line_15 16 rfl rfl)
theorem dX3_line_378 : decode cX3_line 378 = .ok (.goto 15, 3) := dk_167 0 15 (dk_at dksX3_line_15 18 rfl rfl)
theorem dX3_line_381 : decode cX3_line 381 = .ok (.aload_n 3, 1) := dk_45 (dk_at dksX3_line_15 21 rfl rfl)
theorem dX3_line_382 : decode cX3_line 382 = .ok (.ldc 199, 2) := dk_18 199 (dk_at dksX3_line_15 22 rfl rfl)
theorem dX3_line_384 : decode cX3_line 384 = .ok (.invokevirtual 189, 3) := dk_182 0 189 (dk_at dksX3_line_16 0 rfl rfl)
theorem dX3_line_387 : decode cX3_line 387 = .ok (.ifCond .eq 6, 3) := dk_153 0 6 (dk_at dksX3_line_16 3 rfl rfl)
theorem dX3_line_390 : decode cX3_line 390 = .ok (.iconst 3, 1) := dk_6 (dk_at dksX3_line_16 6 rfl rfl)
theorem dX3_line_391 : decode cX3_line 391 = .ok (.istore 4, 2) := dk_54 4 (dk_at dksX3_line_16 7 rfl rfl)
theorem dX3_line_393 : decode cX3_line 393 = .ok (.iload 4, 2) := dk_21 4 (dk_at dksX3_line_16 9 rfl rfl)
theorem dX3_line_395 : decode cX3_line 395 = .ok (.tableswitch 101 0 3 #[29, 36, 74, 81], 29) := by decide +kernel
theorem dX3_line_424 : decode cX3_line 424 = .ok (.aload_n 0, 1) := dk_42 (dk_at dksX3_line_18 0 rfl rfl)
theorem dX3_line_425 : decode cX3_line 425 = .ok (.invokevirtual 216, 3) := dk_182 0 216 (dk_at dksX3_line_18 1 rfl rfl)
theorem dX3_line_428 : decode cX3_line 428 = .ok (.goto 72, 3) := dk_167 0 72 (dk_at dksX3_line_18 4 rfl rfl)
theorem dX3_line_431 : decode cX3_line 431 = .ok (.aload_n 0, 1) := dk_42 (dk_at dksX3_line_18 7 rfl rfl)
theorem dX3_line_432 : decode cX3_line 432 = .ok (.getfield 20, 3) := dk_180 0 20 (dk_at dksX3_line_18 8 rfl rfl)
theorem dX3_line_435 : decode cX3_line 435 = .ok (.getfield 207, 3) := dk_180 0 207 (dk_at dksX3_line_18 11 rfl rfl)
theorem dX3_line_438 : decode cX3_line 438 = .ok (.new 218, 3) := dk_187 0 218 (dk_at dksX3_line_18 14 rfl rfl)
theorem dX3_line_441 : decode cX3_line 441 = .ok (.dup, 1) := dk_89 (dk_at dksX3_line_18 17 rfl rfl)
theorem dX3_line_442 : decode cX3_line 442 = .ok (.aload_n 0, 1) := dk_42 (dk_at dksX3_line_18 18 rfl rfl)
theorem dX3_line_443 : decode cX3_line 443 = .ok (.invokevirtual 220, 3) := dk_182 0 220 (dk_at dksX3_line_18 19 rfl rfl)
theorem dX3_line_446 : decode cX3_line 446 = .ok (.aload_n 0, 1) := dk_42 (dk_at dksX3_line_18 22 rfl rfl)
theorem dX3_line_447 : decode cX3_line 447 = .ok (.invokevirtual 223, 3) := dk_182 0 223 (dk_at dksX3_line_19 0 rfl rfl)
theorem dX3_line_450 : decode cX3_line 450 = .ok (.aload_n 0, 1) := dk_42 (dk_at dksX3_line_19 3 rfl rfl)
theorem dX3_line_451 : decode cX3_line 451 = .ok (.iconst 0, 1) := dk_3 (dk_at dksX3_line_19 4 rfl rfl)
theorem dX3_line_452 : decode cX3_line 452 = .ok (.bipush 99, 2) := dk_16 99 (dk_at dksX3_line_19 5 rfl rfl)
theorem dX3_line_454 : decode cX3_line 454 = .ok (.invokevirtual 121, 3) := dk_182 0 121 (dk_at dksX3_line_19 7 rfl rfl)
theorem dX3_line_457 : decode cX3_line 457 = .ok (.invokespecial 226, 3) := dk_183 0 226 (dk_at dksX3_line_19 10 rfl rfl)
theorem dX3_line_460 : decode cX3_line 460 = .ok (.invokeinterface 229 2, 5) := by decide +kernel
theorem dX3_line_465 : decode cX3_line 465 = .ok (.pop, 1) := dk_87 (dk_at dksX3_line_19 18 rfl rfl)
theorem dX3_line_466 : decode cX3_line 466 = .ok (.goto 34, 3) := dk_167 0 34 (dk_at dksX3_line_19 19 rfl rfl)
theorem dX3_line_469 : decode cX3_line 469 = .ok (.aload_n 0, 1) := dk_42 (dk_at dksX3_line_19 22 rfl rfl)
theorem dX3_line_470 : decode cX3_line 470 = .ok (.invokevirtual 232, 3) := dk_182 0 232 (dk_at dksX3_line_20 0 rfl rfl)
theorem dX3_line_473 : decode cX3_line 473 = .ok (.goto 27, 3) := dk_167 0 27 (dk_at dksX3_line_20 3 rfl rfl)
theorem dX3_line_476 : decode cX3_line 476 = .ok (.aload_n 0, 1) := dk_42 (dk_at dksX3_line_20 6 rfl rfl)
theorem dX3_line_477 : decode cX3_line 477 = .ok (.getfield 20, 3) := dk_180 0 20 (dk_at dksX3_line_20 7 rfl rfl)
theorem dX3_line_480 : decode cX3_line 480 = .ok (.getfield 213, 3) := dk_180 0 213 (dk_at dksX3_line_20 10 rfl rfl)
theorem dX3_line_483 : decode cX3_line 483 = .ok (.aload_n 0, 1) := dk_42 (dk_at dksX3_line_20 13 rfl rfl)
theorem dX3_line_484 : decode cX3_line 484 = .ok (.invokevirtual 234, 3) := dk_182 0 234 (dk_at dksX3_line_20 14 rfl rfl)
theorem dX3_line_487 : decode cX3_line 487 = .ok (.invokeinterface 229 2, 5) := by decide +kernel
theorem dX3_line_492 : decode cX3_line 492 = .ok (.pop, 1) := dk_87 (dk_at dksX3_line_20 22 rfl rfl)
theorem dX3_line_493 : decode cX3_line 493 = .ok (.goto 7, 3) := dk_167 0 7 (dk_at dksX3_line_21 0 rfl rfl)
theorem dX3_line_496 : decode cX3_line 496 = .ok (.aload_n 0, 1) := dk_42 (dk_at dksX3_line_21 3 rfl rfl)
theorem dX3_line_497 : decode cX3_line 497 = .ok (.invokevirtual 238, 3) := dk_182 0 238 (dk_at dksX3_line_21 4 rfl rfl)
theorem dX3_line_500 : decode cX3_line 500 = .ok (.return_, 1) := dk_177 (dk_at dksX3_line_21 7 rfl rfl)
abbrev cX3_incumbent : ByteArray := prog_12_method_15_code
def yX3_incumbent : MethodName := ⟨RX3, "incumbent", "()V"⟩
def dkwX3_incumbent_4 : List UInt8 := [18, 245, 182, 0, 107, 183, 0, 247, 21, 6, 182, 0, 250, 87, 177]
abbrev dktX3_incumbent_4 : List UInt8 := dkwX3_incumbent_4 ++ []
def dkwX3_incumbent_3 : List UInt8 := [17, 39, 15, 182, 0, 121, 54, 6, 42, 180, 0, 29, 187, 0, 243, 89, 43, 28, 29, 21, 4, 21, 5, 42]
abbrev dktX3_incumbent_3 : List UInt8 := dkwX3_incumbent_3 ++ dktX3_incumbent_4
def dkwX3_incumbent_2 : List UInt8 := [42, 3, 18, 165, 182, 0, 121, 54, 4, 42, 3, 17, 3, 231, 182, 0, 121, 54, 5, 42, 21, 5, 4, 96]
abbrev dktX3_incumbent_2 : List UInt8 := dkwX3_incumbent_2 ++ dktX3_incumbent_3
def dkwX3_incumbent_1 : List UInt8 := [180, 0, 157, 4, 100, 182, 0, 121, 61, 42, 28, 42, 180, 0, 20, 180, 0, 157, 4, 100, 182, 0, 121, 62]
abbrev dktX3_incumbent_1 : List UInt8 := dkwX3_incumbent_1 ++ dktX3_incumbent_2
def dkwX3_incumbent_0 : List UInt8 := [187, 0, 240, 89, 42, 182, 0, 220, 42, 182, 0, 223, 183, 0, 242, 76, 42, 3, 42, 180, 0, 20]
abbrev dktX3_incumbent_0 : List UInt8 := dkwX3_incumbent_0 ++ dktX3_incumbent_1
theorem dksX3_incumbent_0 : cX3_incumbent.data.toList.drop 0 = dktX3_incumbent_0 := by decide +kernel
theorem dksX3_incumbent_1 : cX3_incumbent.data.toList.drop 22 = dktX3_incumbent_1 := dk_seg dksX3_incumbent_0 22 rfl rfl
theorem dksX3_incumbent_2 : cX3_incumbent.data.toList.drop 46 = dktX3_incumbent_2 := dk_seg dksX3_incumbent_1 24 rfl rfl
theorem dksX3_incumbent_3 : cX3_incumbent.data.toList.drop 70 = dktX3_incumbent_3 := dk_seg dksX3_incumbent_2 24 rfl rfl
theorem dksX3_incumbent_4 : cX3_incumbent.data.toList.drop 94 = dktX3_incumbent_4 := dk_seg dksX3_incumbent_3 24 rfl rfl
theorem dX3_incumbent_0 : decode cX3_incumbent 0 = .ok (.new 240, 3) := dk_187 0 240 (dk_at dksX3_incumbent_0 0 rfl rfl)
theorem dX3_incumbent_3 : decode cX3_incumbent 3 = .ok (.dup, 1) := dk_89 (dk_at dksX3_incumbent_0 3 rfl rfl)
theorem dX3_incumbent_4 : decode cX3_incumbent 4 = .ok (.aload_n 0, 1) := dk_42 (dk_at dksX3_incumbent_0 4 rfl rfl)
theorem dX3_incumbent_5 : decode cX3_incumbent 5 = .ok (.invokevirtual 220, 3) := dk_182 0 220 (dk_at dksX3_incumbent_0 5 rfl rfl)
theorem dX3_incumbent_8 : decode cX3_incumbent 8 = .ok (.aload_n 0, 1) := dk_42 (dk_at dksX3_incumbent_0 8 rfl rfl)
theorem dX3_incumbent_9 : decode cX3_incumbent 9 = .ok (.invokevirtual 223, 3) := dk_182 0 223 (dk_at dksX3_incumbent_0 9 rfl rfl)
theorem dX3_incumbent_12 : decode cX3_incumbent 12 = .ok (.invokespecial 242, 3) := dk_183 0 242 (dk_at dksX3_incumbent_0 12 rfl rfl)
theorem dX3_incumbent_15 : decode cX3_incumbent 15 = .ok (.astore_n 1, 1) := dk_76 (dk_at dksX3_incumbent_0 15 rfl rfl)
theorem dX3_incumbent_16 : decode cX3_incumbent 16 = .ok (.aload_n 0, 1) := dk_42 (dk_at dksX3_incumbent_0 16 rfl rfl)
theorem dX3_incumbent_17 : decode cX3_incumbent 17 = .ok (.iconst 0, 1) := dk_3 (dk_at dksX3_incumbent_0 17 rfl rfl)
theorem dX3_incumbent_18 : decode cX3_incumbent 18 = .ok (.aload_n 0, 1) := dk_42 (dk_at dksX3_incumbent_0 18 rfl rfl)
theorem dX3_incumbent_19 : decode cX3_incumbent 19 = .ok (.getfield 20, 3) := dk_180 0 20 (dk_at dksX3_incumbent_0 19 rfl rfl)
theorem dX3_incumbent_22 : decode cX3_incumbent 22 = .ok (.getfield 157, 3) := dk_180 0 157 (dk_at dksX3_incumbent_1 0 rfl rfl)
theorem dX3_incumbent_25 : decode cX3_incumbent 25 = .ok (.iconst 1, 1) := dk_4 (dk_at dksX3_incumbent_1 3 rfl rfl)
theorem dX3_incumbent_26 : decode cX3_incumbent 26 = .ok (.isub, 1) := dk_100 (dk_at dksX3_incumbent_1 4 rfl rfl)
theorem dX3_incumbent_27 : decode cX3_incumbent 27 = .ok (.invokevirtual 121, 3) := dk_182 0 121 (dk_at dksX3_incumbent_1 5 rfl rfl)
theorem dX3_incumbent_30 : decode cX3_incumbent 30 = .ok (.istore_n 2, 1) := dk_61 (dk_at dksX3_incumbent_1 8 rfl rfl)
theorem dX3_incumbent_31 : decode cX3_incumbent 31 = .ok (.aload_n 0, 1) := dk_42 (dk_at dksX3_incumbent_1 9 rfl rfl)
theorem dX3_incumbent_32 : decode cX3_incumbent 32 = .ok (.iload_n 2, 1) := dk_28 (dk_at dksX3_incumbent_1 10 rfl rfl)
theorem dX3_incumbent_33 : decode cX3_incumbent 33 = .ok (.aload_n 0, 1) := dk_42 (dk_at dksX3_incumbent_1 11 rfl rfl)
theorem dX3_incumbent_34 : decode cX3_incumbent 34 = .ok (.getfield 20, 3) := dk_180 0 20 (dk_at dksX3_incumbent_1 12 rfl rfl)
theorem dX3_incumbent_37 : decode cX3_incumbent 37 = .ok (.getfield 157, 3) := dk_180 0 157 (dk_at dksX3_incumbent_1 15 rfl rfl)
theorem dX3_incumbent_40 : decode cX3_incumbent 40 = .ok (.iconst 1, 1) := dk_4 (dk_at dksX3_incumbent_1 18 rfl rfl)
theorem dX3_incumbent_41 : decode cX3_incumbent 41 = .ok (.isub, 1) := dk_100 (dk_at dksX3_incumbent_1 19 rfl rfl)
theorem dX3_incumbent_42 : decode cX3_incumbent 42 = .ok (.invokevirtual 121, 3) := dk_182 0 121 (dk_at dksX3_incumbent_1 20 rfl rfl)
theorem dX3_incumbent_45 : decode cX3_incumbent 45 = .ok (.istore_n 3, 1) := dk_62 (dk_at dksX3_incumbent_1 23 rfl rfl)
theorem dX3_incumbent_46 : decode cX3_incumbent 46 = .ok (.aload_n 0, 1) := dk_42 (dk_at dksX3_incumbent_2 0 rfl rfl)
theorem dX3_incumbent_47 : decode cX3_incumbent 47 = .ok (.iconst 0, 1) := dk_3 (dk_at dksX3_incumbent_2 1 rfl rfl)
theorem dX3_incumbent_48 : decode cX3_incumbent 48 = .ok (.ldc 165, 2) := dk_18 165 (dk_at dksX3_incumbent_2 2 rfl rfl)
theorem dX3_incumbent_50 : decode cX3_incumbent 50 = .ok (.invokevirtual 121, 3) := dk_182 0 121 (dk_at dksX3_incumbent_2 4 rfl rfl)
theorem dX3_incumbent_53 : decode cX3_incumbent 53 = .ok (.istore 4, 2) := dk_54 4 (dk_at dksX3_incumbent_2 7 rfl rfl)
theorem dX3_incumbent_55 : decode cX3_incumbent 55 = .ok (.aload_n 0, 1) := dk_42 (dk_at dksX3_incumbent_2 9 rfl rfl)
theorem dX3_incumbent_56 : decode cX3_incumbent 56 = .ok (.iconst 0, 1) := dk_3 (dk_at dksX3_incumbent_2 10 rfl rfl)
theorem dX3_incumbent_57 : decode cX3_incumbent 57 = .ok (.sipush 999, 3) := dk_17 3 231 (dk_at dksX3_incumbent_2 11 rfl rfl)
theorem dX3_incumbent_60 : decode cX3_incumbent 60 = .ok (.invokevirtual 121, 3) := dk_182 0 121 (dk_at dksX3_incumbent_2 14 rfl rfl)
theorem dX3_incumbent_63 : decode cX3_incumbent 63 = .ok (.istore 5, 2) := dk_54 5 (dk_at dksX3_incumbent_2 17 rfl rfl)
theorem dX3_incumbent_65 : decode cX3_incumbent 65 = .ok (.aload_n 0, 1) := dk_42 (dk_at dksX3_incumbent_2 19 rfl rfl)
theorem dX3_incumbent_66 : decode cX3_incumbent 66 = .ok (.iload 5, 2) := dk_21 5 (dk_at dksX3_incumbent_2 20 rfl rfl)
theorem dX3_incumbent_68 : decode cX3_incumbent 68 = .ok (.iconst 1, 1) := dk_4 (dk_at dksX3_incumbent_2 22 rfl rfl)
theorem dX3_incumbent_69 : decode cX3_incumbent 69 = .ok (.iadd, 1) := dk_96 (dk_at dksX3_incumbent_2 23 rfl rfl)
theorem dX3_incumbent_70 : decode cX3_incumbent 70 = .ok (.sipush 9999, 3) := dk_17 39 15 (dk_at dksX3_incumbent_3 0 rfl rfl)
theorem dX3_incumbent_73 : decode cX3_incumbent 73 = .ok (.invokevirtual 121, 3) := dk_182 0 121 (dk_at dksX3_incumbent_3 3 rfl rfl)
theorem dX3_incumbent_76 : decode cX3_incumbent 76 = .ok (.istore 6, 2) := dk_54 6 (dk_at dksX3_incumbent_3 6 rfl rfl)
theorem dX3_incumbent_78 : decode cX3_incumbent 78 = .ok (.aload_n 0, 1) := dk_42 (dk_at dksX3_incumbent_3 8 rfl rfl)
theorem dX3_incumbent_79 : decode cX3_incumbent 79 = .ok (.getfield 29, 3) := dk_180 0 29 (dk_at dksX3_incumbent_3 9 rfl rfl)
theorem dX3_incumbent_82 : decode cX3_incumbent 82 = .ok (.new 243, 3) := dk_187 0 243 (dk_at dksX3_incumbent_3 12 rfl rfl)
theorem dX3_incumbent_85 : decode cX3_incumbent 85 = .ok (.dup, 1) := dk_89 (dk_at dksX3_incumbent_3 15 rfl rfl)
theorem dX3_incumbent_86 : decode cX3_incumbent 86 = .ok (.aload_n 1, 1) := dk_43 (dk_at dksX3_incumbent_3 16 rfl rfl)
theorem dX3_incumbent_87 : decode cX3_incumbent 87 = .ok (.iload_n 2, 1) := dk_28 (dk_at dksX3_incumbent_3 17 rfl rfl)
theorem dX3_incumbent_88 : decode cX3_incumbent 88 = .ok (.iload_n 3, 1) := dk_29 (dk_at dksX3_incumbent_3 18 rfl rfl)
theorem dX3_incumbent_89 : decode cX3_incumbent 89 = .ok (.iload 4, 2) := dk_21 4 (dk_at dksX3_incumbent_3 19 rfl rfl)
theorem dX3_incumbent_91 : decode cX3_incumbent 91 = .ok (.iload 5, 2) := dk_21 5 (dk_at dksX3_incumbent_3 21 rfl rfl)
theorem dX3_incumbent_93 : decode cX3_incumbent 93 = .ok (.aload_n 0, 1) := dk_42 (dk_at dksX3_incumbent_3 23 rfl rfl)
theorem dX3_incumbent_94 : decode cX3_incumbent 94 = .ok (.ldc 245, 2) := dk_18 245 (dk_at dksX3_incumbent_4 0 rfl rfl)
theorem dX3_incumbent_96 : decode cX3_incumbent 96 = .ok (.invokevirtual 107, 3) := dk_182 0 107 (dk_at dksX3_incumbent_4 2 rfl rfl)
theorem dX3_incumbent_99 : decode cX3_incumbent 99 = .ok (.invokespecial 247, 3) := dk_183 0 247 (dk_at dksX3_incumbent_4 5 rfl rfl)
theorem dX3_incumbent_102 : decode cX3_incumbent 102 = .ok (.iload 6, 2) := dk_21 6 (dk_at dksX3_incumbent_4 8 rfl rfl)
theorem dX3_incumbent_104 : decode cX3_incumbent 104 = .ok (.invokevirtual 250, 3) := dk_182 0 250 (dk_at dksX3_incumbent_4 10 rfl rfl)
theorem dX3_incumbent_107 : decode cX3_incumbent 107 = .ok (.pop, 1) := dk_87 (dk_at dksX3_incumbent_4 13 rfl rfl)
theorem dX3_incumbent_108 : decode cX3_incumbent 108 = .ok (.return_, 1) := dk_177 (dk_at dksX3_incumbent_4 14 rfl rfl)
abbrev cX3_x : ByteArray := prog_12_method_13_code
def yX3_x : MethodName := ⟨RX3, "x", "()I"⟩
def dkwX3_x_0 : List UInt8 := [42, 3, 42, 180, 0, 20, 180, 0, 149, 4, 100, 182, 0, 121, 172]
abbrev dktX3_x_0 : List UInt8 := dkwX3_x_0 ++ []
theorem dksX3_x_0 : cX3_x.data.toList.drop 0 = dktX3_x_0 := by decide +kernel
theorem dX3_x_0 : decode cX3_x 0 = .ok (.aload_n 0, 1) := dk_42 (dk_at dksX3_x_0 0 rfl rfl)
theorem dX3_x_1 : decode cX3_x 1 = .ok (.iconst 0, 1) := dk_3 (dk_at dksX3_x_0 1 rfl rfl)
theorem dX3_x_2 : decode cX3_x 2 = .ok (.aload_n 0, 1) := dk_42 (dk_at dksX3_x_0 2 rfl rfl)
theorem dX3_x_3 : decode cX3_x 3 = .ok (.getfield 20, 3) := dk_180 0 20 (dk_at dksX3_x_0 3 rfl rfl)
theorem dX3_x_6 : decode cX3_x 6 = .ok (.getfield 149, 3) := dk_180 0 149 (dk_at dksX3_x_0 6 rfl rfl)
theorem dX3_x_9 : decode cX3_x 9 = .ok (.iconst 1, 1) := dk_4 (dk_at dksX3_x_0 9 rfl rfl)
theorem dX3_x_10 : decode cX3_x 10 = .ok (.isub, 1) := dk_100 (dk_at dksX3_x_0 10 rfl rfl)
theorem dX3_x_11 : decode cX3_x 11 = .ok (.invokevirtual 121, 3) := dk_182 0 121 (dk_at dksX3_x_0 11 rfl rfl)
theorem dX3_x_14 : decode cX3_x 14 = .ok (.ireturn, 1) := dk_172 (dk_at dksX3_x_0 14 rfl rfl)
abbrev cX3_y : ByteArray := prog_12_method_14_code
def yX3_y : MethodName := ⟨RX3, "y", "()I"⟩
def dkwX3_y_0 : List UInt8 := [42, 3, 42, 180, 0, 20, 180, 0, 152, 4, 100, 182, 0, 121, 172]
abbrev dktX3_y_0 : List UInt8 := dkwX3_y_0 ++ []
theorem dksX3_y_0 : cX3_y.data.toList.drop 0 = dktX3_y_0 := by decide +kernel
theorem dX3_y_0 : decode cX3_y 0 = .ok (.aload_n 0, 1) := dk_42 (dk_at dksX3_y_0 0 rfl rfl)
theorem dX3_y_1 : decode cX3_y 1 = .ok (.iconst 0, 1) := dk_3 (dk_at dksX3_y_0 1 rfl rfl)
theorem dX3_y_2 : decode cX3_y 2 = .ok (.aload_n 0, 1) := dk_42 (dk_at dksX3_y_0 2 rfl rfl)
theorem dX3_y_3 : decode cX3_y 3 = .ok (.getfield 20, 3) := dk_180 0 20 (dk_at dksX3_y_0 3 rfl rfl)
theorem dX3_y_6 : decode cX3_y 6 = .ok (.getfield 152, 3) := dk_180 0 152 (dk_at dksX3_y_0 6 rfl rfl)
theorem dX3_y_9 : decode cX3_y 9 = .ok (.iconst 1, 1) := dk_4 (dk_at dksX3_y_0 9 rfl rfl)
theorem dX3_y_10 : decode cX3_y 10 = .ok (.isub, 1) := dk_100 (dk_at dksX3_y_0 10 rfl rfl)
theorem dX3_y_11 : decode cX3_y 11 = .ok (.invokevirtual 121, 3) := dk_182 0 121 (dk_at dksX3_y_0 11 rfl rfl)
theorem dX3_y_14 : decode cX3_y 14 = .ok (.ireturn, 1) := dk_172 (dk_at dksX3_y_0 14 rfl rfl)
abbrev cX3_licence : ByteArray := prog_12_method_16_code
def yX3_licence : MethodName := ⟨RX3, "licence", "()V"⟩
def dkwX3_licence_2 : List UInt8 := [89, 27, 28, 29, 21, 4, 42, 4, 16, 8, 182, 0, 121, 183, 0, 255, 182, 1, 2, 177]
abbrev dktX3_licence_2 : List UInt8 := dkwX3_licence_2 ++ []
def dkwX3_licence_1 : List UInt8 := [62, 42, 28, 42, 180, 0, 20, 180, 0, 152, 4, 100, 182, 0, 121, 54, 4, 42, 180, 0, 20, 187, 0, 253]
abbrev dktX3_licence_1 : List UInt8 := dkwX3_licence_1 ++ dktX3_licence_2
def dkwX3_licence_0 : List UInt8 := [42, 182, 0, 220, 60, 42, 182, 0, 223, 61, 42, 27, 42, 180, 0, 20, 180, 0, 149, 4, 100, 182, 0, 121]
abbrev dktX3_licence_0 : List UInt8 := dkwX3_licence_0 ++ dktX3_licence_1
theorem dksX3_licence_0 : cX3_licence.data.toList.drop 0 = dktX3_licence_0 := by decide +kernel
theorem dksX3_licence_1 : cX3_licence.data.toList.drop 24 = dktX3_licence_1 := dk_seg dksX3_licence_0 24 rfl rfl
theorem dksX3_licence_2 : cX3_licence.data.toList.drop 48 = dktX3_licence_2 := dk_seg dksX3_licence_1 24 rfl rfl
theorem dX3_licence_0 : decode cX3_licence 0 = .ok (.aload_n 0, 1) := dk_42 (dk_at dksX3_licence_0 0 rfl rfl)
theorem dX3_licence_1 : decode cX3_licence 1 = .ok (.invokevirtual 220, 3) := dk_182 0 220 (dk_at dksX3_licence_0 1 rfl rfl)
theorem dX3_licence_4 : decode cX3_licence 4 = .ok (.istore_n 1, 1) := dk_60 (dk_at dksX3_licence_0 4 rfl rfl)
theorem dX3_licence_5 : decode cX3_licence 5 = .ok (.aload_n 0, 1) := dk_42 (dk_at dksX3_licence_0 5 rfl rfl)
theorem dX3_licence_6 : decode cX3_licence 6 = .ok (.invokevirtual 223, 3) := dk_182 0 223 (dk_at dksX3_licence_0 6 rfl rfl)
theorem dX3_licence_9 : decode cX3_licence 9 = .ok (.istore_n 2, 1) := dk_61 (dk_at dksX3_licence_0 9 rfl rfl)
theorem dX3_licence_10 : decode cX3_licence 10 = .ok (.aload_n 0, 1) := dk_42 (dk_at dksX3_licence_0 10 rfl rfl)
theorem dX3_licence_11 : decode cX3_licence 11 = .ok (.iload_n 1, 1) := dk_27 (dk_at dksX3_licence_0 11 rfl rfl)
theorem dX3_licence_12 : decode cX3_licence 12 = .ok (.aload_n 0, 1) := dk_42 (dk_at dksX3_licence_0 12 rfl rfl)
theorem dX3_licence_13 : decode cX3_licence 13 = .ok (.getfield 20, 3) := dk_180 0 20 (dk_at dksX3_licence_0 13 rfl rfl)
theorem dX3_licence_16 : decode cX3_licence 16 = .ok (.getfield 149, 3) := dk_180 0 149 (dk_at dksX3_licence_0 16 rfl rfl)
theorem dX3_licence_19 : decode cX3_licence 19 = .ok (.iconst 1, 1) := dk_4 (dk_at dksX3_licence_0 19 rfl rfl)
theorem dX3_licence_20 : decode cX3_licence 20 = .ok (.isub, 1) := dk_100 (dk_at dksX3_licence_0 20 rfl rfl)
theorem dX3_licence_21 : decode cX3_licence 21 = .ok (.invokevirtual 121, 3) := dk_182 0 121 (dk_at dksX3_licence_0 21 rfl rfl)
theorem dX3_licence_24 : decode cX3_licence 24 = .ok (.istore_n 3, 1) := dk_62 (dk_at dksX3_licence_1 0 rfl rfl)
theorem dX3_licence_25 : decode cX3_licence 25 = .ok (.aload_n 0, 1) := dk_42 (dk_at dksX3_licence_1 1 rfl rfl)
theorem dX3_licence_26 : decode cX3_licence 26 = .ok (.iload_n 2, 1) := dk_28 (dk_at dksX3_licence_1 2 rfl rfl)
theorem dX3_licence_27 : decode cX3_licence 27 = .ok (.aload_n 0, 1) := dk_42 (dk_at dksX3_licence_1 3 rfl rfl)
theorem dX3_licence_28 : decode cX3_licence 28 = .ok (.getfield 20, 3) := dk_180 0 20 (dk_at dksX3_licence_1 4 rfl rfl)
theorem dX3_licence_31 : decode cX3_licence 31 = .ok (.getfield 152, 3) := dk_180 0 152 (dk_at dksX3_licence_1 7 rfl rfl)
theorem dX3_licence_34 : decode cX3_licence 34 = .ok (.iconst 1, 1) := dk_4 (dk_at dksX3_licence_1 10 rfl rfl)
theorem dX3_licence_35 : decode cX3_licence 35 = .ok (.isub, 1) := dk_100 (dk_at dksX3_licence_1 11 rfl rfl)
theorem dX3_licence_36 : decode cX3_licence 36 = .ok (.invokevirtual 121, 3) := dk_182 0 121 (dk_at dksX3_licence_1 12 rfl rfl)
theorem dX3_licence_39 : decode cX3_licence 39 = .ok (.istore 4, 2) := dk_54 4 (dk_at dksX3_licence_1 15 rfl rfl)
theorem dX3_licence_41 : decode cX3_licence 41 = .ok (.aload_n 0, 1) := dk_42 (dk_at dksX3_licence_1 17 rfl rfl)
theorem dX3_licence_42 : decode cX3_licence 42 = .ok (.getfield 20, 3) := dk_180 0 20 (dk_at dksX3_licence_1 18 rfl rfl)
theorem dX3_licence_45 : decode cX3_licence 45 = .ok (.new 253, 3) := dk_187 0 253 (dk_at dksX3_licence_1 21 rfl rfl)
theorem dX3_licence_48 : decode cX3_licence 48 = .ok (.dup, 1) := dk_89 (dk_at dksX3_licence_2 0 rfl rfl)
theorem dX3_licence_49 : decode cX3_licence 49 = .ok (.iload_n 1, 1) := dk_27 (dk_at dksX3_licence_2 1 rfl rfl)
theorem dX3_licence_50 : decode cX3_licence 50 = .ok (.iload_n 2, 1) := dk_28 (dk_at dksX3_licence_2 2 rfl rfl)
theorem dX3_licence_51 : decode cX3_licence 51 = .ok (.iload_n 3, 1) := dk_29 (dk_at dksX3_licence_2 3 rfl rfl)
theorem dX3_licence_52 : decode cX3_licence 52 = .ok (.iload 4, 2) := dk_21 4 (dk_at dksX3_licence_2 4 rfl rfl)
theorem dX3_licence_54 : decode cX3_licence 54 = .ok (.aload_n 0, 1) := dk_42 (dk_at dksX3_licence_2 6 rfl rfl)
theorem dX3_licence_55 : decode cX3_licence 55 = .ok (.iconst 1, 1) := dk_4 (dk_at dksX3_licence_2 7 rfl rfl)
theorem dX3_licence_56 : decode cX3_licence 56 = .ok (.bipush 8, 2) := dk_16 8 (dk_at dksX3_licence_2 8 rfl rfl)
theorem dX3_licence_58 : decode cX3_licence 58 = .ok (.invokevirtual 121, 3) := dk_182 0 121 (dk_at dksX3_licence_2 10 rfl rfl)
theorem dX3_licence_61 : decode cX3_licence 61 = .ok (.invokespecial 255, 3) := dk_183 0 255 (dk_at dksX3_licence_2 13 rfl rfl)
theorem dX3_licence_64 : decode cX3_licence 64 = .ok (.invokevirtual 258, 3) := dk_182 1 2 (dk_at dksX3_licence_2 16 rfl rfl)
theorem dX3_licence_67 : decode cX3_licence 67 = .ok (.return_, 1) := dk_177 (dk_at dksX3_licence_2 19 rfl rfl)
abbrev cX3_test : ByteArray := prog_12_method_18_code
def yX3_test : MethodName := ⟨RX3, "test", "()LSpectrumAccess$Test;"⟩
def dkwX3_test_2 : List UInt8 := [182, 1, 30, 183, 1, 39, 76, 167, 255, 210, 43, 176]
abbrev dktX3_test_2 : List UInt8 := dkwX3_test_2 ++ []
def dkwX3_test_1 : List UInt8 := [153, 0, 32, 42, 19, 1, 33, 182, 0, 100, 61, 42, 182, 0, 104, 187, 1, 37, 89, 28, 43, 42]
abbrev dktX3_test_1 : List UInt8 := dkwX3_test_1 ++ dktX3_test_2
def dkwX3_test_0 : List UInt8 := [42, 182, 1, 30, 76, 42, 19, 1, 33, 182, 0, 100, 154, 0, 13, 42, 19, 1, 35, 182, 0, 100]
abbrev dktX3_test_0 : List UInt8 := dkwX3_test_0 ++ dktX3_test_1
theorem dksX3_test_0 : cX3_test.data.toList.drop 0 = dktX3_test_0 := by decide +kernel
theorem dksX3_test_1 : cX3_test.data.toList.drop 22 = dktX3_test_1 := dk_seg dksX3_test_0 22 rfl rfl
theorem dksX3_test_2 : cX3_test.data.toList.drop 44 = dktX3_test_2 := dk_seg dksX3_test_1 22 rfl rfl
theorem dX3_test_0 : decode cX3_test 0 = .ok (.aload_n 0, 1) := dk_42 (dk_at dksX3_test_0 0 rfl rfl)
theorem dX3_test_1 : decode cX3_test 1 = .ok (.invokevirtual 286, 3) := dk_182 1 30 (dk_at dksX3_test_0 1 rfl rfl)
theorem dX3_test_4 : decode cX3_test 4 = .ok (.astore_n 1, 1) := dk_76 (dk_at dksX3_test_0 4 rfl rfl)
theorem dX3_test_5 : decode cX3_test 5 = .ok (.aload_n 0, 1) := dk_42 (dk_at dksX3_test_0 5 rfl rfl)
theorem dX3_test_6 : decode cX3_test 6 = .ok (.ldc_w 289, 3) := dk_19 1 33 (dk_at dksX3_test_0 6 rfl rfl)
theorem dX3_test_9 : decode cX3_test 9 = .ok (.invokevirtual 100, 3) := dk_182 0 100 (dk_at dksX3_test_0 9 rfl rfl)
theorem dX3_test_12 : decode cX3_test 12 = .ok (.ifCond .ne 13, 3) := dk_154 0 13 (dk_at dksX3_test_0 12 rfl rfl)
theorem dX3_test_15 : decode cX3_test 15 = .ok (.aload_n 0, 1) := dk_42 (dk_at dksX3_test_0 15 rfl rfl)
theorem dX3_test_16 : decode cX3_test 16 = .ok (.ldc_w 291, 3) := dk_19 1 35 (dk_at dksX3_test_0 16 rfl rfl)
theorem dX3_test_19 : decode cX3_test 19 = .ok (.invokevirtual 100, 3) := dk_182 0 100 (dk_at dksX3_test_0 19 rfl rfl)
theorem dX3_test_22 : decode cX3_test 22 = .ok (.ifCond .eq 32, 3) := dk_153 0 32 (dk_at dksX3_test_1 0 rfl rfl)
theorem dX3_test_25 : decode cX3_test 25 = .ok (.aload_n 0, 1) := dk_42 (dk_at dksX3_test_1 3 rfl rfl)
theorem dX3_test_26 : decode cX3_test 26 = .ok (.ldc_w 289, 3) := dk_19 1 33 (dk_at dksX3_test_1 4 rfl rfl)
theorem dX3_test_29 : decode cX3_test 29 = .ok (.invokevirtual 100, 3) := dk_182 0 100 (dk_at dksX3_test_1 7 rfl rfl)
theorem dX3_test_32 : decode cX3_test 32 = .ok (.istore_n 2, 1) := dk_61 (dk_at dksX3_test_1 10 rfl rfl)
theorem dX3_test_33 : decode cX3_test 33 = .ok (.aload_n 0, 1) := dk_42 (dk_at dksX3_test_1 11 rfl rfl)
theorem dX3_test_34 : decode cX3_test 34 = .ok (.invokevirtual 104, 3) := dk_182 0 104 (dk_at dksX3_test_1 12 rfl rfl)
theorem dX3_test_37 : decode cX3_test 37 = .ok (.new 293, 3) := dk_187 1 37 (dk_at dksX3_test_1 15 rfl rfl)
theorem dX3_test_40 : decode cX3_test 40 = .ok (.dup, 1) := dk_89 (dk_at dksX3_test_1 18 rfl rfl)
theorem dX3_test_41 : decode cX3_test 41 = .ok (.iload_n 2, 1) := dk_28 (dk_at dksX3_test_1 19 rfl rfl)
theorem dX3_test_42 : decode cX3_test 42 = .ok (.aload_n 1, 1) := dk_43 (dk_at dksX3_test_1 20 rfl rfl)
theorem dX3_test_43 : decode cX3_test 43 = .ok (.aload_n 0, 1) := dk_42 (dk_at dksX3_test_1 21 rfl rfl)
theorem dX3_test_44 : decode cX3_test 44 = .ok (.invokevirtual 286, 3) := dk_182 1 30 (dk_at dksX3_test_2 0 rfl rfl)
theorem dX3_test_47 : decode cX3_test 47 = .ok (.invokespecial 295, 3) := dk_183 1 39 (dk_at dksX3_test_2 3 rfl rfl)
theorem dX3_test_50 : decode cX3_test 50 = .ok (.astore_n 1, 1) := dk_76 (dk_at dksX3_test_2 6 rfl rfl)
theorem dX3_test_51 : decode cX3_test 51 = .ok (.goto (-46), 3) := dk_167 255 210 (dk_at dksX3_test_2 7 rfl rfl)
theorem dX3_test_54 : decode cX3_test 54 = .ok (.aload_n 1, 1) := dk_43 (dk_at dksX3_test_2 10 rfl rfl)
theorem dX3_test_55 : decode cX3_test 55 = .ok (.areturn, 1) := dk_176 (dk_at dksX3_test_2 11 rfl rfl)
abbrev cX3_unit : ByteArray := prog_12_method_21_code
def yX3_unit : MethodName := ⟨RX3, "unit", "()LSpectrumAccess$Test;"⟩
def dkwX3_unit_10 : List UInt8 := [100, 181, 1, 57, 25, 4, 191]
abbrev dktX3_unit_10 : List UInt8 := dkwX3_unit_10 ++ []
def dkwX3_unit_9 : List UInt8 := [182, 1, 68, 77, 42, 89, 180, 1, 57, 4, 100, 181, 1, 57, 44, 176, 58, 4, 42, 89, 180, 1, 57, 4]
abbrev dktX3_unit_9 : List UInt8 := dkwX3_unit_9 ++ dktX3_unit_10
def dkwX3_unit_8 : List UInt8 := [187, 1, 60, 89, 42, 182, 1, 30, 183, 1, 62, 167, 0, 15, 42, 182, 1, 65, 167, 0, 8, 42, 43]
abbrev dktX3_unit_8 : List UInt8 := dkwX3_unit_8 ++ dktX3_unit_9
def dkwX3_unit_7 : List UInt8 := [171, 0, 0, 0, 0, 0, 0, 49, 0, 0, 0, 2, 0, 0, 0, 0, 0, 0, 0, 28, 0, 0, 0, 1, 0, 0, 0, 42]
abbrev dktX3_unit_7 : List UInt8 := dkwX3_unit_7 ++ dktX3_unit_8
def dkwX3_unit_6 : List UInt8 := [153, 0, 5, 4, 62, 29]
abbrev dktX3_unit_6 : List UInt8 := dkwX3_unit_6 ++ dktX3_unit_7
def dkwX3_unit_5 : List UInt8 := [44, 19, 1, 53, 182, 0, 189, 153, 0, 20, 3, 62, 167, 0, 15, 44, 19, 1, 55, 182, 0, 189]
abbrev dktX3_unit_5 : List UInt8 := dkwX3_unit_5 ++ dktX3_unit_6
def dkwX3_unit_4 : List UInt8 := [171, 0, 0, 0, 0, 0, 54, 0, 0, 0, 2, 0, 0, 0, 40, 0, 0, 0, 42, 0, 1, 170, 211, 0, 0, 0, 27]
abbrev dktX3_unit_4 : List UInt8 := dkwX3_unit_4 ++ dktX3_unit_5
def dkwX3_unit_3 : List UInt8 := [182, 0, 104, 43, 77, 2, 62, 44, 182, 0, 184]
abbrev dktX3_unit_3 : List UInt8 := dkwX3_unit_3 ++ dktX3_unit_4
def dkwX3_unit_2 : List UInt8 := [16, 9, 164, 0, 10, 42, 16, 6, 182, 0, 110, 191, 42, 89, 180, 1, 57, 4, 96, 181, 1, 57, 42]
abbrev dktX3_unit_2 : List UInt8 := dkwX3_unit_2 ++ dktX3_unit_3
def dkwX3_unit_1 : List UInt8 := [154, 0, 19, 43, 19, 1, 55, 182, 0, 189, 154, 0, 9, 42, 4, 182, 0, 110, 191, 42, 180, 1, 57]
abbrev dktX3_unit_1 : List UInt8 := dkwX3_unit_1 ++ dktX3_unit_2
def dkwX3_unit_0 : List UInt8 := [42, 180, 0, 11, 185, 0, 180, 1, 0, 76, 43, 184, 1, 50, 154, 0, 29, 43, 19, 1, 53, 182, 0, 189]
abbrev dktX3_unit_0 : List UInt8 := dkwX3_unit_0 ++ dktX3_unit_1
theorem dksX3_unit_0 : cX3_unit.data.toList.drop 0 = dktX3_unit_0 := by decide +kernel
theorem dksX3_unit_1 : cX3_unit.data.toList.drop 24 = dktX3_unit_1 := dk_seg dksX3_unit_0 24 rfl rfl
theorem dksX3_unit_2 : cX3_unit.data.toList.drop 47 = dktX3_unit_2 := dk_seg dksX3_unit_1 23 rfl rfl
theorem dksX3_unit_3 : cX3_unit.data.toList.drop 70 = dktX3_unit_3 := dk_seg dksX3_unit_2 23 rfl rfl
theorem dksX3_unit_4 : cX3_unit.data.toList.drop 81 = dktX3_unit_4 := dk_seg dksX3_unit_3 11 rfl rfl
theorem dksX3_unit_5 : cX3_unit.data.toList.drop 108 = dktX3_unit_5 := dk_seg dksX3_unit_4 27 rfl rfl
theorem dksX3_unit_6 : cX3_unit.data.toList.drop 130 = dktX3_unit_6 := dk_seg dksX3_unit_5 22 rfl rfl
theorem dksX3_unit_7 : cX3_unit.data.toList.drop 136 = dktX3_unit_7 := dk_seg dksX3_unit_6 6 rfl rfl
theorem dksX3_unit_8 : cX3_unit.data.toList.drop 164 = dktX3_unit_8 := dk_seg dksX3_unit_7 28 rfl rfl
theorem dksX3_unit_9 : cX3_unit.data.toList.drop 187 = dktX3_unit_9 := dk_seg dksX3_unit_8 23 rfl rfl
theorem dksX3_unit_10 : cX3_unit.data.toList.drop 211 = dktX3_unit_10 := dk_seg dksX3_unit_9 24 rfl rfl
theorem dX3_unit_0 : decode cX3_unit 0 = .ok (.aload_n 0, 1) := dk_42 (dk_at dksX3_unit_0 0 rfl rfl)
theorem dX3_unit_1 : decode cX3_unit 1 = .ok (.getfield 11, 3) := dk_180 0 11 (dk_at dksX3_unit_0 1 rfl rfl)
theorem dX3_unit_4 : decode cX3_unit 4 = .ok (.invokeinterface 180 1, 5) := by decide +kernel
theorem dX3_unit_9 : decode cX3_unit 9 = .ok (.astore_n 1, 1) := dk_76 (dk_at dksX3_unit_0 9 rfl rfl)
theorem dX3_unit_10 : decode cX3_unit 10 = .ok (.aload_n 1, 1) := dk_43 (dk_at dksX3_unit_0 10 rfl rfl)
theorem dX3_unit_11 : decode cX3_unit 11 = .ok (.invokestatic 306, 3) := dk_184 1 50 (dk_at dksX3_unit_0 11 rfl rfl)
theorem dX3_unit_14 : decode cX3_unit 14 = .ok (.ifCond .ne 29, 3) := dk_154 0 29 (dk_at dksX3_unit_0 14 rfl rfl)
theorem dX3_unit_17 : decode cX3_unit 17 = .ok (.aload_n 1, 1) := dk_43 (dk_at dksX3_unit_0 17 rfl rfl)
theorem dX3_unit_18 : decode cX3_unit 18 = .ok (.ldc_w 309, 3) := dk_19 1 53 (dk_at dksX3_unit_0 18 rfl rfl)
theorem dX3_unit_21 : decode cX3_unit 21 = .ok (.invokevirtual 189, 3) := dk_182 0 189 (dk_at dksX3_unit_0 21 rfl rfl)
theorem dX3_unit_24 : decode cX3_unit 24 = .ok (.ifCond .ne 19, 3) := dk_154 0 19 (dk_at dksX3_unit_1 0 rfl rfl)
theorem dX3_unit_27 : decode cX3_unit 27 = .ok (.aload_n 1, 1) := dk_43 (dk_at dksX3_unit_1 3 rfl rfl)
theorem dX3_unit_28 : decode cX3_unit 28 = .ok (.ldc_w 311, 3) := dk_19 1 55 (dk_at dksX3_unit_1 4 rfl rfl)
theorem dX3_unit_31 : decode cX3_unit 31 = .ok (.invokevirtual 189, 3) := dk_182 0 189 (dk_at dksX3_unit_1 7 rfl rfl)
theorem dX3_unit_34 : decode cX3_unit 34 = .ok (.ifCond .ne 9, 3) := dk_154 0 9 (dk_at dksX3_unit_1 10 rfl rfl)
theorem dX3_unit_37 : decode cX3_unit 37 = .ok (.aload_n 0, 1) := dk_42 (dk_at dksX3_unit_1 13 rfl rfl)
theorem dX3_unit_38 : decode cX3_unit 38 = .ok (.iconst 1, 1) := dk_4 (dk_at dksX3_unit_1 14 rfl rfl)
theorem dX3_unit_39 : decode cX3_unit 39 = .ok (.invokevirtual 110, 3) := dk_182 0 110 (dk_at dksX3_unit_1 15 rfl rfl)
theorem dX3_unit_42 : decode cX3_unit 42 = .ok (.athrow, 1) := dk_191 (dk_at dksX3_unit_1 18 rfl rfl)
theorem dX3_unit_43 : decode cX3_unit 43 = .ok (.aload_n 0, 1) := dk_42 (dk_at dksX3_unit_1 19 rfl rfl)
theorem dX3_unit_44 : decode cX3_unit 44 = .ok (.getfield 313, 3) := dk_180 1 57 (dk_at dksX3_unit_1 20 rfl rfl)
theorem dX3_unit_47 : decode cX3_unit 47 = .ok (.bipush 9, 2) := dk_16 9 (dk_at dksX3_unit_2 0 rfl rfl)
theorem dX3_unit_49 : decode cX3_unit 49 = .ok (.if_icmp .le 10, 3) := dk_164 0 10 (dk_at dksX3_unit_2 2 rfl rfl)
theorem dX3_unit_52 : decode cX3_unit 52 = .ok (.aload_n 0, 1) := dk_42 (dk_at dksX3_unit_2 5 rfl rfl)
theorem dX3_unit_53 : decode cX3_unit 53 = .ok (.bipush 6, 2) := dk_16 6 (dk_at dksX3_unit_2 6 rfl rfl)
theorem dX3_unit_55 : decode cX3_unit 55 = .ok (.invokevirtual 110, 3) := dk_182 0 110 (dk_at dksX3_unit_2 8 rfl rfl)
theorem dX3_unit_58 : decode cX3_unit 58 = .ok (.athrow, 1) := dk_191 (dk_at dksX3_unit_2 11 rfl rfl)
theorem dX3_unit_59 : decode cX3_unit 59 = .ok (.aload_n 0, 1) := dk_42 (dk_at dksX3_unit_2 12 rfl rfl)
theorem dX3_unit_60 : decode cX3_unit 60 = .ok (.dup, 1) := dk_89 (dk_at dksX3_unit_2 13 rfl rfl)
theorem dX3_unit_61 : decode cX3_unit 61 = .ok (.getfield 313, 3) := dk_180 1 57 (dk_at dksX3_unit_2 14 rfl rfl)
theorem dX3_unit_64 : decode cX3_unit 64 = .ok (.iconst 1, 1) := dk_4 (dk_at dksX3_unit_2 17 rfl rfl)
theorem dX3_unit_65 : decode cX3_unit 65 = .ok (.iadd, 1) := dk_96 (dk_at dksX3_unit_2 18 rfl rfl)
theorem dX3_unit_66 : decode cX3_unit 66 = .ok (.putfield 313, 3) := dk_181 1 57 (dk_at dksX3_unit_2 19 rfl rfl)
theorem dX3_unit_69 : decode cX3_unit 69 = .ok (.aload_n 0, 1) := dk_42 (dk_at dksX3_unit_2 22 rfl rfl)
theorem dX3_unit_70 : decode cX3_unit 70 = .ok (.invokevirtual 104, 3) := dk_182 0 104 (dk_at dksX3_unit_3 0 rfl rfl)
theorem dX3_unit_73 : decode cX3_unit 73 = .ok (.aload_n 1, 1) := dk_43 (dk_at dksX3_unit_3 3 rfl rfl)
theorem dX3_unit_74 : decode cX3_unit 74 = .ok (.astore_n 2, 1) := dk_77 (dk_at dksX3_unit_3 4 rfl rfl)
theorem dX3_unit_75 : decode cX3_unit 75 = .ok (.iconst (-1), 1) := dk_2 (dk_at dksX3_unit_3 5 rfl rfl)
theorem dX3_unit_76 : decode cX3_unit 76 = .ok (.istore_n 3, 1) := dk_62 (dk_at dksX3_unit_3 6 rfl rfl)
theorem dX3_unit_77 : decode cX3_unit 77 = .ok (.aload_n 2, 1) := dk_44 (dk_at dksX3_unit_3 7 rfl rfl)
theorem dX3_unit_78 : decode cX3_unit 78 = .ok (.invokevirtual 184, 3) := dk_182 0 184 (dk_at dksX3_unit_3 8 rfl rfl)
theorem dX3_unit_81 : decode cX3_unit 81 = .ok (.lookupswitch 54 #[(40, 42), (109267, 27)], 27) := by decide +kernel
theorem dX3_unit_108 : decode cX3_unit 108 = .ok (.aload_n 2, 1) := dk_44 (dk_at dksX3_unit_5 0 rfl rfl)
theorem dX3_unit_109 : decode cX3_unit 109 = .ok (.ldc_w 309, 3) := dk_19 1 53 (dk_at dksX3_unit_5 1 rfl rfl)
theorem dX3_unit_112 : decode cX3_unit 112 = .ok (.invokevirtual 189, 3) := dk_182 0 189 (dk_at dksX3_unit_5 4 rfl rfl)
theorem dX3_unit_115 : decode cX3_unit 115 = .ok (.ifCond .eq 20, 3) := dk_153 0 20 (dk_at dksX3_unit_5 7 rfl rfl)
theorem dX3_unit_118 : decode cX3_unit 118 = .ok (.iconst 0, 1) := dk_3 (dk_at dksX3_unit_5 10 rfl rfl)
theorem dX3_unit_119 : decode cX3_unit 119 = .ok (.istore_n 3, 1) := dk_62 (dk_at dksX3_unit_5 11 rfl rfl)
theorem dX3_unit_120 : decode cX3_unit 120 = .ok (.goto 15, 3) := dk_167 0 15 (dk_at dksX3_unit_5 12 rfl rfl)
theorem dX3_unit_123 : decode cX3_unit 123 = .ok (.aload_n 2, 1) := dk_44 (dk_at dksX3_unit_5 15 rfl rfl)
theorem dX3_unit_124 : decode cX3_unit 124 = .ok (.ldc_w 311, 3) := dk_19 1 55 (dk_at dksX3_unit_5 16 rfl rfl)
theorem dX3_unit_127 : decode cX3_unit 127 = .ok (.invokevirtual 189, 3) := dk_182 0 189 (dk_at dksX3_unit_5 19 rfl rfl)
theorem dX3_unit_130 : decode cX3_unit 130 = .ok (.ifCond .eq 5, 3) := dk_153 0 5 (dk_at dksX3_unit_6 0 rfl rfl)
theorem dX3_unit_133 : decode cX3_unit 133 = .ok (.iconst 1, 1) := dk_4 (dk_at dksX3_unit_6 3 rfl rfl)
theorem dX3_unit_134 : decode cX3_unit 134 = .ok (.istore_n 3, 1) := dk_62 (dk_at dksX3_unit_6 4 rfl rfl)
theorem dX3_unit_135 : decode cX3_unit 135 = .ok (.iload_n 3, 1) := dk_29 (dk_at dksX3_unit_6 5 rfl rfl)
theorem dX3_unit_136 : decode cX3_unit 136 = .ok (.lookupswitch 49 #[(0, 28), (1, 42)], 28) := by decide +kernel
theorem dX3_unit_164 : decode cX3_unit 164 = .ok (.new 316, 3) := dk_187 1 60 (dk_at dksX3_unit_8 0 rfl rfl)
theorem dX3_unit_167 : decode cX3_unit 167 = .ok (.dup, 1) := dk_89 (dk_at dksX3_unit_8 3 rfl rfl)
theorem dX3_unit_168 : decode cX3_unit 168 = .ok (.aload_n 0, 1) := dk_42 (dk_at dksX3_unit_8 4 rfl rfl)
theorem dX3_unit_169 : decode cX3_unit 169 = .ok (.invokevirtual 286, 3) := dk_182 1 30 (dk_at dksX3_unit_8 5 rfl rfl)
theorem dX3_unit_172 : decode cX3_unit 172 = .ok (.invokespecial 318, 3) := dk_183 1 62 (dk_at dksX3_unit_8 8 rfl rfl)
theorem dX3_unit_175 : decode cX3_unit 175 = .ok (.goto 15, 3) := dk_167 0 15 (dk_at dksX3_unit_8 11 rfl rfl)
theorem dX3_unit_178 : decode cX3_unit 178 = .ok (.aload_n 0, 1) := dk_42 (dk_at dksX3_unit_8 14 rfl rfl)
theorem dX3_unit_179 : decode cX3_unit 179 = .ok (.invokevirtual 321, 3) := dk_182 1 65 (dk_at dksX3_unit_8 15 rfl rfl)
theorem dX3_unit_182 : decode cX3_unit 182 = .ok (.goto 8, 3) := dk_167 0 8 (dk_at dksX3_unit_8 18 rfl rfl)
theorem dX3_unit_185 : decode cX3_unit 185 = .ok (.aload_n 0, 1) := dk_42 (dk_at dksX3_unit_8 21 rfl rfl)
theorem dX3_unit_186 : decode cX3_unit 186 = .ok (.aload_n 1, 1) := dk_43 (dk_at dksX3_unit_8 22 rfl rfl)
theorem dX3_unit_187 : decode cX3_unit 187 = .ok (.invokevirtual 324, 3) := dk_182 1 68 (dk_at dksX3_unit_9 0 rfl rfl)
theorem dX3_unit_190 : decode cX3_unit 190 = .ok (.astore_n 2, 1) := dk_77 (dk_at dksX3_unit_9 3 rfl rfl)
theorem dX3_unit_191 : decode cX3_unit 191 = .ok (.aload_n 0, 1) := dk_42 (dk_at dksX3_unit_9 4 rfl rfl)
theorem dX3_unit_192 : decode cX3_unit 192 = .ok (.dup, 1) := dk_89 (dk_at dksX3_unit_9 5 rfl rfl)
theorem dX3_unit_193 : decode cX3_unit 193 = .ok (.getfield 313, 3) := dk_180 1 57 (dk_at dksX3_unit_9 6 rfl rfl)
theorem dX3_unit_196 : decode cX3_unit 196 = .ok (.iconst 1, 1) := dk_4 (dk_at dksX3_unit_9 9 rfl rfl)
theorem dX3_unit_197 : decode cX3_unit 197 = .ok (.isub, 1) := dk_100 (dk_at dksX3_unit_9 10 rfl rfl)
theorem dX3_unit_198 : decode cX3_unit 198 = .ok (.putfield 313, 3) := dk_181 1 57 (dk_at dksX3_unit_9 11 rfl rfl)
theorem dX3_unit_201 : decode cX3_unit 201 = .ok (.aload_n 2, 1) := dk_44 (dk_at dksX3_unit_9 14 rfl rfl)
theorem dX3_unit_202 : decode cX3_unit 202 = .ok (.areturn, 1) := dk_176 (dk_at dksX3_unit_9 15 rfl rfl)
theorem dX3_unit_203 : decode cX3_unit 203 = .ok (.astore 4, 2) := dk_58 4 (dk_at dksX3_unit_9 16 rfl rfl)
theorem dX3_unit_205 : decode cX3_unit 205 = .ok (.aload_n 0, 1) := dk_42 (dk_at dksX3_unit_9 18 rfl rfl)
theorem dX3_unit_206 : decode cX3_unit 206 = .ok (.dup, 1) := dk_89 (dk_at dksX3_unit_9 19 rfl rfl)
theorem dX3_unit_207 : decode cX3_unit 207 = .ok (.getfield 313, 3) := dk_180 1 57 (dk_at dksX3_unit_9 20 rfl rfl)
theorem dX3_unit_210 : decode cX3_unit 210 = .ok (.iconst 1, 1) := dk_4 (dk_at dksX3_unit_9 23 rfl rfl)
theorem dX3_unit_211 : decode cX3_unit 211 = .ok (.isub, 1) := dk_100 (dk_at dksX3_unit_10 0 rfl rfl)
theorem dX3_unit_212 : decode cX3_unit 212 = .ok (.putfield 313, 3) := dk_181 1 57 (dk_at dksX3_unit_10 1 rfl rfl)
theorem dX3_unit_215 : decode cX3_unit 215 = .ok (.aload 4, 2) := dk_25 4 (dk_at dksX3_unit_10 4 rfl rfl)
theorem dX3_unit_217 : decode cX3_unit 217 = .ok (.athrow, 1) := dk_191 (dk_at dksX3_unit_10 6 rfl rfl)
abbrev cX3_isValue : ByteArray := prog_12_method_20_code
def yX3_isValue : MethodName := ⟨RX3, "isValue", "(Ljava/lang/String;)Z"⟩
def dkwX3_isValue_7 : List UInt8 := [4, 167, 0, 4, 3, 172]
abbrev dktX3_isValue_7 : List UInt8 := dkwX3_isValue_7 ++ []
def dkwX3_isValue_6 : List UInt8 := [170, 0, 0, 0, 0, 0, 39, 0, 0, 0, 0, 0, 0, 0, 4, 0, 0, 0, 35, 0, 0, 0, 35, 0, 0, 0, 35, 0, 0, 0, 35, 0, 0, 0, 35]
abbrev dktX3_isValue_6 : List UInt8 := dkwX3_isValue_6 ++ dktX3_isValue_7
def dkwX3_isValue_5 : List UInt8 := [7, 61, 28]
abbrev dktX3_isValue_5 : List UInt8 := dkwX3_isValue_5 ++ dktX3_isValue_6
def dkwX3_isValue_4 : List UInt8 := [19, 1, 46, 182, 0, 189, 153, 0, 20, 6, 61, 167, 0, 15, 43, 19, 1, 48, 182, 0, 189, 153, 0, 5]
abbrev dktX3_isValue_4 : List UInt8 := dkwX3_isValue_4 ++ dktX3_isValue_5
def dkwX3_isValue_3 : List UInt8 := [153, 0, 50, 4, 61, 167, 0, 45, 43, 19, 1, 44, 182, 0, 189, 153, 0, 35, 5, 61, 167, 0, 30, 43]
abbrev dktX3_isValue_3 : List UInt8 := dkwX3_isValue_3 ++ dktX3_isValue_4
def dkwX3_isValue_2 : List UInt8 := [43, 19, 1, 42, 182, 0, 189, 153, 0, 65, 3, 61, 167, 0, 60, 43, 19, 1, 43, 182, 0, 189]
abbrev dktX3_isValue_2 : List UInt8 := dkwX3_isValue_2 ++ dktX3_isValue_3
def dkwX3_isValue_1 : List UInt8 := [171, 0, 0, 0, 0, 0, 0, 124, 0, 0, 0, 5, 0, 0, 0, 120, 0, 0, 0, 52, 0, 0, 0, 121, 0, 0, 0, 67, 0, 54, 82, 205, 0, 0, 0, 97, 6, 52, 62, 194, 0, 0, 0, 112, 44, 11, 125, 3, 0, 0, 0, 82]
abbrev dktX3_isValue_1 : List UInt8 := dkwX3_isValue_1 ++ dktX3_isValue_2
def dkwX3_isValue_0 : List UInt8 := [42, 76, 2, 61, 43, 182, 0, 184]
abbrev dktX3_isValue_0 : List UInt8 := dkwX3_isValue_0 ++ dktX3_isValue_1
theorem dksX3_isValue_0 : cX3_isValue.data.toList.drop 0 = dktX3_isValue_0 := by decide +kernel
theorem dksX3_isValue_1 : cX3_isValue.data.toList.drop 8 = dktX3_isValue_1 := dk_seg dksX3_isValue_0 8 rfl rfl
theorem dksX3_isValue_2 : cX3_isValue.data.toList.drop 60 = dktX3_isValue_2 := dk_seg dksX3_isValue_1 52 rfl rfl
theorem dksX3_isValue_3 : cX3_isValue.data.toList.drop 82 = dktX3_isValue_3 := dk_seg dksX3_isValue_2 22 rfl rfl
theorem dksX3_isValue_4 : cX3_isValue.data.toList.drop 106 = dktX3_isValue_4 := dk_seg dksX3_isValue_3 24 rfl rfl
theorem dksX3_isValue_5 : cX3_isValue.data.toList.drop 130 = dktX3_isValue_5 := dk_seg dksX3_isValue_4 24 rfl rfl
theorem dksX3_isValue_6 : cX3_isValue.data.toList.drop 133 = dktX3_isValue_6 := dk_seg dksX3_isValue_5 3 rfl rfl
theorem dksX3_isValue_7 : cX3_isValue.data.toList.drop 168 = dktX3_isValue_7 := dk_seg dksX3_isValue_6 35 rfl rfl
theorem dX3_isValue_0 : decode cX3_isValue 0 = .ok (.aload_n 0, 1) := dk_42 (dk_at dksX3_isValue_0 0 rfl rfl)
theorem dX3_isValue_1 : decode cX3_isValue 1 = .ok (.astore_n 1, 1) := dk_76 (dk_at dksX3_isValue_0 1 rfl rfl)
theorem dX3_isValue_2 : decode cX3_isValue 2 = .ok (.iconst (-1), 1) := dk_2 (dk_at dksX3_isValue_0 2 rfl rfl)
theorem dX3_isValue_3 : decode cX3_isValue 3 = .ok (.istore_n 2, 1) := dk_61 (dk_at dksX3_isValue_0 3 rfl rfl)
theorem dX3_isValue_4 : decode cX3_isValue 4 = .ok (.aload_n 1, 1) := dk_43 (dk_at dksX3_isValue_0 4 rfl rfl)
theorem dX3_isValue_5 : decode cX3_isValue 5 = .ok (.invokevirtual 184, 3) := dk_182 0 184 (dk_at dksX3_isValue_0 5 rfl rfl)
theorem dX3_isValue_8 : decode cX3_isValue 8 = .ok (.lookupswitch 124 #[(120, 52), (121, 67), (3560141, 97), (104087234, 112), (738950403, 82)], 52) := by decide +kernel
theorem dX3_isValue_60 : decode cX3_isValue 60 = .ok (.aload_n 1, 1) := dk_43 (dk_at dksX3_isValue_2 0 rfl rfl)
theorem dX3_isValue_61 : decode cX3_isValue 61 = .ok (.ldc_w 298, 3) := dk_19 1 42 (dk_at dksX3_isValue_2 1 rfl rfl)
theorem dX3_isValue_64 : decode cX3_isValue 64 = .ok (.invokevirtual 189, 3) := dk_182 0 189 (dk_at dksX3_isValue_2 4 rfl rfl)
theorem dX3_isValue_67 : decode cX3_isValue 67 = .ok (.ifCond .eq 65, 3) := dk_153 0 65 (dk_at dksX3_isValue_2 7 rfl rfl)
theorem dX3_isValue_70 : decode cX3_isValue 70 = .ok (.iconst 0, 1) := dk_3 (dk_at dksX3_isValue_2 10 rfl rfl)
theorem dX3_isValue_71 : decode cX3_isValue 71 = .ok (.istore_n 2, 1) := dk_61 (dk_at dksX3_isValue_2 11 rfl rfl)
theorem dX3_isValue_72 : decode cX3_isValue 72 = .ok (.goto 60, 3) := dk_167 0 60 (dk_at dksX3_isValue_2 12 rfl rfl)
theorem dX3_isValue_75 : decode cX3_isValue 75 = .ok (.aload_n 1, 1) := dk_43 (dk_at dksX3_isValue_2 15 rfl rfl)
theorem dX3_isValue_76 : decode cX3_isValue 76 = .ok (.ldc_w 299, 3) := dk_19 1 43 (dk_at dksX3_isValue_2 16 rfl rfl)
theorem dX3_isValue_79 : decode cX3_isValue 79 = .ok (.invokevirtual 189, 3) := dk_182 0 189 (dk_at dksX3_isValue_2 19 rfl rfl)
theorem dX3_isValue_82 : decode cX3_isValue 82 = .ok (.ifCond .eq 50, 3) := dk_153 0 50 (dk_at dksX3_isValue_3 0 rfl rfl)
theorem dX3_isValue_85 : decode cX3_isValue 85 = .ok (.iconst 1, 1) := dk_4 (dk_at dksX3_isValue_3 3 rfl rfl)
theorem dX3_isValue_86 : decode cX3_isValue 86 = .ok (.istore_n 2, 1) := dk_61 (dk_at dksX3_isValue_3 4 rfl rfl)
theorem dX3_isValue_87 : decode cX3_isValue 87 = .ok (.goto 45, 3) := dk_167 0 45 (dk_at dksX3_isValue_3 5 rfl rfl)
theorem dX3_isValue_90 : decode cX3_isValue 90 = .ok (.aload_n 1, 1) := dk_43 (dk_at dksX3_isValue_3 8 rfl rfl)
theorem dX3_isValue_91 : decode cX3_isValue 91 = .ok (.ldc_w 300, 3) := dk_19 1 44 (dk_at dksX3_isValue_3 9 rfl rfl)
theorem dX3_isValue_94 : decode cX3_isValue 94 = .ok (.invokevirtual 189, 3) := dk_182 0 189 (dk_at dksX3_isValue_3 12 rfl rfl)
theorem dX3_isValue_97 : decode cX3_isValue 97 = .ok (.ifCond .eq 35, 3) := dk_153 0 35 (dk_at dksX3_isValue_3 15 rfl rfl)
theorem dX3_isValue_100 : decode cX3_isValue 100 = .ok (.iconst 2, 1) := dk_5 (dk_at dksX3_isValue_3 18 rfl rfl)
theorem dX3_isValue_101 : decode cX3_isValue 101 = .ok (.istore_n 2, 1) := dk_61 (dk_at dksX3_isValue_3 19 rfl rfl)
theorem dX3_isValue_102 : decode cX3_isValue 102 = .ok (.goto 30, 3) := dk_167 0 30 (dk_at dksX3_isValue_3 20 rfl rfl)
theorem dX3_isValue_105 : decode cX3_isValue 105 = .ok (.aload_n 1, 1) := dk_43 (dk_at dksX3_isValue_3 23 rfl rfl)
theorem dX3_isValue_106 : decode cX3_isValue 106 = .ok (.ldc_w 302, 3) := dk_19 1 46 (dk_at dksX3_isValue_4 0 rfl rfl)
theorem dX3_isValue_109 : decode cX3_isValue 109 = .ok (.invokevirtual 189, 3) := dk_182 0 189 (dk_at dksX3_isValue_4 3 rfl rfl)
theorem dX3_isValue_112 : decode cX3_isValue 112 = .ok (.ifCond .eq 20, 3) := dk_153 0 20 (dk_at dksX3_isValue_4 6 rfl rfl)
theorem dX3_isValue_115 : decode cX3_isValue 115 = .ok (.iconst 3, 1) := dk_6 (dk_at dksX3_isValue_4 9 rfl rfl)
theorem dX3_isValue_116 : decode cX3_isValue 116 = .ok (.istore_n 2, 1) := dk_61 (dk_at dksX3_isValue_4 10 rfl rfl)
theorem dX3_isValue_117 : decode cX3_isValue 117 = .ok (.goto 15, 3) := dk_167 0 15 (dk_at dksX3_isValue_4 11 rfl rfl)
theorem dX3_isValue_120 : decode cX3_isValue 120 = .ok (.aload_n 1, 1) := dk_43 (dk_at dksX3_isValue_4 14 rfl rfl)
theorem dX3_isValue_121 : decode cX3_isValue 121 = .ok (.ldc_w 304, 3) := dk_19 1 48 (dk_at dksX3_isValue_4 15 rfl rfl)
theorem dX3_isValue_124 : decode cX3_isValue 124 = .ok (.invokevirtual 189, 3) := dk_182 0 189 (dk_at dksX3_isValue_4 18 rfl rfl)
theorem dX3_isValue_127 : decode cX3_isValue 127 = .ok (.ifCond .eq 5, 3) := dk_153 0 5 (dk_at dksX3_isValue_4 21 rfl rfl)
theorem dX3_isValue_130 : decode cX3_isValue 130 = .ok (.iconst 4, 1) := dk_7 (dk_at dksX3_isValue_5 0 rfl rfl)
theorem dX3_isValue_131 : decode cX3_isValue 131 = .ok (.istore_n 2, 1) := dk_61 (dk_at dksX3_isValue_5 1 rfl rfl)
theorem dX3_isValue_132 : decode cX3_isValue 132 = .ok (.iload_n 2, 1) := dk_28 (dk_at dksX3_isValue_5 2 rfl rfl)
theorem dX3_isValue_133 : decode cX3_isValue 133 = .ok (.tableswitch 39 0 4 #[35, 35, 35, 35, 35], 35) := by decide +kernel
theorem dX3_isValue_168 : decode cX3_isValue 168 = .ok (.iconst 1, 1) := dk_4 (dk_at dksX3_isValue_7 0 rfl rfl)
theorem dX3_isValue_169 : decode cX3_isValue 169 = .ok (.goto 4, 3) := dk_167 0 4 (dk_at dksX3_isValue_7 1 rfl rfl)
theorem dX3_isValue_172 : decode cX3_isValue 172 = .ok (.iconst 0, 1) := dk_3 (dk_at dksX3_isValue_7 4 rfl rfl)
theorem dX3_isValue_173 : decode cX3_isValue 173 = .ok (.ireturn, 1) := dk_172 (dk_at dksX3_isValue_7 5 rfl rfl)
abbrev cX3_bracketed : ByteArray := prog_12_method_22_code
def yX3_bracketed : MethodName := ⟨RX3, "bracketed", "()LSpectrumAccess$Test;"⟩
def dkwX3_bracketed_0 : List UInt8 := [42, 182, 0, 234, 76, 42, 19, 1, 72, 182, 0, 117, 43, 176]
abbrev dktX3_bracketed_0 : List UInt8 := dkwX3_bracketed_0 ++ []
theorem dksX3_bracketed_0 : cX3_bracketed.data.toList.drop 0 = dktX3_bracketed_0 := by decide +kernel
theorem dX3_bracketed_0 : decode cX3_bracketed 0 = .ok (.aload_n 0, 1) := dk_42 (dk_at dksX3_bracketed_0 0 rfl rfl)
theorem dX3_bracketed_1 : decode cX3_bracketed 1 = .ok (.invokevirtual 234, 3) := dk_182 0 234 (dk_at dksX3_bracketed_0 1 rfl rfl)
theorem dX3_bracketed_4 : decode cX3_bracketed 4 = .ok (.astore_n 1, 1) := dk_76 (dk_at dksX3_bracketed_0 4 rfl rfl)
theorem dX3_bracketed_5 : decode cX3_bracketed 5 = .ok (.aload_n 0, 1) := dk_42 (dk_at dksX3_bracketed_0 5 rfl rfl)
theorem dX3_bracketed_6 : decode cX3_bracketed 6 = .ok (.ldc_w 328, 3) := dk_19 1 72 (dk_at dksX3_bracketed_0 6 rfl rfl)
theorem dX3_bracketed_9 : decode cX3_bracketed 9 = .ok (.invokevirtual 117, 3) := dk_182 0 117 (dk_at dksX3_bracketed_0 9 rfl rfl)
theorem dX3_bracketed_12 : decode cX3_bracketed 12 = .ok (.aload_n 1, 1) := dk_43 (dk_at dksX3_bracketed_0 12 rfl rfl)
theorem dX3_bracketed_13 : decode cX3_bracketed 13 = .ok (.areturn, 1) := dk_176 (dk_at dksX3_bracketed_0 13 rfl rfl)
abbrev cX3_comparison : ByteArray := prog_12_method_23_code
def yX3_comparison : MethodName := ⟨RX3, "comparison", "(Ljava/lang/String;)LSpectrumAccess$Test;"⟩
def dkwX3_comparison_2 : List UInt8 := [182, 0, 104, 187, 1, 84, 89, 43, 28, 42, 3, 17, 39, 15, 182, 0, 121, 183, 1, 86, 176]
abbrev dktX3_comparison_2 : List UInt8 := dkwX3_comparison_2 ++ []
def dkwX3_comparison_1 : List UInt8 := [182, 0, 100, 154, 0, 9, 42, 4, 182, 0, 110, 191, 42, 180, 0, 11, 3, 185, 1, 80, 2, 0, 61, 42]
abbrev dktX3_comparison_1 : List UInt8 := dkwX3_comparison_1 ++ dktX3_comparison_2
def dkwX3_comparison_0 : List UInt8 := [42, 19, 1, 74, 182, 0, 100, 154, 0, 29, 42, 19, 1, 76, 182, 0, 100, 154, 0, 19, 42, 19, 1, 78]
abbrev dktX3_comparison_0 : List UInt8 := dkwX3_comparison_0 ++ dktX3_comparison_1
theorem dksX3_comparison_0 : cX3_comparison.data.toList.drop 0 = dktX3_comparison_0 := by decide +kernel
theorem dksX3_comparison_1 : cX3_comparison.data.toList.drop 24 = dktX3_comparison_1 := dk_seg dksX3_comparison_0 24 rfl rfl
theorem dksX3_comparison_2 : cX3_comparison.data.toList.drop 48 = dktX3_comparison_2 := dk_seg dksX3_comparison_1 24 rfl rfl
theorem dX3_comparison_0 : decode cX3_comparison 0 = .ok (.aload_n 0, 1) := dk_42 (dk_at dksX3_comparison_0 0 rfl rfl)
theorem dX3_comparison_1 : decode cX3_comparison 1 = .ok (.ldc_w 330, 3) := dk_19 1 74 (dk_at dksX3_comparison_0 1 rfl rfl)
theorem dX3_comparison_4 : decode cX3_comparison 4 = .ok (.invokevirtual 100, 3) := dk_182 0 100 (dk_at dksX3_comparison_0 4 rfl rfl)
theorem dX3_comparison_7 : decode cX3_comparison 7 = .ok (.ifCond .ne 29, 3) := dk_154 0 29 (dk_at dksX3_comparison_0 7 rfl rfl)
theorem dX3_comparison_10 : decode cX3_comparison 10 = .ok (.aload_n 0, 1) := dk_42 (dk_at dksX3_comparison_0 10 rfl rfl)
theorem dX3_comparison_11 : decode cX3_comparison 11 = .ok (.ldc_w 332, 3) := dk_19 1 76 (dk_at dksX3_comparison_0 11 rfl rfl)
theorem dX3_comparison_14 : decode cX3_comparison 14 = .ok (.invokevirtual 100, 3) := dk_182 0 100 (dk_at dksX3_comparison_0 14 rfl rfl)
theorem dX3_comparison_17 : decode cX3_comparison 17 = .ok (.ifCond .ne 19, 3) := dk_154 0 19 (dk_at dksX3_comparison_0 17 rfl rfl)
theorem dX3_comparison_20 : decode cX3_comparison 20 = .ok (.aload_n 0, 1) := dk_42 (dk_at dksX3_comparison_0 20 rfl rfl)
theorem dX3_comparison_21 : decode cX3_comparison 21 = .ok (.ldc_w 334, 3) := dk_19 1 78 (dk_at dksX3_comparison_0 21 rfl rfl)
theorem dX3_comparison_24 : decode cX3_comparison 24 = .ok (.invokevirtual 100, 3) := dk_182 0 100 (dk_at dksX3_comparison_1 0 rfl rfl)
theorem dX3_comparison_27 : decode cX3_comparison 27 = .ok (.ifCond .ne 9, 3) := dk_154 0 9 (dk_at dksX3_comparison_1 3 rfl rfl)
theorem dX3_comparison_30 : decode cX3_comparison 30 = .ok (.aload_n 0, 1) := dk_42 (dk_at dksX3_comparison_1 6 rfl rfl)
theorem dX3_comparison_31 : decode cX3_comparison 31 = .ok (.iconst 1, 1) := dk_4 (dk_at dksX3_comparison_1 7 rfl rfl)
theorem dX3_comparison_32 : decode cX3_comparison 32 = .ok (.invokevirtual 110, 3) := dk_182 0 110 (dk_at dksX3_comparison_1 8 rfl rfl)
theorem dX3_comparison_35 : decode cX3_comparison 35 = .ok (.athrow, 1) := dk_191 (dk_at dksX3_comparison_1 11 rfl rfl)
theorem dX3_comparison_36 : decode cX3_comparison 36 = .ok (.aload_n 0, 1) := dk_42 (dk_at dksX3_comparison_1 12 rfl rfl)
theorem dX3_comparison_37 : decode cX3_comparison 37 = .ok (.getfield 11, 3) := dk_180 0 11 (dk_at dksX3_comparison_1 13 rfl rfl)
theorem dX3_comparison_40 : decode cX3_comparison 40 = .ok (.iconst 0, 1) := dk_3 (dk_at dksX3_comparison_1 16 rfl rfl)
theorem dX3_comparison_41 : decode cX3_comparison 41 = .ok (.invokeinterface 336 2, 5) := by decide +kernel
theorem dX3_comparison_46 : decode cX3_comparison 46 = .ok (.istore_n 2, 1) := dk_61 (dk_at dksX3_comparison_1 22 rfl rfl)
theorem dX3_comparison_47 : decode cX3_comparison 47 = .ok (.aload_n 0, 1) := dk_42 (dk_at dksX3_comparison_1 23 rfl rfl)
theorem dX3_comparison_48 : decode cX3_comparison 48 = .ok (.invokevirtual 104, 3) := dk_182 0 104 (dk_at dksX3_comparison_2 0 rfl rfl)
theorem dX3_comparison_51 : decode cX3_comparison 51 = .ok (.new 340, 3) := dk_187 1 84 (dk_at dksX3_comparison_2 3 rfl rfl)
theorem dX3_comparison_54 : decode cX3_comparison 54 = .ok (.dup, 1) := dk_89 (dk_at dksX3_comparison_2 6 rfl rfl)
theorem dX3_comparison_55 : decode cX3_comparison 55 = .ok (.aload_n 1, 1) := dk_43 (dk_at dksX3_comparison_2 7 rfl rfl)
theorem dX3_comparison_56 : decode cX3_comparison 56 = .ok (.iload_n 2, 1) := dk_28 (dk_at dksX3_comparison_2 8 rfl rfl)
theorem dX3_comparison_57 : decode cX3_comparison 57 = .ok (.aload_n 0, 1) := dk_42 (dk_at dksX3_comparison_2 9 rfl rfl)
theorem dX3_comparison_58 : decode cX3_comparison 58 = .ok (.iconst 0, 1) := dk_3 (dk_at dksX3_comparison_2 10 rfl rfl)
theorem dX3_comparison_59 : decode cX3_comparison 59 = .ok (.sipush 9999, 3) := dk_17 39 15 (dk_at dksX3_comparison_2 11 rfl rfl)
theorem dX3_comparison_62 : decode cX3_comparison 62 = .ok (.invokevirtual 121, 3) := dk_182 0 121 (dk_at dksX3_comparison_2 14 rfl rfl)
theorem dX3_comparison_65 : decode cX3_comparison 65 = .ok (.invokespecial 342, 3) := dk_183 1 86 (dk_at dksX3_comparison_2 17 rfl rfl)
theorem dX3_comparison_68 : decode cX3_comparison 68 = .ok (.areturn, 1) := dk_176 (dk_at dksX3_comparison_2 20 rfl rfl)
abbrev cX3_device : ByteArray := prog_12_method_17_code
def yX3_device : MethodName := ⟨RX3, "device", "()V"⟩
def dkwX3_device_6 : List UInt8 := [182, 1, 27, 177]
abbrev dktX3_device_6 : List UInt8 := dkwX3_device_6 ++ []
def dkwX3_device_5 : List UInt8 := [89, 43, 21, 4, 183, 1, 21, 167, 0, 14, 187, 1, 19, 89, 43, 21, 4, 29, 183, 1, 24, 28]
abbrev dktX3_device_5 : List UInt8 := dkwX3_device_5 ++ dktX3_device_6
def dkwX3_device_4 : List UInt8 := [182, 0, 104, 42, 19, 1, 17, 182, 0, 107, 54, 4, 42, 180, 0, 29, 29, 2, 160, 0, 16, 187, 1, 19]
abbrev dktX3_device_4 : List UInt8 := dkwX3_device_4 ++ dktX3_device_5
def dkwX3_device_3 : List UInt8 := [192, 0, 253, 43, 180, 1, 9, 43, 180, 1, 11, 182, 1, 13, 154, 0, 9, 42, 6, 182, 0, 110, 191, 42]
abbrev dktX3_device_3 : List UInt8 := dkwX3_device_3 ++ dktX3_device_4
def dkwX3_device_2 : List UInt8 := [185, 0, 204, 1, 0, 4, 100, 182, 0, 114, 62, 42, 180, 0, 20, 180, 0, 210, 29, 185, 1, 5, 2, 0]
abbrev dktX3_device_2 : List UInt8 := dkwX3_device_2 ++ dktX3_device_3
def dkwX3_device_1 : List UInt8 := [61, 2, 62, 42, 18, 195, 182, 0, 107, 153, 0, 63, 42, 3, 42, 180, 0, 20, 180, 0, 210]
abbrev dktX3_device_1 : List UInt8 := dkwX3_device_1 ++ dktX3_device_2
def dkwX3_device_0 : List UInt8 := [187, 0, 240, 89, 42, 182, 0, 220, 42, 182, 0, 223, 183, 0, 242, 76, 42, 4, 17, 3, 231, 182, 0, 121]
abbrev dktX3_device_0 : List UInt8 := dkwX3_device_0 ++ dktX3_device_1
theorem dksX3_device_0 : cX3_device.data.toList.drop 0 = dktX3_device_0 := by decide +kernel
theorem dksX3_device_1 : cX3_device.data.toList.drop 24 = dktX3_device_1 := dk_seg dksX3_device_0 24 rfl rfl
theorem dksX3_device_2 : cX3_device.data.toList.drop 45 = dktX3_device_2 := dk_seg dksX3_device_1 21 rfl rfl
theorem dksX3_device_3 : cX3_device.data.toList.drop 69 = dktX3_device_3 := dk_seg dksX3_device_2 24 rfl rfl
theorem dksX3_device_4 : cX3_device.data.toList.drop 93 = dktX3_device_4 := dk_seg dksX3_device_3 24 rfl rfl
theorem dksX3_device_5 : cX3_device.data.toList.drop 117 = dktX3_device_5 := dk_seg dksX3_device_4 24 rfl rfl
theorem dksX3_device_6 : cX3_device.data.toList.drop 139 = dktX3_device_6 := dk_seg dksX3_device_5 22 rfl rfl
theorem dX3_device_0 : decode cX3_device 0 = .ok (.new 240, 3) := dk_187 0 240 (dk_at dksX3_device_0 0 rfl rfl)
theorem dX3_device_3 : decode cX3_device 3 = .ok (.dup, 1) := dk_89 (dk_at dksX3_device_0 3 rfl rfl)
theorem dX3_device_4 : decode cX3_device 4 = .ok (.aload_n 0, 1) := dk_42 (dk_at dksX3_device_0 4 rfl rfl)
theorem dX3_device_5 : decode cX3_device 5 = .ok (.invokevirtual 220, 3) := dk_182 0 220 (dk_at dksX3_device_0 5 rfl rfl)
theorem dX3_device_8 : decode cX3_device 8 = .ok (.aload_n 0, 1) := dk_42 (dk_at dksX3_device_0 8 rfl rfl)
theorem dX3_device_9 : decode cX3_device 9 = .ok (.invokevirtual 223, 3) := dk_182 0 223 (dk_at dksX3_device_0 9 rfl rfl)
theorem dX3_device_12 : decode cX3_device 12 = .ok (.invokespecial 242, 3) := dk_183 0 242 (dk_at dksX3_device_0 12 rfl rfl)
theorem dX3_device_15 : decode cX3_device 15 = .ok (.astore_n 1, 1) := dk_76 (dk_at dksX3_device_0 15 rfl rfl)
theorem dX3_device_16 : decode cX3_device 16 = .ok (.aload_n 0, 1) := dk_42 (dk_at dksX3_device_0 16 rfl rfl)
theorem dX3_device_17 : decode cX3_device 17 = .ok (.iconst 1, 1) := dk_4 (dk_at dksX3_device_0 17 rfl rfl)
theorem dX3_device_18 : decode cX3_device 18 = .ok (.sipush 999, 3) := dk_17 3 231 (dk_at dksX3_device_0 18 rfl rfl)
theorem dX3_device_21 : decode cX3_device 21 = .ok (.invokevirtual 121, 3) := dk_182 0 121 (dk_at dksX3_device_0 21 rfl rfl)
theorem dX3_device_24 : decode cX3_device 24 = .ok (.istore_n 2, 1) := dk_61 (dk_at dksX3_device_1 0 rfl rfl)
theorem dX3_device_25 : decode cX3_device 25 = .ok (.iconst (-1), 1) := dk_2 (dk_at dksX3_device_1 1 rfl rfl)
theorem dX3_device_26 : decode cX3_device 26 = .ok (.istore_n 3, 1) := dk_62 (dk_at dksX3_device_1 2 rfl rfl)
theorem dX3_device_27 : decode cX3_device 27 = .ok (.aload_n 0, 1) := dk_42 (dk_at dksX3_device_1 3 rfl rfl)
theorem dX3_device_28 : decode cX3_device 28 = .ok (.ldc 195, 2) := dk_18 195 (dk_at dksX3_device_1 4 rfl rfl)
theorem dX3_device_30 : decode cX3_device 30 = .ok (.invokevirtual 107, 3) := dk_182 0 107 (dk_at dksX3_device_1 6 rfl rfl)
theorem dX3_device_33 : decode cX3_device 33 = .ok (.ifCond .eq 63, 3) := dk_153 0 63 (dk_at dksX3_device_1 9 rfl rfl)
theorem dX3_device_36 : decode cX3_device 36 = .ok (.aload_n 0, 1) := dk_42 (dk_at dksX3_device_1 12 rfl rfl)
theorem dX3_device_37 : decode cX3_device 37 = .ok (.iconst 0, 1) := dk_3 (dk_at dksX3_device_1 13 rfl rfl)
theorem dX3_device_38 : decode cX3_device 38 = .ok (.aload_n 0, 1) := dk_42 (dk_at dksX3_device_1 14 rfl rfl)
theorem dX3_device_39 : decode cX3_device 39 = .ok (.getfield 20, 3) := dk_180 0 20 (dk_at dksX3_device_1 15 rfl rfl)
theorem dX3_device_42 : decode cX3_device 42 = .ok (.getfield 210, 3) := dk_180 0 210 (dk_at dksX3_device_1 18 rfl rfl)
theorem dX3_device_45 : decode cX3_device 45 = .ok (.invokeinterface 204 1, 5) := by decide +kernel
theorem dX3_device_50 : decode cX3_device 50 = .ok (.iconst 1, 1) := dk_4 (dk_at dksX3_device_2 5 rfl rfl)
theorem dX3_device_51 : decode cX3_device 51 = .ok (.isub, 1) := dk_100 (dk_at dksX3_device_2 6 rfl rfl)
theorem dX3_device_52 : decode cX3_device 52 = .ok (.invokevirtual 114, 3) := dk_182 0 114 (dk_at dksX3_device_2 7 rfl rfl)
theorem dX3_device_55 : decode cX3_device 55 = .ok (.istore_n 3, 1) := dk_62 (dk_at dksX3_device_2 10 rfl rfl)
theorem dX3_device_56 : decode cX3_device 56 = .ok (.aload_n 0, 1) := dk_42 (dk_at dksX3_device_2 11 rfl rfl)
theorem dX3_device_57 : decode cX3_device 57 = .ok (.getfield 20, 3) := dk_180 0 20 (dk_at dksX3_device_2 12 rfl rfl)
theorem dX3_device_60 : decode cX3_device 60 = .ok (.getfield 210, 3) := dk_180 0 210 (dk_at dksX3_device_2 15 rfl rfl)
theorem dX3_device_63 : decode cX3_device 63 = .ok (.iload_n 3, 1) := dk_29 (dk_at dksX3_device_2 18 rfl rfl)
theorem dX3_device_64 : decode cX3_device 64 = .ok (.invokeinterface 261 2, 5) := by decide +kernel
theorem dX3_device_69 : decode cX3_device 69 = .ok (.checkcast 253, 3) := dk_192 0 253 (dk_at dksX3_device_3 0 rfl rfl)
theorem dX3_device_72 : decode cX3_device 72 = .ok (.aload_n 1, 1) := dk_43 (dk_at dksX3_device_3 3 rfl rfl)
theorem dX3_device_73 : decode cX3_device 73 = .ok (.getfield 265, 3) := dk_180 1 9 (dk_at dksX3_device_3 4 rfl rfl)
theorem dX3_device_76 : decode cX3_device 76 = .ok (.aload_n 1, 1) := dk_43 (dk_at dksX3_device_3 7 rfl rfl)
theorem dX3_device_77 : decode cX3_device 77 = .ok (.getfield 267, 3) := dk_180 1 11 (dk_at dksX3_device_3 8 rfl rfl)
theorem dX3_device_80 : decode cX3_device 80 = .ok (.invokevirtual 269, 3) := dk_182 1 13 (dk_at dksX3_device_3 11 rfl rfl)
theorem dX3_device_83 : decode cX3_device 83 = .ok (.ifCond .ne 9, 3) := dk_154 0 9 (dk_at dksX3_device_3 14 rfl rfl)
theorem dX3_device_86 : decode cX3_device 86 = .ok (.aload_n 0, 1) := dk_42 (dk_at dksX3_device_3 17 rfl rfl)
theorem dX3_device_87 : decode cX3_device 87 = .ok (.iconst 3, 1) := dk_6 (dk_at dksX3_device_3 18 rfl rfl)
theorem dX3_device_88 : decode cX3_device 88 = .ok (.invokevirtual 110, 3) := dk_182 0 110 (dk_at dksX3_device_3 19 rfl rfl)
theorem dX3_device_91 : decode cX3_device 91 = .ok (.athrow, 1) := dk_191 (dk_at dksX3_device_3 22 rfl rfl)
theorem dX3_device_92 : decode cX3_device 92 = .ok (.aload_n 0, 1) := dk_42 (dk_at dksX3_device_3 23 rfl rfl)
theorem dX3_device_93 : decode cX3_device 93 = .ok (.invokevirtual 104, 3) := dk_182 0 104 (dk_at dksX3_device_4 0 rfl rfl)
theorem dX3_device_96 : decode cX3_device 96 = .ok (.aload_n 0, 1) := dk_42 (dk_at dksX3_device_4 3 rfl rfl)
theorem dX3_device_97 : decode cX3_device 97 = .ok (.ldc_w 273, 3) := dk_19 1 17 (dk_at dksX3_device_4 4 rfl rfl)
theorem dX3_device_100 : decode cX3_device 100 = .ok (.invokevirtual 107, 3) := dk_182 0 107 (dk_at dksX3_device_4 7 rfl rfl)
theorem dX3_device_103 : decode cX3_device 103 = .ok (.istore 4, 2) := dk_54 4 (dk_at dksX3_device_4 10 rfl rfl)
theorem dX3_device_105 : decode cX3_device 105 = .ok (.aload_n 0, 1) := dk_42 (dk_at dksX3_device_4 12 rfl rfl)
theorem dX3_device_106 : decode cX3_device 106 = .ok (.getfield 29, 3) := dk_180 0 29 (dk_at dksX3_device_4 13 rfl rfl)
theorem dX3_device_109 : decode cX3_device 109 = .ok (.iload_n 3, 1) := dk_29 (dk_at dksX3_device_4 16 rfl rfl)
theorem dX3_device_110 : decode cX3_device 110 = .ok (.iconst (-1), 1) := dk_2 (dk_at dksX3_device_4 17 rfl rfl)
theorem dX3_device_111 : decode cX3_device 111 = .ok (.if_icmp .ne 16, 3) := dk_160 0 16 (dk_at dksX3_device_4 18 rfl rfl)
theorem dX3_device_114 : decode cX3_device 114 = .ok (.new 275, 3) := dk_187 1 19 (dk_at dksX3_device_4 21 rfl rfl)
theorem dX3_device_117 : decode cX3_device 117 = .ok (.dup, 1) := dk_89 (dk_at dksX3_device_5 0 rfl rfl)
theorem dX3_device_118 : decode cX3_device 118 = .ok (.aload_n 1, 1) := dk_43 (dk_at dksX3_device_5 1 rfl rfl)
theorem dX3_device_119 : decode cX3_device 119 = .ok (.iload 4, 2) := dk_21 4 (dk_at dksX3_device_5 2 rfl rfl)
theorem dX3_device_121 : decode cX3_device 121 = .ok (.invokespecial 277, 3) := dk_183 1 21 (dk_at dksX3_device_5 4 rfl rfl)
theorem dX3_device_124 : decode cX3_device 124 = .ok (.goto 14, 3) := dk_167 0 14 (dk_at dksX3_device_5 7 rfl rfl)
theorem dX3_device_127 : decode cX3_device 127 = .ok (.new 275, 3) := dk_187 1 19 (dk_at dksX3_device_5 10 rfl rfl)
theorem dX3_device_130 : decode cX3_device 130 = .ok (.dup, 1) := dk_89 (dk_at dksX3_device_5 13 rfl rfl)
theorem dX3_device_131 : decode cX3_device 131 = .ok (.aload_n 1, 1) := dk_43 (dk_at dksX3_device_5 14 rfl rfl)
theorem dX3_device_132 : decode cX3_device 132 = .ok (.iload 4, 2) := dk_21 4 (dk_at dksX3_device_5 15 rfl rfl)
theorem dX3_device_134 : decode cX3_device 134 = .ok (.iload_n 3, 1) := dk_29 (dk_at dksX3_device_5 17 rfl rfl)
theorem dX3_device_135 : decode cX3_device 135 = .ok (.invokespecial 280, 3) := dk_183 1 24 (dk_at dksX3_device_5 18 rfl rfl)
theorem dX3_device_138 : decode cX3_device 138 = .ok (.iload_n 2, 1) := dk_28 (dk_at dksX3_device_5 21 rfl rfl)
theorem dX3_device_139 : decode cX3_device 139 = .ok (.invokevirtual 283, 3) := dk_182 1 27 (dk_at dksX3_device_6 0 rfl rfl)
theorem dX3_device_142 : decode cX3_device 142 = .ok (.return_, 1) := dk_177 (dk_at dksX3_device_6 3 rfl rfl)
theorem q154 : (Jvm.Cond.initialized "SpectrumAccess$Parser") ∈ lw_all := lw_g (lw_at lw_m1 15 rfl) rfl
theorem q478 : (Jvm.Cond.instantiable "SpectrumAccess$Parser" (9 : Nat)) ∈ lw_all := lw_g (lw_at lw_m2 99 rfl) rfl
theorem q480 : (Jvm.Cond.instanceMethod ({ cls := "SpectrumAccess$Parser", name := "<init>", desc := "([BI)V" } : Jvm.MethodName)) ∈ lw_all := lw_g (lw_at lw_m2 101 rfl) rfl
theorem q481 : (Jvm.Cond.code ({ cls := "SpectrumAccess$Parser", name := "<init>", desc := "([BI)V" } : Jvm.MethodName) prog_12_method_1_code (3 : Nat) (Option.none : Option Jvm.ClassFile.FieldType)) ∈ lw_all := lw_g (lw_at lw_m2 102 rfl) rfl
theorem q482 : (Jvm.Cond.methodLink "SpectrumAccess$Parser" (3 : Nat) ({ cls := "java/lang/Object", name := "<init>", desc := "()V" } : Jvm.MethodName)) ∈ lw_all := lw_g (lw_at lw_m2 103 rfl) rfl
theorem q483 : (Jvm.Cond.stringRef "SpectrumAccess$Parser" (9 : Nat) "") ∈ lw_tbl := lw_at lw_m2 104 rfl
theorem q484 : (Jvm.Cond.classLink "SpectrumAccess$Parser" (17 : Nat) "SpectrumAccess$Region") ∈ lw_all := lw_g (lw_at lw_m2 105 rfl) rfl
theorem q486 : (Jvm.Cond.methodLinkNest "SpectrumAccess$Parser" (19 : Nat) ({ cls := "SpectrumAccess$Region", name := "<init>", desc := "()V" } : Jvm.MethodName) "SpectrumAccess") ∈ lw_tbl := lw_at lw_m2 107 rfl
theorem q879 : (Jvm.Cond.selects "SpectrumAccess$Parser" ({ cls := "java/lang/Object", name := "getClass", desc := "()Ljava/lang/Class;" } : Jvm.MethodName) ({ cls := "java/lang/Object", name := "getClass", desc := "()Ljava/lang/Class;" } : Jvm.MethodName)) ∈ lw_all := lw_g (lw_at lw_m4 20 rfl) rfl
theorem q906 : (Jvm.Cond.fieldLinkNest "SpectrumAccess$Parser" (207 : Nat) "SpectrumAccess$Region" "sensors" "Ljava/util/List;" "SpectrumAccess") ∈ lw_tbl := lw_at lw_m4 47 rfl
theorem q909 : (Jvm.Cond.fieldLinkNest "SpectrumAccess$Parser" (210 : Nat) "SpectrumAccess$Region" "licences" "Ljava/util/List;" "SpectrumAccess") ∈ lw_tbl := lw_at lw_m4 50 rfl
theorem q914 : (Jvm.Cond.fieldLinkNest "SpectrumAccess$Parser" (135 : Nat) "SpectrumAccess$Region" "devices" "Ljava/util/List;" "SpectrumAccess") ∈ lw_tbl := lw_at lw_m4 55 rfl
theorem q916 : (Jvm.Cond.fieldLinkNest "SpectrumAccess$Parser" (213 : Nat) "SpectrumAccess$Region" "denials" "Ljava/util/List;" "SpectrumAccess") ∈ lw_tbl := lw_at lw_m4 57 rfl
theorem q922 : (Jvm.Cond.fieldLinkNest "SpectrumAccess$Parser" (149 : Nat) "SpectrumAccess$Region" "width" "I" "SpectrumAccess") ∈ lw_tbl := lw_at lw_m4 63 rfl
theorem q925 : (Jvm.Cond.fieldLinkNest "SpectrumAccess$Parser" (152 : Nat) "SpectrumAccess$Region" "height" "I" "SpectrumAccess") ∈ lw_tbl := lw_at lw_m4 66 rfl
theorem q929 : (Jvm.Cond.fieldLinkNest "SpectrumAccess$Parser" (157 : Nat) "SpectrumAccess$Region" "channels" "I" "SpectrumAccess") ∈ lw_tbl := lw_at lw_m4 70 rfl
theorem q932 : (Jvm.Cond.fieldLinkNest "SpectrumAccess$Parser" (161 : Nat) "SpectrumAccess$Region" "leak" "I" "SpectrumAccess") ∈ lw_tbl := lw_at lw_m4 73 rfl
theorem q933 : (Jvm.Cond.fieldLinkNest "SpectrumAccess$Parser" (166 : Nat) "SpectrumAccess$Region" "shield" "I" "SpectrumAccess") ∈ lw_tbl := lw_at lw_m4 74 rfl
theorem q935 : (Jvm.Cond.fieldLinkNest "SpectrumAccess$Parser" (170 : Nat) "SpectrumAccess$Region" "minimum" "I" "SpectrumAccess") ∈ lw_tbl := lw_at lw_m4 76 rfl
theorem q937 : (Jvm.Cond.fieldLinkNest "SpectrumAccess$Parser" (174 : Nat) "SpectrumAccess$Region" "lease" "I" "SpectrumAccess") ∈ lw_tbl := lw_at lw_m4 78 rfl
theorem q940 : (Jvm.Cond.fieldLinkNest "SpectrumAccess$Parser" (178 : Nat) "SpectrumAccess$Region" "delay" "I" "SpectrumAccess") ∈ lw_tbl := lw_at lw_m4 81 rfl
theorem q997 : (Jvm.Cond.classLink "SpectrumAccess$Parser" (24 : Nat) "SpectrumAccess$State") ∈ lw_all := lw_g (lw_at lw_m4 138 rfl) rfl
theorem q999 : (Jvm.Cond.methodLink "SpectrumAccess$Parser" (26 : Nat) ({ cls := "SpectrumAccess$State", name := "<init>", desc := "(LSpectrumAccess$Region;)V" } : Jvm.MethodName)) ∈ lw_all := lw_g (lw_at lw_m4 140 rfl) rfl
theorem q1011 : (Jvm.Cond.fieldLinkNest "SpectrumAccess$Parser" (201 : Nat) "SpectrumAccess$State" "incumbents" "Ljava/util/List;" "SpectrumAccess") ∈ lw_tbl := lw_at lw_m4 152 rfl
theorem q1079 : (Jvm.Cond.fieldLink "SpectrumAccess$Parser" (33 : Nat) "SpectrumAccess$Parser" "text" "[B") ∈ lw_all := lw_g (lw_at lw_m4 220 rfl) rfl
theorem q1080 : (Jvm.Cond.fieldLink "SpectrumAccess$Parser" (37 : Nat) "SpectrumAccess$Parser" "length" "I") ∈ lw_all := lw_g (lw_at lw_m4 221 rfl) rfl
theorem q1081 : (Jvm.Cond.fieldLink "SpectrumAccess$Parser" (41 : Nat) "SpectrumAccess$Parser" "next" "I") ∈ lw_all := lw_g (lw_at lw_m4 222 rfl) rfl
theorem q1082 : (Jvm.Cond.fieldLink "SpectrumAccess$Parser" (48 : Nat) "SpectrumAccess$Parser" "start" "I") ∈ lw_all := lw_g (lw_at lw_m4 223 rfl) rfl
theorem q1083 : (Jvm.Cond.fieldLink "SpectrumAccess$Parser" (72 : Nat) "SpectrumAccess$Parser" "number" "I") ∈ lw_all := lw_g (lw_at lw_m4 224 rfl) rfl
theorem q1084 : (Jvm.Cond.fieldLink "SpectrumAccess$Parser" (313 : Nat) "SpectrumAccess$Parser" "depth" "I") ∈ lw_all := lw_g (lw_at lw_m4 225 rfl) rfl
theorem q1085 : (Jvm.Cond.fieldLink "SpectrumAccess$Parser" (11 : Nat) "SpectrumAccess$Parser" "token" "Ljava/lang/CharSequence;") ∈ lw_all := lw_g (lw_at lw_m4 226 rfl) rfl
theorem q1086 : (Jvm.Cond.fieldLink "SpectrumAccess$Parser" (20 : Nat) "SpectrumAccess$Parser" "region" "LSpectrumAccess$Region;") ∈ lw_all := lw_g (lw_at lw_m4 227 rfl) rfl
theorem q1087 : (Jvm.Cond.fieldLink "SpectrumAccess$Parser" (29 : Nat) "SpectrumAccess$Parser" "state" "LSpectrumAccess$State;") ∈ lw_all := lw_g (lw_at lw_m4 228 rfl) rfl
theorem q1088 : (Jvm.Cond.laysFinal "SpectrumAccess$Parser" "SpectrumAccess$Parser" "text" "[B") ∈ lw_all := lw_g (lw_at lw_m4 229 rfl) rfl
theorem q1089 : (Jvm.Cond.soleField "SpectrumAccess$Parser" "text") ∈ lw_all := lw_g (lw_at lw_m4 230 rfl) rfl
theorem q1090 : (Jvm.Cond.laysFinal "SpectrumAccess$Parser" "SpectrumAccess$Parser" "length" "I") ∈ lw_all := lw_g (lw_at lw_m4 231 rfl) rfl
theorem q1091 : (Jvm.Cond.soleField "SpectrumAccess$Parser" "length") ∈ lw_all := lw_g (lw_at lw_m4 232 rfl) rfl
theorem q1092 : (Jvm.Cond.lays "SpectrumAccess$Parser" "SpectrumAccess$Parser" "next" "I") ∈ lw_all := lw_g (lw_at lw_m4 233 rfl) rfl
theorem q1093 : (Jvm.Cond.soleField "SpectrumAccess$Parser" "next") ∈ lw_all := lw_g (lw_at lw_m4 234 rfl) rfl
theorem q1094 : (Jvm.Cond.lays "SpectrumAccess$Parser" "SpectrumAccess$Parser" "start" "I") ∈ lw_all := lw_g (lw_at lw_m4 235 rfl) rfl
theorem q1095 : (Jvm.Cond.soleField "SpectrumAccess$Parser" "start") ∈ lw_all := lw_g (lw_at lw_m4 236 rfl) rfl
theorem q1096 : (Jvm.Cond.lays "SpectrumAccess$Parser" "SpectrumAccess$Parser" "number" "I") ∈ lw_all := lw_g (lw_at lw_m4 237 rfl) rfl
theorem q1097 : (Jvm.Cond.soleField "SpectrumAccess$Parser" "number") ∈ lw_all := lw_g (lw_at lw_m4 238 rfl) rfl
theorem q1098 : (Jvm.Cond.lays "SpectrumAccess$Parser" "SpectrumAccess$Parser" "depth" "I") ∈ lw_all := lw_g (lw_at lw_m4 239 rfl) rfl
theorem q1099 : (Jvm.Cond.soleField "SpectrumAccess$Parser" "depth") ∈ lw_all := lw_g (lw_at lw_m5 0 rfl) rfl
theorem q1100 : (Jvm.Cond.lays "SpectrumAccess$Parser" "SpectrumAccess$Parser" "token" "Ljava/lang/CharSequence;") ∈ lw_all := lw_g (lw_at lw_m5 1 rfl) rfl
theorem q1101 : (Jvm.Cond.soleField "SpectrumAccess$Parser" "token") ∈ lw_all := lw_g (lw_at lw_m5 2 rfl) rfl
theorem q1102 : (Jvm.Cond.laysFinal "SpectrumAccess$Parser" "SpectrumAccess$Parser" "region" "LSpectrumAccess$Region;") ∈ lw_all := lw_g (lw_at lw_m5 3 rfl) rfl
theorem q1103 : (Jvm.Cond.soleField "SpectrumAccess$Parser" "region") ∈ lw_all := lw_g (lw_at lw_m5 4 rfl) rfl
theorem q1104 : (Jvm.Cond.laysFinal "SpectrumAccess$Parser" "SpectrumAccess$Parser" "state" "LSpectrumAccess$State;") ∈ lw_all := lw_g (lw_at lw_m5 5 rfl) rfl
theorem q1105 : (Jvm.Cond.soleField "SpectrumAccess$Parser" "state") ∈ lw_all := lw_g (lw_at lw_m5 6 rfl) rfl
theorem q1106 : (Jvm.Cond.superclass "SpectrumAccess$Parser" "java/lang/Object") ∈ lw_all := lw_g (lw_at lw_m5 7 rfl) rfl
theorem q1108 : (Jvm.Cond.instanceMethod ({ cls := "SpectrumAccess$Parser", name := "parse", desc := "()LSpectrumAccess$State;" } : Jvm.MethodName)) ∈ lw_all := lw_g (lw_at lw_m5 9 rfl) rfl
theorem q1109 : (Jvm.Cond.selects "SpectrumAccess$Parser" ({ cls := "SpectrumAccess$Parser", name := "parse", desc := "()LSpectrumAccess$State;" } : Jvm.MethodName) ({ cls := "SpectrumAccess$Parser", name := "parse", desc := "()LSpectrumAccess$State;" } : Jvm.MethodName)) ∈ lw_all := lw_g (lw_at lw_m5 10 rfl) rfl
theorem q1110 : (Jvm.Cond.code ({ cls := "SpectrumAccess$Parser", name := "parse", desc := "()LSpectrumAccess$State;" } : Jvm.MethodName) prog_12_method_10_code (1 : Nat) (Option.some (Jvm.ClassFile.FieldType.object "SpectrumAccess$State"))) ∈ lw_all := lw_g (lw_at lw_m5 11 rfl) rfl
theorem q1111 : (Jvm.Cond.methodLink "SpectrumAccess$Parser" (104 : Nat) ({ cls := "SpectrumAccess$Parser", name := "advance", desc := "()V" } : Jvm.MethodName)) ∈ lw_all := lw_g (lw_at lw_m5 12 rfl) rfl
theorem q1112 : (Jvm.Cond.privateMethod ({ cls := "SpectrumAccess$Parser", name := "advance", desc := "()V" } : Jvm.MethodName)) ∈ lw_tbl := lw_at lw_m5 13 rfl
theorem q1113 : (Jvm.Cond.instanceMethod ({ cls := "SpectrumAccess$Parser", name := "advance", desc := "()V" } : Jvm.MethodName)) ∈ lw_all := lw_g (lw_at lw_m5 14 rfl) rfl
theorem q1114 : (Jvm.Cond.code ({ cls := "SpectrumAccess$Parser", name := "advance", desc := "()V" } : Jvm.MethodName) prog_12_method_3_code (3 : Nat) (Option.none : Option Jvm.ClassFile.FieldType)) ∈ lw_all := lw_g (lw_at lw_m5 15 rfl) rfl
theorem q1115 : (Jvm.Cond.methodLink "SpectrumAccess$Parser" (44 : Nat) ({ cls := "SpectrumAccess$Parser", name := "at", desc := "(I)I" } : Jvm.MethodName)) ∈ lw_all := lw_g (lw_at lw_m5 16 rfl) rfl
theorem q1116 : (Jvm.Cond.privateMethod ({ cls := "SpectrumAccess$Parser", name := "at", desc := "(I)I" } : Jvm.MethodName)) ∈ lw_tbl := lw_at lw_m5 17 rfl
theorem q1117 : (Jvm.Cond.instanceMethod ({ cls := "SpectrumAccess$Parser", name := "at", desc := "(I)I" } : Jvm.MethodName)) ∈ lw_all := lw_g (lw_at lw_m5 18 rfl) rfl
theorem q1118 : (Jvm.Cond.code ({ cls := "SpectrumAccess$Parser", name := "at", desc := "(I)I" } : Jvm.MethodName) prog_12_method_2_code (2 : Nat) (Option.some Jvm.ClassFile.FieldType.int)) ∈ lw_all := lw_g (lw_at lw_m5 19 rfl) rfl
theorem q1119 : (Jvm.Cond.constantLong "SpectrumAccess$Parser" (51 : Nat) (97 : Int64)) ∈ lw_all := lw_g (lw_at lw_m5 20 rfl) rfl
theorem q1120 : (Jvm.Cond.constantLong "SpectrumAccess$Parser" (53 : Nat) (122 : Int64)) ∈ lw_all := lw_g (lw_at lw_m5 21 rfl) rfl
theorem q1121 : (Jvm.Cond.methodLinkNest "SpectrumAccess$Parser" (55 : Nat) ({ cls := "SpectrumAccess", name := "in", desc := "(JJJ)Z" } : Jvm.MethodName) "SpectrumAccess") ∈ lw_tbl := lw_at lw_m5 22 rfl
theorem q1122 : (Jvm.Cond.classLink "SpectrumAccess$Parser" (59 : Nat) "java/lang/StringBuilder") ∈ lw_all := lw_g (lw_at lw_m5 23 rfl) rfl
theorem q1123 : (Jvm.Cond.methodLink "SpectrumAccess$Parser" (61 : Nat) ({ cls := "java/lang/StringBuilder", name := "<init>", desc := "()V" } : Jvm.MethodName)) ∈ lw_all := lw_g (lw_at lw_m5 24 rfl) rfl
theorem q1124 : (Jvm.Cond.methodLink "SpectrumAccess$Parser" (62 : Nat) ({ cls := "java/lang/StringBuilder", name := "append", desc := "(C)Ljava/lang/StringBuilder;" } : Jvm.MethodName)) ∈ lw_all := lw_g (lw_at lw_m5 25 rfl) rfl
theorem q1144 : (Jvm.Cond.stringRef "SpectrumAccess$Parser" (66 : Nat) "?") ∈ lw_tbl := lw_at lw_m5 45 rfl
theorem q1145 : (Jvm.Cond.constantLong "SpectrumAccess$Parser" (68 : Nat) (48 : Int64)) ∈ lw_all := lw_g (lw_at lw_m5 46 rfl) rfl
theorem q1146 : (Jvm.Cond.constantLong "SpectrumAccess$Parser" (70 : Nat) (57 : Int64)) ∈ lw_all := lw_g (lw_at lw_m5 47 rfl) rfl
theorem q1147 : (Jvm.Cond.constant "SpectrumAccess$Parser" (75 : Nat) (999999 : Int32)) ∈ lw_all := lw_g (lw_at lw_m5 48 rfl) rfl
theorem q1148 : (Jvm.Cond.methodLink "SpectrumAccess$Parser" (76 : Nat) ({ cls := "java/lang/Math", name := "min", desc := "(II)I" } : Jvm.MethodName)) ∈ lw_all := lw_g (lw_at lw_m5 49 rfl) rfl
theorem q1149 : (Jvm.Cond.stringRef "SpectrumAccess$Parser" (82 : Nat) "#") ∈ lw_tbl := lw_at lw_m5 50 rfl
theorem q1150 : (Jvm.Cond.stringRef "SpectrumAccess$Parser" (84 : Nat) ";()<>=") ∈ lw_tbl := lw_at lw_m5 51 rfl
theorem q1151 : (Jvm.Cond.methodLink "SpectrumAccess$Parser" (86 : Nat) ({ cls := "java/lang/String", name := "indexOf", desc := "(I)I" } : Jvm.MethodName)) ∈ lw_all := lw_g (lw_at lw_m5 52 rfl) rfl
theorem q1201 : (Jvm.Cond.methodLink "SpectrumAccess$Parser" (91 : Nat) ({ cls := "java/lang/String", name := "valueOf", desc := "(C)Ljava/lang/String;" } : Jvm.MethodName)) ∈ lw_all := lw_g (lw_at lw_m5 102 rfl) rfl
theorem q1215 : (Jvm.Cond.methodLink "SpectrumAccess$Parser" (123 : Nat) ({ cls := "SpectrumAccess$Parser", name := "region", desc := "()V" } : Jvm.MethodName)) ∈ lw_all := lw_g (lw_at lw_m5 116 rfl) rfl
theorem q1216 : (Jvm.Cond.privateMethod ({ cls := "SpectrumAccess$Parser", name := "region", desc := "()V" } : Jvm.MethodName)) ∈ lw_tbl := lw_at lw_m5 117 rfl
theorem q1217 : (Jvm.Cond.instanceMethod ({ cls := "SpectrumAccess$Parser", name := "region", desc := "()V" } : Jvm.MethodName)) ∈ lw_all := lw_g (lw_at lw_m5 118 rfl) rfl
theorem q1218 : (Jvm.Cond.code ({ cls := "SpectrumAccess$Parser", name := "region", desc := "()V" } : Jvm.MethodName) prog_12_method_11_code (1 : Nat) (Option.none : Option Jvm.ClassFile.FieldType)) ∈ lw_all := lw_g (lw_at lw_m5 119 rfl) rfl
theorem q1219 : (Jvm.Cond.stringRef "SpectrumAccess$Parser" (145 : Nat) "region") ∈ lw_tbl := lw_at lw_m5 120 rfl
theorem q1220 : (Jvm.Cond.methodLink "SpectrumAccess$Parser" (146 : Nat) ({ cls := "SpectrumAccess$Parser", name := "number", desc := "(Ljava/lang/String;II)I" } : Jvm.MethodName)) ∈ lw_all := lw_g (lw_at lw_m5 121 rfl) rfl
theorem q1221 : (Jvm.Cond.privateMethod ({ cls := "SpectrumAccess$Parser", name := "number", desc := "(Ljava/lang/String;II)I" } : Jvm.MethodName)) ∈ lw_tbl := lw_at lw_m5 122 rfl
theorem q1222 : (Jvm.Cond.instanceMethod ({ cls := "SpectrumAccess$Parser", name := "number", desc := "(Ljava/lang/String;II)I" } : Jvm.MethodName)) ∈ lw_all := lw_g (lw_at lw_m5 123 rfl) rfl
theorem q1223 : (Jvm.Cond.code ({ cls := "SpectrumAccess$Parser", name := "number", desc := "(Ljava/lang/String;II)I" } : Jvm.MethodName) prog_12_method_9_code (4 : Nat) (Option.some Jvm.ClassFile.FieldType.int)) ∈ lw_all := lw_g (lw_at lw_m5 124 rfl) rfl
theorem q1224 : (Jvm.Cond.methodLink "SpectrumAccess$Parser" (117 : Nat) ({ cls := "SpectrumAccess$Parser", name := "expect", desc := "(Ljava/lang/String;)V" } : Jvm.MethodName)) ∈ lw_all := lw_g (lw_at lw_m5 125 rfl) rfl
theorem q1225 : (Jvm.Cond.privateMethod ({ cls := "SpectrumAccess$Parser", name := "expect", desc := "(Ljava/lang/String;)V" } : Jvm.MethodName)) ∈ lw_tbl := lw_at lw_m5 126 rfl
theorem q1226 : (Jvm.Cond.instanceMethod ({ cls := "SpectrumAccess$Parser", name := "expect", desc := "(Ljava/lang/String;)V" } : Jvm.MethodName)) ∈ lw_all := lw_g (lw_at lw_m5 127 rfl) rfl
theorem q1227 : (Jvm.Cond.code ({ cls := "SpectrumAccess$Parser", name := "expect", desc := "(Ljava/lang/String;)V" } : Jvm.MethodName) prog_12_method_6_code (2 : Nat) (Option.none : Option Jvm.ClassFile.FieldType)) ∈ lw_all := lw_g (lw_at lw_m5 128 rfl) rfl
theorem q1228 : (Jvm.Cond.methodLink "SpectrumAccess$Parser" (107 : Nat) ({ cls := "SpectrumAccess$Parser", name := "takes", desc := "(Ljava/lang/String;)Z" } : Jvm.MethodName)) ∈ lw_all := lw_g (lw_at lw_m5 129 rfl) rfl
theorem q1229 : (Jvm.Cond.privateMethod ({ cls := "SpectrumAccess$Parser", name := "takes", desc := "(Ljava/lang/String;)Z" } : Jvm.MethodName)) ∈ lw_tbl := lw_at lw_m5 130 rfl
theorem q1230 : (Jvm.Cond.instanceMethod ({ cls := "SpectrumAccess$Parser", name := "takes", desc := "(Ljava/lang/String;)Z" } : Jvm.MethodName)) ∈ lw_all := lw_g (lw_at lw_m5 131 rfl) rfl
theorem q1231 : (Jvm.Cond.code ({ cls := "SpectrumAccess$Parser", name := "takes", desc := "(Ljava/lang/String;)Z" } : Jvm.MethodName) prog_12_method_5_code (3 : Nat) (Option.some Jvm.ClassFile.FieldType.boolean)) ∈ lw_all := lw_g (lw_at lw_m5 132 rfl) rfl
theorem q1232 : (Jvm.Cond.methodLink "SpectrumAccess$Parser" (100 : Nat) ({ cls := "SpectrumAccess$Parser", name := "is", desc := "(Ljava/lang/String;)Z" } : Jvm.MethodName)) ∈ lw_all := lw_g (lw_at lw_m5 133 rfl) rfl
theorem q1233 : (Jvm.Cond.privateMethod ({ cls := "SpectrumAccess$Parser", name := "is", desc := "(Ljava/lang/String;)Z" } : Jvm.MethodName)) ∈ lw_tbl := lw_at lw_m5 134 rfl
theorem q1234 : (Jvm.Cond.instanceMethod ({ cls := "SpectrumAccess$Parser", name := "is", desc := "(Ljava/lang/String;)Z" } : Jvm.MethodName)) ∈ lw_all := lw_g (lw_at lw_m5 135 rfl) rfl
theorem q1235 : (Jvm.Cond.code ({ cls := "SpectrumAccess$Parser", name := "is", desc := "(Ljava/lang/String;)Z" } : Jvm.MethodName) prog_12_method_19_code (2 : Nat) (Option.some Jvm.ClassFile.FieldType.boolean)) ∈ lw_all := lw_g (lw_at lw_m5 136 rfl) rfl
theorem q1236 : (Jvm.Cond.interfaceEntry "SpectrumAccess$Parser" (180 : Nat)) ∈ lw_tbl := lw_at lw_m5 137 rfl
theorem q1237 : (Jvm.Cond.methodLink "SpectrumAccess$Parser" (180 : Nat) ({ cls := "java/lang/CharSequence", name := "toString", desc := "()Ljava/lang/String;" } : Jvm.MethodName)) ∈ lw_all := lw_g (lw_at lw_m5 138 rfl) rfl
theorem q1250 : (Jvm.Cond.methodLink "SpectrumAccess$Parser" (189 : Nat) ({ cls := "java/lang/String", name := "equals", desc := "(Ljava/lang/Object;)Z" } : Jvm.MethodName)) ∈ lw_all := lw_g (lw_at lw_m5 151 rfl) rfl
theorem q1257 : (Jvm.Cond.methodLink "SpectrumAccess$Parser" (110 : Nat) ({ cls := "SpectrumAccess$Parser", name := "flaw", desc := "(I)LSpectrumAccess$Flaw;" } : Jvm.MethodName)) ∈ lw_all := lw_g (lw_at lw_m5 158 rfl) rfl
theorem q1258 : (Jvm.Cond.privateMethod ({ cls := "SpectrumAccess$Parser", name := "flaw", desc := "(I)LSpectrumAccess$Flaw;" } : Jvm.MethodName)) ∈ lw_tbl := lw_at lw_m5 159 rfl
theorem q1259 : (Jvm.Cond.instanceMethod ({ cls := "SpectrumAccess$Parser", name := "flaw", desc := "(I)LSpectrumAccess$Flaw;" } : Jvm.MethodName)) ∈ lw_all := lw_g (lw_at lw_m5 160 rfl) rfl
theorem q1260 : (Jvm.Cond.code ({ cls := "SpectrumAccess$Parser", name := "flaw", desc := "(I)LSpectrumAccess$Flaw;" } : Jvm.MethodName) prog_12_method_4_code (2 : Nat) (Option.some (Jvm.ClassFile.FieldType.object "SpectrumAccess$Flaw"))) ∈ lw_all := lw_g (lw_at lw_m5 161 rfl) rfl
theorem q1261 : (Jvm.Cond.classLink "SpectrumAccess$Parser" (95 : Nat) "SpectrumAccess$Flaw") ∈ lw_all := lw_g (lw_at lw_m5 162 rfl) rfl
theorem q1270 : (Jvm.Cond.methodLink "SpectrumAccess$Parser" (97 : Nat) ({ cls := "SpectrumAccess$Flaw", name := "<init>", desc := "(II)V" } : Jvm.MethodName)) ∈ lw_all := lw_g (lw_at lw_m5 171 rfl) rfl
theorem q1289 : (Jvm.Cond.methodLink "SpectrumAccess$Parser" (121 : Nat) ({ cls := "SpectrumAccess$Parser", name := "number", desc := "(II)I" } : Jvm.MethodName)) ∈ lw_all := lw_g (lw_at lw_m5 190 rfl) rfl
theorem q1290 : (Jvm.Cond.privateMethod ({ cls := "SpectrumAccess$Parser", name := "number", desc := "(II)I" } : Jvm.MethodName)) ∈ lw_tbl := lw_at lw_m5 191 rfl
theorem q1291 : (Jvm.Cond.instanceMethod ({ cls := "SpectrumAccess$Parser", name := "number", desc := "(II)I" } : Jvm.MethodName)) ∈ lw_all := lw_g (lw_at lw_m5 192 rfl) rfl
theorem q1292 : (Jvm.Cond.code ({ cls := "SpectrumAccess$Parser", name := "number", desc := "(II)I" } : Jvm.MethodName) prog_12_method_7_code (4 : Nat) (Option.some Jvm.ClassFile.FieldType.int)) ∈ lw_all := lw_g (lw_at lw_m5 193 rfl) rfl
theorem q1293 : (Jvm.Cond.methodLink "SpectrumAccess$Parser" (114 : Nat) ({ cls := "SpectrumAccess$Parser", name := "numberHere", desc := "(II)I" } : Jvm.MethodName)) ∈ lw_all := lw_g (lw_at lw_m5 194 rfl) rfl
theorem q1294 : (Jvm.Cond.privateMethod ({ cls := "SpectrumAccess$Parser", name := "numberHere", desc := "(II)I" } : Jvm.MethodName)) ∈ lw_tbl := lw_at lw_m5 195 rfl
theorem q1295 : (Jvm.Cond.instanceMethod ({ cls := "SpectrumAccess$Parser", name := "numberHere", desc := "(II)I" } : Jvm.MethodName)) ∈ lw_all := lw_g (lw_at lw_m5 196 rfl) rfl
theorem q1296 : (Jvm.Cond.code ({ cls := "SpectrumAccess$Parser", name := "numberHere", desc := "(II)I" } : Jvm.MethodName) prog_12_method_8_code (3 : Nat) (Option.some Jvm.ClassFile.FieldType.int)) ∈ lw_all := lw_g (lw_at lw_m5 197 rfl) rfl
theorem q1297 : (Jvm.Cond.stringRef "SpectrumAccess$Parser" (155 : Nat) "channels") ∈ lw_tbl := lw_at lw_m5 198 rfl
theorem q1298 : (Jvm.Cond.stringRef "SpectrumAccess$Parser" (159 : Nat) "leak") ∈ lw_tbl := lw_at lw_m5 199 rfl
theorem q1299 : (Jvm.Cond.stringRef "SpectrumAccess$Parser" (163 : Nat) "shield") ∈ lw_tbl := lw_at lw_m5 200 rfl
theorem q1300 : (Jvm.Cond.constant "SpectrumAccess$Parser" (165 : Nat) (99999 : Int32)) ∈ lw_all := lw_g (lw_at lw_m5 201 rfl) rfl
theorem q1301 : (Jvm.Cond.stringRef "SpectrumAccess$Parser" (168 : Nat) "minimum") ∈ lw_tbl := lw_at lw_m5 202 rfl
theorem q1302 : (Jvm.Cond.stringRef "SpectrumAccess$Parser" (172 : Nat) "lease") ∈ lw_tbl := lw_at lw_m5 203 rfl
theorem q1303 : (Jvm.Cond.stringRef "SpectrumAccess$Parser" (176 : Nat) "delay") ∈ lw_tbl := lw_at lw_m5 204 rfl
theorem q1304 : (Jvm.Cond.stringRef "SpectrumAccess$Parser" (125 : Nat) ";") ∈ lw_tbl := lw_at lw_m5 205 rfl
theorem q1305 : (Jvm.Cond.methodLink "SpectrumAccess$Parser" (127 : Nat) ({ cls := "SpectrumAccess$Parser", name := "line", desc := "()V" } : Jvm.MethodName)) ∈ lw_all := lw_g (lw_at lw_m5 206 rfl) rfl
theorem q1306 : (Jvm.Cond.privateMethod ({ cls := "SpectrumAccess$Parser", name := "line", desc := "()V" } : Jvm.MethodName)) ∈ lw_tbl := lw_at lw_m5 207 rfl
theorem q1307 : (Jvm.Cond.instanceMethod ({ cls := "SpectrumAccess$Parser", name := "line", desc := "()V" } : Jvm.MethodName)) ∈ lw_all := lw_g (lw_at lw_m5 208 rfl) rfl
theorem q1308 : (Jvm.Cond.code ({ cls := "SpectrumAccess$Parser", name := "line", desc := "()V" } : Jvm.MethodName) prog_12_method_12_code (5 : Nat) (Option.none : Option Jvm.ClassFile.FieldType)) ∈ lw_all := lw_g (lw_at lw_m5 209 rfl) rfl
theorem q1309 : (Jvm.Cond.methodLink "SpectrumAccess$Parser" (184 : Nat) ({ cls := "java/lang/String", name := "hashCode", desc := "()I" } : Jvm.MethodName)) ∈ lw_all := lw_g (lw_at lw_m5 210 rfl) rfl
theorem q1366 : (Jvm.Cond.stringRef "SpectrumAccess$Parser" (187 : Nat) "incumbent") ∈ lw_tbl := lw_at lw_m6 27 rfl
theorem q1367 : (Jvm.Cond.stringRef "SpectrumAccess$Parser" (193 : Nat) "sensor") ∈ lw_tbl := lw_at lw_m6 28 rfl
theorem q1368 : (Jvm.Cond.stringRef "SpectrumAccess$Parser" (195 : Nat) "licence") ∈ lw_tbl := lw_at lw_m6 29 rfl
theorem q1369 : (Jvm.Cond.stringRef "SpectrumAccess$Parser" (197 : Nat) "device") ∈ lw_tbl := lw_at lw_m6 30 rfl
theorem q1370 : (Jvm.Cond.stringRef "SpectrumAccess$Parser" (199 : Nat) "deny") ∈ lw_tbl := lw_at lw_m6 31 rfl
theorem q1371 : (Jvm.Cond.interfaceEntry "SpectrumAccess$Parser" (204 : Nat)) ∈ lw_tbl := lw_at lw_m6 32 rfl
theorem q1372 : (Jvm.Cond.methodLink "SpectrumAccess$Parser" (204 : Nat) ({ cls := "java/util/List", name := "size", desc := "()I" } : Jvm.MethodName)) ∈ lw_all := lw_g (lw_at lw_m6 33 rfl) rfl
theorem q1373 : (Jvm.Cond.methodLink "SpectrumAccess$Parser" (216 : Nat) ({ cls := "SpectrumAccess$Parser", name := "incumbent", desc := "()V" } : Jvm.MethodName)) ∈ lw_all := lw_g (lw_at lw_m6 34 rfl) rfl
theorem q1374 : (Jvm.Cond.privateMethod ({ cls := "SpectrumAccess$Parser", name := "incumbent", desc := "()V" } : Jvm.MethodName)) ∈ lw_tbl := lw_at lw_m6 35 rfl
theorem q1375 : (Jvm.Cond.instanceMethod ({ cls := "SpectrumAccess$Parser", name := "incumbent", desc := "()V" } : Jvm.MethodName)) ∈ lw_all := lw_g (lw_at lw_m6 36 rfl) rfl
theorem q1376 : (Jvm.Cond.code ({ cls := "SpectrumAccess$Parser", name := "incumbent", desc := "()V" } : Jvm.MethodName) prog_12_method_15_code (7 : Nat) (Option.none : Option Jvm.ClassFile.FieldType)) ∈ lw_all := lw_g (lw_at lw_m6 37 rfl) rfl
theorem q1377 : (Jvm.Cond.classLink "SpectrumAccess$Parser" (240 : Nat) "SpectrumAccess$Point") ∈ lw_all := lw_g (lw_at lw_m6 38 rfl) rfl
theorem q1379 : (Jvm.Cond.methodLink "SpectrumAccess$Parser" (220 : Nat) ({ cls := "SpectrumAccess$Parser", name := "x", desc := "()I" } : Jvm.MethodName)) ∈ lw_all := lw_g (lw_at lw_m6 40 rfl) rfl
theorem q1380 : (Jvm.Cond.privateMethod ({ cls := "SpectrumAccess$Parser", name := "x", desc := "()I" } : Jvm.MethodName)) ∈ lw_tbl := lw_at lw_m6 41 rfl
theorem q1381 : (Jvm.Cond.instanceMethod ({ cls := "SpectrumAccess$Parser", name := "x", desc := "()I" } : Jvm.MethodName)) ∈ lw_all := lw_g (lw_at lw_m6 42 rfl) rfl
theorem q1382 : (Jvm.Cond.code ({ cls := "SpectrumAccess$Parser", name := "x", desc := "()I" } : Jvm.MethodName) prog_12_method_13_code (1 : Nat) (Option.some Jvm.ClassFile.FieldType.int)) ∈ lw_all := lw_g (lw_at lw_m6 43 rfl) rfl
theorem q1383 : (Jvm.Cond.methodLink "SpectrumAccess$Parser" (223 : Nat) ({ cls := "SpectrumAccess$Parser", name := "y", desc := "()I" } : Jvm.MethodName)) ∈ lw_all := lw_g (lw_at lw_m6 44 rfl) rfl
theorem q1384 : (Jvm.Cond.privateMethod ({ cls := "SpectrumAccess$Parser", name := "y", desc := "()I" } : Jvm.MethodName)) ∈ lw_tbl := lw_at lw_m6 45 rfl
theorem q1385 : (Jvm.Cond.instanceMethod ({ cls := "SpectrumAccess$Parser", name := "y", desc := "()I" } : Jvm.MethodName)) ∈ lw_all := lw_g (lw_at lw_m6 46 rfl) rfl
theorem q1386 : (Jvm.Cond.code ({ cls := "SpectrumAccess$Parser", name := "y", desc := "()I" } : Jvm.MethodName) prog_12_method_14_code (1 : Nat) (Option.some Jvm.ClassFile.FieldType.int)) ∈ lw_all := lw_g (lw_at lw_m6 47 rfl) rfl
theorem q1387 : (Jvm.Cond.methodLink "SpectrumAccess$Parser" (242 : Nat) ({ cls := "SpectrumAccess$Point", name := "<init>", desc := "(II)V" } : Jvm.MethodName)) ∈ lw_all := lw_g (lw_at lw_m6 48 rfl) rfl
theorem q1395 : (Jvm.Cond.fieldLinkNest "SpectrumAccess$Parser" (265 : Nat) "SpectrumAccess$Point" "x" "I" "SpectrumAccess") ∈ lw_tbl := lw_at lw_m6 56 rfl
theorem q1400 : (Jvm.Cond.fieldLinkNest "SpectrumAccess$Parser" (267 : Nat) "SpectrumAccess$Point" "y" "I" "SpectrumAccess") ∈ lw_tbl := lw_at lw_m6 61 rfl
theorem q1406 : (Jvm.Cond.classLink "SpectrumAccess$Parser" (243 : Nat) "SpectrumAccess$Incumbent") ∈ lw_all := lw_g (lw_at lw_m6 67 rfl) rfl
theorem q1408 : (Jvm.Cond.stringRef "SpectrumAccess$Parser" (245 : Nat) "announced") ∈ lw_tbl := lw_at lw_m6 69 rfl
theorem q1409 : (Jvm.Cond.methodLink "SpectrumAccess$Parser" (247 : Nat) ({ cls := "SpectrumAccess$Incumbent", name := "<init>", desc := "(LSpectrumAccess$Point;IIIIZ)V" } : Jvm.MethodName)) ∈ lw_all := lw_g (lw_at lw_m6 70 rfl) rfl
theorem q1436 : (Jvm.Cond.methodLink "SpectrumAccess$Parser" (250 : Nat) ({ cls := "SpectrumAccess$State", name := "add", desc := "(LSpectrumAccess$Incumbent;I)I" } : Jvm.MethodName)) ∈ lw_all := lw_g (lw_at lw_m6 97 rfl) rfl
theorem q1442 : (Jvm.Cond.classLink "SpectrumAccess$Parser" (218 : Nat) "SpectrumAccess$Sensor") ∈ lw_all := lw_g (lw_at lw_m6 103 rfl) rfl
theorem q1444 : (Jvm.Cond.methodLink "SpectrumAccess$Parser" (226 : Nat) ({ cls := "SpectrumAccess$Sensor", name := "<init>", desc := "(III)V" } : Jvm.MethodName)) ∈ lw_all := lw_g (lw_at lw_m6 105 rfl) rfl
theorem q1454 : (Jvm.Cond.interfaceEntry "SpectrumAccess$Parser" (229 : Nat)) ∈ lw_tbl := lw_at lw_m6 115 rfl
theorem q1455 : (Jvm.Cond.methodLink "SpectrumAccess$Parser" (229 : Nat) ({ cls := "java/util/List", name := "add", desc := "(Ljava/lang/Object;)Z" } : Jvm.MethodName)) ∈ lw_all := lw_g (lw_at lw_m6 116 rfl) rfl
theorem q1456 : (Jvm.Cond.methodLink "SpectrumAccess$Parser" (232 : Nat) ({ cls := "SpectrumAccess$Parser", name := "licence", desc := "()V" } : Jvm.MethodName)) ∈ lw_all := lw_g (lw_at lw_m6 117 rfl) rfl
theorem q1457 : (Jvm.Cond.privateMethod ({ cls := "SpectrumAccess$Parser", name := "licence", desc := "()V" } : Jvm.MethodName)) ∈ lw_tbl := lw_at lw_m6 118 rfl
theorem q1458 : (Jvm.Cond.instanceMethod ({ cls := "SpectrumAccess$Parser", name := "licence", desc := "()V" } : Jvm.MethodName)) ∈ lw_all := lw_g (lw_at lw_m6 119 rfl) rfl
theorem q1459 : (Jvm.Cond.code ({ cls := "SpectrumAccess$Parser", name := "licence", desc := "()V" } : Jvm.MethodName) prog_12_method_16_code (5 : Nat) (Option.none : Option Jvm.ClassFile.FieldType)) ∈ lw_all := lw_g (lw_at lw_m6 120 rfl) rfl
theorem q1460 : (Jvm.Cond.classLink "SpectrumAccess$Parser" (253 : Nat) "SpectrumAccess$Licence") ∈ lw_all := lw_g (lw_at lw_m6 121 rfl) rfl
theorem q1462 : (Jvm.Cond.methodLink "SpectrumAccess$Parser" (255 : Nat) ({ cls := "SpectrumAccess$Licence", name := "<init>", desc := "(IIIII)V" } : Jvm.MethodName)) ∈ lw_all := lw_g (lw_at lw_m6 123 rfl) rfl
theorem q1487 : (Jvm.Cond.methodLink "SpectrumAccess$Parser" (258 : Nat) ({ cls := "SpectrumAccess$Region", name := "add", desc := "(LSpectrumAccess$Licence;)V" } : Jvm.MethodName)) ∈ lw_all := lw_g (lw_at lw_m6 148 rfl) rfl
theorem q1545 : (Jvm.Cond.methodLink "SpectrumAccess$Parser" (234 : Nat) ({ cls := "SpectrumAccess$Parser", name := "test", desc := "()LSpectrumAccess$Test;" } : Jvm.MethodName)) ∈ lw_all := lw_g (lw_at lw_m6 206 rfl) rfl
theorem q1546 : (Jvm.Cond.privateMethod ({ cls := "SpectrumAccess$Parser", name := "test", desc := "()LSpectrumAccess$Test;" } : Jvm.MethodName)) ∈ lw_tbl := lw_at lw_m6 207 rfl
theorem q1547 : (Jvm.Cond.instanceMethod ({ cls := "SpectrumAccess$Parser", name := "test", desc := "()LSpectrumAccess$Test;" } : Jvm.MethodName)) ∈ lw_all := lw_g (lw_at lw_m6 208 rfl) rfl
theorem q1548 : (Jvm.Cond.code ({ cls := "SpectrumAccess$Parser", name := "test", desc := "()LSpectrumAccess$Test;" } : Jvm.MethodName) prog_12_method_18_code (3 : Nat) (Option.some (Jvm.ClassFile.FieldType.object "SpectrumAccess$Test"))) ∈ lw_all := lw_g (lw_at lw_m6 209 rfl) rfl
theorem q1549 : (Jvm.Cond.methodLink "SpectrumAccess$Parser" (286 : Nat) ({ cls := "SpectrumAccess$Parser", name := "unit", desc := "()LSpectrumAccess$Test;" } : Jvm.MethodName)) ∈ lw_all := lw_g (lw_at lw_m6 210 rfl) rfl
theorem q1550 : (Jvm.Cond.privateMethod ({ cls := "SpectrumAccess$Parser", name := "unit", desc := "()LSpectrumAccess$Test;" } : Jvm.MethodName)) ∈ lw_tbl := lw_at lw_m6 211 rfl
theorem q1551 : (Jvm.Cond.instanceMethod ({ cls := "SpectrumAccess$Parser", name := "unit", desc := "()LSpectrumAccess$Test;" } : Jvm.MethodName)) ∈ lw_all := lw_g (lw_at lw_m6 212 rfl) rfl
theorem q1552 : (Jvm.Cond.codeWith ({ cls := "SpectrumAccess$Parser", name := "unit", desc := "()LSpectrumAccess$Test;" } : Jvm.MethodName) prog_12_method_21_code (5 : Nat) (Option.some (Jvm.ClassFile.FieldType.object "SpectrumAccess$Test")) [((69 : Nat), (191 : Nat), (203 : Nat), (0 : Nat)), ((203 : Nat), (205 : Nat), (203 : Nat), (0 : Nat))]) ∈ lw_all := lw_g (lw_at lw_m6 213 rfl) rfl
theorem q1553 : (Jvm.Cond.methodLink "SpectrumAccess$Parser" (306 : Nat) ({ cls := "SpectrumAccess$Parser", name := "isValue", desc := "(Ljava/lang/String;)Z" } : Jvm.MethodName)) ∈ lw_all := lw_g (lw_at lw_m6 214 rfl) rfl
theorem q1554 : (Jvm.Cond.static ({ cls := "SpectrumAccess$Parser", name := "isValue", desc := "(Ljava/lang/String;)Z" } : Jvm.MethodName)) ∈ lw_all := lw_g (lw_at lw_m6 215 rfl) rfl
theorem q1555 : (Jvm.Cond.code ({ cls := "SpectrumAccess$Parser", name := "isValue", desc := "(Ljava/lang/String;)Z" } : Jvm.MethodName) prog_12_method_20_code (3 : Nat) (Option.some Jvm.ClassFile.FieldType.boolean)) ∈ lw_all := lw_g (lw_at lw_m6 216 rfl) rfl
theorem q1556 : (Jvm.Cond.stringRef "SpectrumAccess$Parser" (298 : Nat) "x") ∈ lw_tbl := lw_at lw_m6 217 rfl
theorem q1557 : (Jvm.Cond.stringRef "SpectrumAccess$Parser" (299 : Nat) "y") ∈ lw_tbl := lw_at lw_m6 218 rfl
theorem q1558 : (Jvm.Cond.stringRef "SpectrumAccess$Parser" (300 : Nat) "channel") ∈ lw_tbl := lw_at lw_m6 219 rfl
theorem q1559 : (Jvm.Cond.stringRef "SpectrumAccess$Parser" (302 : Nat) "time") ∈ lw_tbl := lw_at lw_m6 220 rfl
theorem q1560 : (Jvm.Cond.stringRef "SpectrumAccess$Parser" (304 : Nat) "moves") ∈ lw_tbl := lw_at lw_m6 221 rfl
theorem q1561 : (Jvm.Cond.stringRef "SpectrumAccess$Parser" (309 : Nat) "not") ∈ lw_tbl := lw_at lw_m6 222 rfl
theorem q1562 : (Jvm.Cond.stringRef "SpectrumAccess$Parser" (311 : Nat) "(") ∈ lw_tbl := lw_at lw_m6 223 rfl
theorem q1563 : (Jvm.Cond.classLink "SpectrumAccess$Parser" (316 : Nat) "SpectrumAccess$Not") ∈ lw_all := lw_g (lw_at lw_m6 224 rfl) rfl
theorem q1565 : (Jvm.Cond.methodLink "SpectrumAccess$Parser" (318 : Nat) ({ cls := "SpectrumAccess$Not", name := "<init>", desc := "(LSpectrumAccess$Test;)V" } : Jvm.MethodName)) ∈ lw_all := lw_g (lw_at lw_m6 226 rfl) rfl
theorem q1576 : (Jvm.Cond.methodLink "SpectrumAccess$Parser" (321 : Nat) ({ cls := "SpectrumAccess$Parser", name := "bracketed", desc := "()LSpectrumAccess$Test;" } : Jvm.MethodName)) ∈ lw_all := lw_g (lw_at lw_m6 237 rfl) rfl
theorem q1577 : (Jvm.Cond.privateMethod ({ cls := "SpectrumAccess$Parser", name := "bracketed", desc := "()LSpectrumAccess$Test;" } : Jvm.MethodName)) ∈ lw_tbl := lw_at lw_m6 238 rfl
theorem q1578 : (Jvm.Cond.instanceMethod ({ cls := "SpectrumAccess$Parser", name := "bracketed", desc := "()LSpectrumAccess$Test;" } : Jvm.MethodName)) ∈ lw_all := lw_g (lw_at lw_m6 239 rfl) rfl
theorem q1579 : (Jvm.Cond.code ({ cls := "SpectrumAccess$Parser", name := "bracketed", desc := "()LSpectrumAccess$Test;" } : Jvm.MethodName) prog_12_method_22_code (2 : Nat) (Option.some (Jvm.ClassFile.FieldType.object "SpectrumAccess$Test"))) ∈ lw_all := lw_g (lw_at lw_m7 0 rfl) rfl
theorem q1580 : (Jvm.Cond.stringRef "SpectrumAccess$Parser" (328 : Nat) ")") ∈ lw_tbl := lw_at lw_m7 1 rfl
theorem q1581 : (Jvm.Cond.methodLink "SpectrumAccess$Parser" (324 : Nat) ({ cls := "SpectrumAccess$Parser", name := "comparison", desc := "(Ljava/lang/String;)LSpectrumAccess$Test;" } : Jvm.MethodName)) ∈ lw_all := lw_g (lw_at lw_m7 2 rfl) rfl
theorem q1582 : (Jvm.Cond.privateMethod ({ cls := "SpectrumAccess$Parser", name := "comparison", desc := "(Ljava/lang/String;)LSpectrumAccess$Test;" } : Jvm.MethodName)) ∈ lw_tbl := lw_at lw_m7 3 rfl
theorem q1583 : (Jvm.Cond.instanceMethod ({ cls := "SpectrumAccess$Parser", name := "comparison", desc := "(Ljava/lang/String;)LSpectrumAccess$Test;" } : Jvm.MethodName)) ∈ lw_all := lw_g (lw_at lw_m7 4 rfl) rfl
theorem q1584 : (Jvm.Cond.code ({ cls := "SpectrumAccess$Parser", name := "comparison", desc := "(Ljava/lang/String;)LSpectrumAccess$Test;" } : Jvm.MethodName) prog_12_method_23_code (3 : Nat) (Option.some (Jvm.ClassFile.FieldType.object "SpectrumAccess$Test"))) ∈ lw_all := lw_g (lw_at lw_m7 5 rfl) rfl
theorem q1585 : (Jvm.Cond.stringRef "SpectrumAccess$Parser" (330 : Nat) "<") ∈ lw_tbl := lw_at lw_m7 6 rfl
theorem q1586 : (Jvm.Cond.stringRef "SpectrumAccess$Parser" (332 : Nat) ">") ∈ lw_tbl := lw_at lw_m7 7 rfl
theorem q1587 : (Jvm.Cond.stringRef "SpectrumAccess$Parser" (334 : Nat) "=") ∈ lw_tbl := lw_at lw_m7 8 rfl
theorem q1588 : (Jvm.Cond.interfaceEntry "SpectrumAccess$Parser" (336 : Nat)) ∈ lw_tbl := lw_at lw_m7 9 rfl
theorem q1589 : (Jvm.Cond.methodLink "SpectrumAccess$Parser" (336 : Nat) ({ cls := "java/lang/CharSequence", name := "charAt", desc := "(I)C" } : Jvm.MethodName)) ∈ lw_all := lw_g (lw_at lw_m7 10 rfl) rfl
theorem q1615 : (Jvm.Cond.classLink "SpectrumAccess$Parser" (340 : Nat) "SpectrumAccess$Comparison") ∈ lw_all := lw_g (lw_at lw_m7 36 rfl) rfl
theorem q1617 : (Jvm.Cond.methodLink "SpectrumAccess$Parser" (342 : Nat) ({ cls := "SpectrumAccess$Comparison", name := "<init>", desc := "(Ljava/lang/String;CI)V" } : Jvm.MethodName)) ∈ lw_all := lw_g (lw_at lw_m7 38 rfl) rfl
theorem q1631 : (Jvm.Cond.stringRef "SpectrumAccess$Parser" (289 : Nat) "and") ∈ lw_tbl := lw_at lw_m7 52 rfl
theorem q1632 : (Jvm.Cond.stringRef "SpectrumAccess$Parser" (291 : Nat) "or") ∈ lw_tbl := lw_at lw_m7 53 rfl
theorem q1633 : (Jvm.Cond.classLink "SpectrumAccess$Parser" (293 : Nat) "SpectrumAccess$Pair") ∈ lw_all := lw_g (lw_at lw_m7 54 rfl) rfl
theorem q1635 : (Jvm.Cond.methodLink "SpectrumAccess$Parser" (295 : Nat) ({ cls := "SpectrumAccess$Pair", name := "<init>", desc := "(ZLSpectrumAccess$Test;LSpectrumAccess$Test;)V" } : Jvm.MethodName)) ∈ lw_all := lw_g (lw_at lw_m7 56 rfl) rfl
theorem q1649 : (Jvm.Cond.methodLink "SpectrumAccess$Parser" (238 : Nat) ({ cls := "SpectrumAccess$Parser", name := "device", desc := "()V" } : Jvm.MethodName)) ∈ lw_all := lw_g (lw_at lw_m7 70 rfl) rfl
theorem q1650 : (Jvm.Cond.privateMethod ({ cls := "SpectrumAccess$Parser", name := "device", desc := "()V" } : Jvm.MethodName)) ∈ lw_tbl := lw_at lw_m7 71 rfl
theorem q1651 : (Jvm.Cond.instanceMethod ({ cls := "SpectrumAccess$Parser", name := "device", desc := "()V" } : Jvm.MethodName)) ∈ lw_all := lw_g (lw_at lw_m7 72 rfl) rfl
theorem q1652 : (Jvm.Cond.code ({ cls := "SpectrumAccess$Parser", name := "device", desc := "()V" } : Jvm.MethodName) prog_12_method_17_code (5 : Nat) (Option.none : Option Jvm.ClassFile.FieldType)) ∈ lw_all := lw_g (lw_at lw_m7 73 rfl) rfl
theorem q1653 : (Jvm.Cond.interfaceEntry "SpectrumAccess$Parser" (261 : Nat)) ∈ lw_tbl := lw_at lw_m7 74 rfl
theorem q1654 : (Jvm.Cond.methodLink "SpectrumAccess$Parser" (261 : Nat) ({ cls := "java/util/List", name := "get", desc := "(I)Ljava/lang/Object;" } : Jvm.MethodName)) ∈ lw_all := lw_g (lw_at lw_m7 75 rfl) rfl
theorem q1660 : (Jvm.Cond.stringRef "SpectrumAccess$Parser" (273 : Nat) "off") ∈ lw_tbl := lw_at lw_m7 81 rfl
theorem q1661 : (Jvm.Cond.classLink "SpectrumAccess$Parser" (275 : Nat) "SpectrumAccess$Device") ∈ lw_all := lw_g (lw_at lw_m7 82 rfl) rfl
theorem q1663 : (Jvm.Cond.methodLink "SpectrumAccess$Parser" (277 : Nat) ({ cls := "SpectrumAccess$Device", name := "<init>", desc := "(LSpectrumAccess$Point;Z)V" } : Jvm.MethodName)) ∈ lw_all := lw_g (lw_at lw_m7 84 rfl) rfl
theorem q1682 : (Jvm.Cond.methodLink "SpectrumAccess$Parser" (280 : Nat) ({ cls := "SpectrumAccess$Device", name := "<init>", desc := "(LSpectrumAccess$Point;ZI)V" } : Jvm.MethodName)) ∈ lw_all := lw_g (lw_at lw_m7 103 rfl) rfl
theorem q1683 : (Jvm.Cond.methodLink "SpectrumAccess$Parser" (283 : Nat) ({ cls := "SpectrumAccess$State", name := "add", desc := "(LSpectrumAccess$Device;I)V" } : Jvm.MethodName)) ∈ lw_all := lw_g (lw_at lw_m7 104 rfl) rfl
theorem q1687 : (Jvm.Cond.interfaceEntry "SpectrumAccess$Parser" (130 : Nat)) ∈ lw_tbl := lw_at lw_m7 108 rfl
theorem q1688 : (Jvm.Cond.methodLink "SpectrumAccess$Parser" (130 : Nat) ({ cls := "java/lang/CharSequence", name := "length", desc := "()I" } : Jvm.MethodName)) ∈ lw_all := lw_g (lw_at lw_m7 109 rfl) rfl
theorem q1697 : (Jvm.Cond.interfaceEntry "SpectrumAccess$Parser" (139 : Nat)) ∈ lw_tbl := lw_at lw_m7 118 rfl
theorem q1698 : (Jvm.Cond.methodLink "SpectrumAccess$Parser" (139 : Nat) ({ cls := "java/util/List", name := "isEmpty", desc := "()Z" } : Jvm.MethodName)) ∈ lw_all := lw_g (lw_at lw_m7 119 rfl) rfl
theorem q3495 : (Jvm.Cond.castable "SpectrumAccess$Parser" "java/lang/Object") ∈ lw_tbl := lw_at lw_m14 236 rfl
theorem in_X3 : ∀ w ∈ wsX30, w ∈ lw_all := lw_in wsX30 [1088, 1090, 1092, 1094, 1096, 1098, 1100, 1102, 1104] (by decide +kernel) (by decide +kernel)


/-! SpectrumAccess$Region -/
set_option maxRecDepth 100000
def RX4 : String := "SpectrumAccess$Region"
def TX4 : u_T := fun k => match k with
  | 0 => ("SpectrumAccess$Region", "sensors", "Ljava/util/List;", true)
  | 1 => ("SpectrumAccess$Region", "licences", "Ljava/util/List;", true)
  | 2 => ("SpectrumAccess$Region", "devices", "Ljava/util/List;", true)
  | 3 => ("SpectrumAccess$Region", "denials", "Ljava/util/List;", true)
  | 4 => ("SpectrumAccess$Region", "asked", "LSpectrumAccess$Case;", true)
  | 5 => ("SpectrumAccess$Region", "width", "I", false)
  | 6 => ("SpectrumAccess$Region", "height", "I", false)
  | 7 => ("SpectrumAccess$Region", "channels", "I", false)
  | 8 => ("SpectrumAccess$Region", "leak", "I", false)
  | 9 => ("SpectrumAccess$Region", "shield", "I", false)
  | 10 => ("SpectrumAccess$Region", "minimum", "I", false)
  | 11 => ("SpectrumAccess$Region", "lease", "I", false)
  | 12 => ("SpectrumAccess$Region", "delay", "I", false)
  | 13 => ("SpectrumAccess$Region", "everyone", "LSpectrumAccess$Some;", true)
  | 14 => ("SpectrumAccess$Region", "licensed", "LSpectrumAccess$Some;", true)
  | 15 => ("SpectrumAccess$Region", "general", "LSpectrumAccess$Some;", true)
  | 16 => ("SpectrumAccess$Region", "queue", "Ljava/util/PriorityQueue;", true)
  | 17 => ("SpectrumAccess$Region", "tickets", "Ljava/util/List;", true)
  | _ => ("SpectrumAccess$Region", "order", "[I", true)
def tyX4 : Nat → FieldType := fun k => match k with
  | 0 => .object "java/util/List"
  | 1 => .object "java/util/List"
  | 2 => .object "java/util/List"
  | 3 => .object "java/util/List"
  | 4 => .object "SpectrumAccess$Case"
  | 5 => .int
  | 6 => .int
  | 7 => .int
  | 8 => .int
  | 9 => .int
  | 10 => .int
  | 11 => .int
  | 12 => .int
  | 13 => .object "SpectrumAccess$Some"
  | 14 => .object "SpectrumAccess$Some"
  | 15 => .object "SpectrumAccess$Some"
  | 16 => .object "java/util/PriorityQueue"
  | 17 => .object "java/util/List"
  | _ => .array .int
abbrev wsX40 : List Cond := u_ws RX4 TX4 19
set_option maxRecDepth 100000 in
theorem nmX4 : ∀ a, a < 19 → ∀ b, b < 19 → a ≠ b → (TX4 a).2.1 ≠ (TX4 b).2.1 := by decide +kernel
set_option maxRecDepth 100000 in
theorem tyX4_ok : ∀ k, k < 19 → parseFieldDescriptor (TX4 k).2.2.1 = some (tyX4 k) := by decide +kernel
abbrev cX4_init : ByteArray := prog_15_method_1_code
def yX4_init : MethodName := ⟨RX4, "<init>", "()V"⟩
def dkwX4_init_7 : List UInt8 := [177]
abbrev dktX4_init_7 : List UInt8 := dkwX4_init_7 ++ []
def dkwX4_init_6 : List UInt8 := [42, 180, 0, 66, 187, 0, 73, 89, 27, 183, 0, 75, 185, 0, 76, 2, 0, 87, 132, 1, 1, 167, 255, 229]
abbrev dktX4_init_6 : List UInt8 := dkwX4_init_6 ++ dktX4_init_7
def dkwX4_init_5 : List UInt8 := [16, 16, 183, 0, 11, 181, 0, 66, 42, 16, 16, 188, 10, 181, 0, 69, 3, 60, 27, 16, 16, 162, 0, 27]
abbrev dktX4_init_5 : List UInt8 := dkwX4_init_5 ++ dktX4_init_6
def dkwX4_init_4 : List UInt8 := [187, 0, 54, 89, 16, 16, 187, 0, 56, 89, 183, 0, 58, 183, 0, 59, 181, 0, 62, 42, 187, 0, 9, 89]
abbrev dktX4_init_4 : List UInt8 := dkwX4_init_4 ++ dktX4_init_5
def dkwX4_init_3 : List UInt8 := [181, 0, 40, 42, 42, 186, 0, 44, 0, 0, 181, 0, 47, 42, 42, 186, 0, 50, 0, 0, 181, 0, 51, 42]
abbrev dktX4_init_3 : List UInt8 := dkwX4_init_3 ++ dktX4_init_4
def dkwX4_init_2 : List UInt8 := [183, 0, 11, 181, 0, 26, 42, 187, 0, 29, 89, 183, 0, 31, 181, 0, 32, 42, 186, 0, 36, 0, 0]
abbrev dktX4_init_2 : List UInt8 := dkwX4_init_2 ++ dktX4_init_3
def dkwX4_init_1 : List UInt8 := [183, 0, 11, 181, 0, 20, 42, 187, 0, 9, 89, 7, 183, 0, 11, 181, 0, 23, 42, 187, 0, 9, 89, 5]
abbrev dktX4_init_1 : List UInt8 := dkwX4_init_1 ++ dktX4_init_2
def dkwX4_init_0 : List UInt8 := [42, 183, 0, 3, 42, 187, 0, 9, 89, 5, 183, 0, 11, 181, 0, 14, 42, 187, 0, 9, 89, 5]
abbrev dktX4_init_0 : List UInt8 := dkwX4_init_0 ++ dktX4_init_1
theorem dksX4_init_0 : cX4_init.data.toList.drop 0 = dktX4_init_0 := by decide +kernel
theorem dksX4_init_1 : cX4_init.data.toList.drop 22 = dktX4_init_1 := dk_seg dksX4_init_0 22 rfl rfl
theorem dksX4_init_2 : cX4_init.data.toList.drop 46 = dktX4_init_2 := dk_seg dksX4_init_1 24 rfl rfl
theorem dksX4_init_3 : cX4_init.data.toList.drop 69 = dktX4_init_3 := dk_seg dksX4_init_2 23 rfl rfl
theorem dksX4_init_4 : cX4_init.data.toList.drop 93 = dktX4_init_4 := dk_seg dksX4_init_3 24 rfl rfl
theorem dksX4_init_5 : cX4_init.data.toList.drop 117 = dktX4_init_5 := dk_seg dksX4_init_4 24 rfl rfl
theorem dksX4_init_6 : cX4_init.data.toList.drop 141 = dktX4_init_6 := dk_seg dksX4_init_5 24 rfl rfl
theorem dksX4_init_7 : cX4_init.data.toList.drop 165 = dktX4_init_7 := dk_seg dksX4_init_6 24 rfl rfl
theorem dX4_init_0 : decode cX4_init 0 = .ok (.aload_n 0, 1) := dk_42 (dk_at dksX4_init_0 0 rfl rfl)
theorem dX4_init_1 : decode cX4_init 1 = .ok (.invokespecial 3, 3) := dk_183 0 3 (dk_at dksX4_init_0 1 rfl rfl)
theorem dX4_init_4 : decode cX4_init 4 = .ok (.aload_n 0, 1) := dk_42 (dk_at dksX4_init_0 4 rfl rfl)
theorem dX4_init_5 : decode cX4_init 5 = .ok (.new 9, 3) := dk_187 0 9 (dk_at dksX4_init_0 5 rfl rfl)
theorem dX4_init_8 : decode cX4_init 8 = .ok (.dup, 1) := dk_89 (dk_at dksX4_init_0 8 rfl rfl)
theorem dX4_init_9 : decode cX4_init 9 = .ok (.iconst 2, 1) := dk_5 (dk_at dksX4_init_0 9 rfl rfl)
theorem dX4_init_10 : decode cX4_init 10 = .ok (.invokespecial 11, 3) := dk_183 0 11 (dk_at dksX4_init_0 10 rfl rfl)
theorem dX4_init_13 : decode cX4_init 13 = .ok (.putfield 14, 3) := dk_181 0 14 (dk_at dksX4_init_0 13 rfl rfl)
theorem dX4_init_16 : decode cX4_init 16 = .ok (.aload_n 0, 1) := dk_42 (dk_at dksX4_init_0 16 rfl rfl)
theorem dX4_init_17 : decode cX4_init 17 = .ok (.new 9, 3) := dk_187 0 9 (dk_at dksX4_init_0 17 rfl rfl)
theorem dX4_init_20 : decode cX4_init 20 = .ok (.dup, 1) := dk_89 (dk_at dksX4_init_0 20 rfl rfl)
theorem dX4_init_21 : decode cX4_init 21 = .ok (.iconst 2, 1) := dk_5 (dk_at dksX4_init_0 21 rfl rfl)
theorem dX4_init_22 : decode cX4_init 22 = .ok (.invokespecial 11, 3) := dk_183 0 11 (dk_at dksX4_init_1 0 rfl rfl)
theorem dX4_init_25 : decode cX4_init 25 = .ok (.putfield 20, 3) := dk_181 0 20 (dk_at dksX4_init_1 3 rfl rfl)
theorem dX4_init_28 : decode cX4_init 28 = .ok (.aload_n 0, 1) := dk_42 (dk_at dksX4_init_1 6 rfl rfl)
theorem dX4_init_29 : decode cX4_init 29 = .ok (.new 9, 3) := dk_187 0 9 (dk_at dksX4_init_1 7 rfl rfl)
theorem dX4_init_32 : decode cX4_init 32 = .ok (.dup, 1) := dk_89 (dk_at dksX4_init_1 10 rfl rfl)
theorem dX4_init_33 : decode cX4_init 33 = .ok (.iconst 4, 1) := dk_7 (dk_at dksX4_init_1 11 rfl rfl)
theorem dX4_init_34 : decode cX4_init 34 = .ok (.invokespecial 11, 3) := dk_183 0 11 (dk_at dksX4_init_1 12 rfl rfl)
theorem dX4_init_37 : decode cX4_init 37 = .ok (.putfield 23, 3) := dk_181 0 23 (dk_at dksX4_init_1 15 rfl rfl)
theorem dX4_init_40 : decode cX4_init 40 = .ok (.aload_n 0, 1) := dk_42 (dk_at dksX4_init_1 18 rfl rfl)
theorem dX4_init_41 : decode cX4_init 41 = .ok (.new 9, 3) := dk_187 0 9 (dk_at dksX4_init_1 19 rfl rfl)
theorem dX4_init_44 : decode cX4_init 44 = .ok (.dup, 1) := dk_89 (dk_at dksX4_init_1 22 rfl rfl)
theorem dX4_init_45 : decode cX4_init 45 = .ok (.iconst 2, 1) := dk_5 (dk_at dksX4_init_1 23 rfl rfl)
theorem dX4_init_46 : decode cX4_init 46 = .ok (.invokespecial 11, 3) := dk_183 0 11 (dk_at dksX4_init_2 0 rfl rfl)
theorem dX4_init_49 : decode cX4_init 49 = .ok (.putfield 26, 3) := dk_181 0 26 (dk_at dksX4_init_2 3 rfl rfl)
theorem dX4_init_52 : decode cX4_init 52 = .ok (.aload_n 0, 1) := dk_42 (dk_at dksX4_init_2 6 rfl rfl)
theorem dX4_init_53 : decode cX4_init 53 = .ok (.new 29, 3) := dk_187 0 29 (dk_at dksX4_init_2 7 rfl rfl)
theorem dX4_init_56 : decode cX4_init 56 = .ok (.dup, 1) := dk_89 (dk_at dksX4_init_2 10 rfl rfl)
theorem dX4_init_57 : decode cX4_init 57 = .ok (.invokespecial 31, 3) := dk_183 0 31 (dk_at dksX4_init_2 11 rfl rfl)
theorem dX4_init_60 : decode cX4_init 60 = .ok (.putfield 32, 3) := dk_181 0 32 (dk_at dksX4_init_2 14 rfl rfl)
theorem dX4_init_63 : decode cX4_init 63 = .ok (.aload_n 0, 1) := dk_42 (dk_at dksX4_init_2 17 rfl rfl)
theorem dX4_init_64 : decode cX4_init 64 = .ok (.invokedynamic 36, 5) := by decide +kernel
theorem dX4_init_69 : decode cX4_init 69 = .ok (.putfield 40, 3) := dk_181 0 40 (dk_at dksX4_init_3 0 rfl rfl)
theorem dX4_init_72 : decode cX4_init 72 = .ok (.aload_n 0, 1) := dk_42 (dk_at dksX4_init_3 3 rfl rfl)
theorem dX4_init_73 : decode cX4_init 73 = .ok (.aload_n 0, 1) := dk_42 (dk_at dksX4_init_3 4 rfl rfl)
theorem dX4_init_74 : decode cX4_init 74 = .ok (.invokedynamic 44, 5) := by decide +kernel
theorem dX4_init_79 : decode cX4_init 79 = .ok (.putfield 47, 3) := dk_181 0 47 (dk_at dksX4_init_3 10 rfl rfl)
theorem dX4_init_82 : decode cX4_init 82 = .ok (.aload_n 0, 1) := dk_42 (dk_at dksX4_init_3 13 rfl rfl)
theorem dX4_init_83 : decode cX4_init 83 = .ok (.aload_n 0, 1) := dk_42 (dk_at dksX4_init_3 14 rfl rfl)
theorem dX4_init_84 : decode cX4_init 84 = .ok (.invokedynamic 50, 5) := by decide +kernel
theorem dX4_init_89 : decode cX4_init 89 = .ok (.putfield 51, 3) := dk_181 0 51 (dk_at dksX4_init_3 20 rfl rfl)
theorem dX4_init_92 : decode cX4_init 92 = .ok (.aload_n 0, 1) := dk_42 (dk_at dksX4_init_3 23 rfl rfl)
theorem dX4_init_93 : decode cX4_init 93 = .ok (.new 54, 3) := dk_187 0 54 (dk_at dksX4_init_4 0 rfl rfl)
theorem dX4_init_96 : decode cX4_init 96 = .ok (.dup, 1) := dk_89 (dk_at dksX4_init_4 3 rfl rfl)
theorem dX4_init_97 : decode cX4_init 97 = .ok (.bipush 16, 2) := dk_16 16 (dk_at dksX4_init_4 4 rfl rfl)
theorem dX4_init_99 : decode cX4_init 99 = .ok (.new 56, 3) := dk_187 0 56 (dk_at dksX4_init_4 6 rfl rfl)
theorem dX4_init_102 : decode cX4_init 102 = .ok (.dup, 1) := dk_89 (dk_at dksX4_init_4 9 rfl rfl)
theorem dX4_init_103 : decode cX4_init 103 = .ok (.invokespecial 58, 3) := dk_183 0 58 (dk_at dksX4_init_4 10 rfl rfl)
theorem dX4_init_106 : decode cX4_init 106 = .ok (.invokespecial 59, 3) := dk_183 0 59 (dk_at dksX4_init_4 13 rfl rfl)
theorem dX4_init_109 : decode cX4_init 109 = .ok (.putfield 62, 3) := dk_181 0 62 (dk_at dksX4_init_4 16 rfl rfl)
theorem dX4_init_112 : decode cX4_init 112 = .ok (.aload_n 0, 1) := dk_42 (dk_at dksX4_init_4 19 rfl rfl)
theorem dX4_init_113 : decode cX4_init 113 = .ok (.new 9, 3) := dk_187 0 9 (dk_at dksX4_init_4 20 rfl rfl)
theorem dX4_init_116 : decode cX4_init 116 = .ok (.dup, 1) := dk_89 (dk_at dksX4_init_4 23 rfl rfl)
theorem dX4_init_117 : decode cX4_init 117 = .ok (.bipush 16, 2) := dk_16 16 (dk_at dksX4_init_5 0 rfl rfl)
theorem dX4_init_119 : decode cX4_init 119 = .ok (.invokespecial 11, 3) := dk_183 0 11 (dk_at dksX4_init_5 2 rfl rfl)
theorem dX4_init_122 : decode cX4_init 122 = .ok (.putfield 66, 3) := dk_181 0 66 (dk_at dksX4_init_5 5 rfl rfl)
theorem dX4_init_125 : decode cX4_init 125 = .ok (.aload_n 0, 1) := dk_42 (dk_at dksX4_init_5 8 rfl rfl)
theorem dX4_init_126 : decode cX4_init 126 = .ok (.bipush 16, 2) := dk_16 16 (dk_at dksX4_init_5 9 rfl rfl)
theorem dX4_init_128 : decode cX4_init 128 = .ok (.newarray .int, 2) := dk_188_10 (dk_at dksX4_init_5 11 rfl rfl)
theorem dX4_init_130 : decode cX4_init 130 = .ok (.putfield 69, 3) := dk_181 0 69 (dk_at dksX4_init_5 13 rfl rfl)
theorem dX4_init_133 : decode cX4_init 133 = .ok (.iconst 0, 1) := dk_3 (dk_at dksX4_init_5 16 rfl rfl)
theorem dX4_init_134 : decode cX4_init 134 = .ok (.istore_n 1, 1) := dk_60 (dk_at dksX4_init_5 17 rfl rfl)
theorem dX4_init_135 : decode cX4_init 135 = .ok (.iload_n 1, 1) := dk_27 (dk_at dksX4_init_5 18 rfl rfl)
theorem dX4_init_136 : decode cX4_init 136 = .ok (.bipush 16, 2) := dk_16 16 (dk_at dksX4_init_5 19 rfl rfl)
theorem dX4_init_138 : decode cX4_init 138 = .ok (.if_icmp .ge 27, 3) := dk_162 0 27 (dk_at dksX4_init_5 21 rfl rfl)
theorem dX4_init_141 : decode cX4_init 141 = .ok (.aload_n 0, 1) := dk_42 (dk_at dksX4_init_6 0 rfl rfl)
theorem dX4_init_142 : decode cX4_init 142 = .ok (.getfield 66, 3) := dk_180 0 66 (dk_at dksX4_init_6 1 rfl rfl)
theorem dX4_init_145 : decode cX4_init 145 = .ok (.new 73, 3) := dk_187 0 73 (dk_at dksX4_init_6 4 rfl rfl)
theorem dX4_init_148 : decode cX4_init 148 = .ok (.dup, 1) := dk_89 (dk_at dksX4_init_6 7 rfl rfl)
theorem dX4_init_149 : decode cX4_init 149 = .ok (.iload_n 1, 1) := dk_27 (dk_at dksX4_init_6 8 rfl rfl)
theorem dX4_init_150 : decode cX4_init 150 = .ok (.invokespecial 75, 3) := dk_183 0 75 (dk_at dksX4_init_6 9 rfl rfl)
theorem dX4_init_153 : decode cX4_init 153 = .ok (.invokeinterface 76 2, 5) := by decide +kernel
theorem dX4_init_158 : decode cX4_init 158 = .ok (.pop, 1) := dk_87 (dk_at dksX4_init_6 17 rfl rfl)
theorem dX4_init_159 : decode cX4_init 159 = .ok (.iinc 1 1, 3) := dk_132 1 1 (dk_at dksX4_init_6 18 rfl rfl)
theorem dX4_init_162 : decode cX4_init 162 = .ok (.goto (-27), 3) := dk_167 255 229 (dk_at dksX4_init_6 21 rfl rfl)
theorem dX4_init_165 : decode cX4_init 165 = .ok (.return_, 1) := dk_177 (dk_at dksX4_init_7 0 rfl rfl)
abbrev cX4_lambda_new_0 : ByteArray := prog_15_method_8_code
def yX4_lambda_new_0 : MethodName := ⟨RX4, "lambda$new$0", "(I)Z"⟩
theorem dX4_lambda_new_0_0 : decode cX4_lambda_new_0 0 = .ok (.iconst 1, 1) := by decide +kernel
theorem dX4_lambda_new_0_1 : decode cX4_lambda_new_0 1 = .ok (.ireturn, 1) := by decide +kernel
abbrev cX4_isLicensed : ByteArray := prog_15_method_2_code
def yX4_isLicensed : MethodName := ⟨RX4, "isLicensed", "(I)Z"⟩
def dkwX4_isLicensed_0 : List UInt8 := [42, 180, 0, 23, 27, 185, 0, 82, 2, 0, 192, 0, 86, 182, 0, 88, 172]
abbrev dktX4_isLicensed_0 : List UInt8 := dkwX4_isLicensed_0 ++ []
theorem dksX4_isLicensed_0 : cX4_isLicensed.data.toList.drop 0 = dktX4_isLicensed_0 := by decide +kernel
theorem dX4_isLicensed_0 : decode cX4_isLicensed 0 = .ok (.aload_n 0, 1) := dk_42 (dk_at dksX4_isLicensed_0 0 rfl rfl)
theorem dX4_isLicensed_1 : decode cX4_isLicensed 1 = .ok (.getfield 23, 3) := dk_180 0 23 (dk_at dksX4_isLicensed_0 1 rfl rfl)
theorem dX4_isLicensed_4 : decode cX4_isLicensed 4 = .ok (.iload_n 1, 1) := dk_27 (dk_at dksX4_isLicensed_0 4 rfl rfl)
theorem dX4_isLicensed_5 : decode cX4_isLicensed 5 = .ok (.invokeinterface 82 2, 5) := by decide +kernel
theorem dX4_isLicensed_10 : decode cX4_isLicensed 10 = .ok (.checkcast 86, 3) := dk_192 0 86 (dk_at dksX4_isLicensed_0 10 rfl rfl)
theorem dX4_isLicensed_13 : decode cX4_isLicensed 13 = .ok (.invokevirtual 88, 3) := dk_182 0 88 (dk_at dksX4_isLicensed_0 13 rfl rfl)
theorem dX4_isLicensed_16 : decode cX4_isLicensed 16 = .ok (.ireturn, 1) := dk_172 (dk_at dksX4_isLicensed_0 16 rfl rfl)
abbrev cX4_lambda_new_1 : ByteArray := prog_15_method_7_code
def yX4_lambda_new_1 : MethodName := ⟨RX4, "lambda$new$1", "(I)Z"⟩
def dkwX4_lambda_new_1_0 : List UInt8 := [42, 27, 182, 0, 136, 154, 0, 7, 4, 167, 0, 4, 3, 172]
abbrev dktX4_lambda_new_1_0 : List UInt8 := dkwX4_lambda_new_1_0 ++ []
theorem dksX4_lambda_new_1_0 : cX4_lambda_new_1.data.toList.drop 0 = dktX4_lambda_new_1_0 := by decide +kernel
theorem dX4_lambda_new_1_0 : decode cX4_lambda_new_1 0 = .ok (.aload_n 0, 1) := dk_42 (dk_at dksX4_lambda_new_1_0 0 rfl rfl)
theorem dX4_lambda_new_1_1 : decode cX4_lambda_new_1 1 = .ok (.iload_n 1, 1) := dk_27 (dk_at dksX4_lambda_new_1_0 1 rfl rfl)
theorem dX4_lambda_new_1_2 : decode cX4_lambda_new_1 2 = .ok (.invokevirtual 136, 3) := dk_182 0 136 (dk_at dksX4_lambda_new_1_0 2 rfl rfl)
theorem dX4_lambda_new_1_5 : decode cX4_lambda_new_1 5 = .ok (.ifCond .ne 7, 3) := dk_154 0 7 (dk_at dksX4_lambda_new_1_0 5 rfl rfl)
theorem dX4_lambda_new_1_8 : decode cX4_lambda_new_1 8 = .ok (.iconst 1, 1) := dk_4 (dk_at dksX4_lambda_new_1_0 8 rfl rfl)
theorem dX4_lambda_new_1_9 : decode cX4_lambda_new_1 9 = .ok (.goto 4, 3) := dk_167 0 4 (dk_at dksX4_lambda_new_1_0 9 rfl rfl)
theorem dX4_lambda_new_1_12 : decode cX4_lambda_new_1 12 = .ok (.iconst 0, 1) := dk_3 (dk_at dksX4_lambda_new_1_0 12 rfl rfl)
theorem dX4_lambda_new_1_13 : decode cX4_lambda_new_1 13 = .ok (.ireturn, 1) := dk_172 (dk_at dksX4_lambda_new_1_0 13 rfl rfl)
abbrev cX4_add : ByteArray := prog_15_method_4_code
def yX4_add : MethodName := ⟨RX4, "add", "(LSpectrumAccess$Licence;)V"⟩
def dkwX4_add_3 : List UInt8 := [167, 255, 199, 43, 28, 42, 180, 0, 102, 182, 0, 115, 42, 180, 0, 20, 43, 185, 0, 76, 2, 0, 87, 177]
abbrev dktX4_add_3 : List UInt8 := dkwX4_add_3 ++ []
def dkwX4_add_2 : List UInt8 := [180, 0, 20, 29, 185, 0, 82, 2, 0, 192, 0, 112, 180, 0, 114, 2, 130, 126, 61, 132, 3, 1]
abbrev dktX4_add_2 : List UInt8 := dkwX4_add_2 ++ dktX4_add_3
def dkwX4_add_1 : List UInt8 := [42, 180, 0, 20, 29, 185, 0, 82, 2, 0, 192, 0, 106, 43, 184, 0, 108, 153, 0, 24, 28, 42]
abbrev dktX4_add_1 : List UInt8 := dkwX4_add_1 ++ dktX4_add_2
def dkwX4_add_0 : List UInt8 := [4, 42, 180, 0, 102, 120, 4, 100, 61, 3, 62, 29, 42, 180, 0, 20, 185, 0, 92, 1, 0, 162, 0, 50]
abbrev dktX4_add_0 : List UInt8 := dkwX4_add_0 ++ dktX4_add_1
theorem dksX4_add_0 : cX4_add.data.toList.drop 0 = dktX4_add_0 := by decide +kernel
theorem dksX4_add_1 : cX4_add.data.toList.drop 24 = dktX4_add_1 := dk_seg dksX4_add_0 24 rfl rfl
theorem dksX4_add_2 : cX4_add.data.toList.drop 46 = dktX4_add_2 := dk_seg dksX4_add_1 22 rfl rfl
theorem dksX4_add_3 : cX4_add.data.toList.drop 68 = dktX4_add_3 := dk_seg dksX4_add_2 22 rfl rfl
theorem dX4_add_0 : decode cX4_add 0 = .ok (.iconst 1, 1) := dk_4 (dk_at dksX4_add_0 0 rfl rfl)
theorem dX4_add_1 : decode cX4_add 1 = .ok (.aload_n 0, 1) := dk_42 (dk_at dksX4_add_0 1 rfl rfl)
theorem dX4_add_2 : decode cX4_add 2 = .ok (.getfield 102, 3) := dk_180 0 102 (dk_at dksX4_add_0 2 rfl rfl)
theorem dX4_add_5 : decode cX4_add 5 = .ok (.ishl, 1) := dk_120 (dk_at dksX4_add_0 5 rfl rfl)
theorem dX4_add_6 : decode cX4_add 6 = .ok (.iconst 1, 1) := dk_4 (dk_at dksX4_add_0 6 rfl rfl)
theorem dX4_add_7 : decode cX4_add 7 = .ok (.isub, 1) := dk_100 (dk_at dksX4_add_0 7 rfl rfl)
theorem dX4_add_8 : decode cX4_add 8 = .ok (.istore_n 2, 1) := dk_61 (dk_at dksX4_add_0 8 rfl rfl)
theorem dX4_add_9 : decode cX4_add 9 = .ok (.iconst 0, 1) := dk_3 (dk_at dksX4_add_0 9 rfl rfl)
theorem dX4_add_10 : decode cX4_add 10 = .ok (.istore_n 3, 1) := dk_62 (dk_at dksX4_add_0 10 rfl rfl)
theorem dX4_add_11 : decode cX4_add 11 = .ok (.iload_n 3, 1) := dk_29 (dk_at dksX4_add_0 11 rfl rfl)
theorem dX4_add_12 : decode cX4_add 12 = .ok (.aload_n 0, 1) := dk_42 (dk_at dksX4_add_0 12 rfl rfl)
theorem dX4_add_13 : decode cX4_add 13 = .ok (.getfield 20, 3) := dk_180 0 20 (dk_at dksX4_add_0 13 rfl rfl)
theorem dX4_add_16 : decode cX4_add 16 = .ok (.invokeinterface 92 1, 5) := by decide +kernel
theorem dX4_add_21 : decode cX4_add 21 = .ok (.if_icmp .ge 50, 3) := dk_162 0 50 (dk_at dksX4_add_0 21 rfl rfl)
theorem dX4_add_24 : decode cX4_add 24 = .ok (.aload_n 0, 1) := dk_42 (dk_at dksX4_add_1 0 rfl rfl)
theorem dX4_add_25 : decode cX4_add 25 = .ok (.getfield 20, 3) := dk_180 0 20 (dk_at dksX4_add_1 1 rfl rfl)
theorem dX4_add_28 : decode cX4_add 28 = .ok (.iload_n 3, 1) := dk_29 (dk_at dksX4_add_1 4 rfl rfl)
theorem dX4_add_29 : decode cX4_add 29 = .ok (.invokeinterface 82 2, 5) := by decide +kernel
theorem dX4_add_34 : decode cX4_add 34 = .ok (.checkcast 106, 3) := dk_192 0 106 (dk_at dksX4_add_1 10 rfl rfl)
theorem dX4_add_37 : decode cX4_add 37 = .ok (.aload_n 1, 1) := dk_43 (dk_at dksX4_add_1 13 rfl rfl)
theorem dX4_add_38 : decode cX4_add 38 = .ok (.invokestatic 108, 3) := dk_184 0 108 (dk_at dksX4_add_1 14 rfl rfl)
theorem dX4_add_41 : decode cX4_add 41 = .ok (.ifCond .eq 24, 3) := dk_153 0 24 (dk_at dksX4_add_1 17 rfl rfl)
theorem dX4_add_44 : decode cX4_add 44 = .ok (.iload_n 2, 1) := dk_28 (dk_at dksX4_add_1 20 rfl rfl)
theorem dX4_add_45 : decode cX4_add 45 = .ok (.aload_n 0, 1) := dk_42 (dk_at dksX4_add_1 21 rfl rfl)
theorem dX4_add_46 : decode cX4_add 46 = .ok (.getfield 20, 3) := dk_180 0 20 (dk_at dksX4_add_2 0 rfl rfl)
theorem dX4_add_49 : decode cX4_add 49 = .ok (.iload_n 3, 1) := dk_29 (dk_at dksX4_add_2 3 rfl rfl)
theorem dX4_add_50 : decode cX4_add 50 = .ok (.invokeinterface 82 2, 5) := by decide +kernel
theorem dX4_add_55 : decode cX4_add 55 = .ok (.checkcast 112, 3) := dk_192 0 112 (dk_at dksX4_add_2 9 rfl rfl)
theorem dX4_add_58 : decode cX4_add 58 = .ok (.getfield 114, 3) := dk_180 0 114 (dk_at dksX4_add_2 12 rfl rfl)
theorem dX4_add_61 : decode cX4_add 61 = .ok (.iconst (-1), 1) := dk_2 (dk_at dksX4_add_2 15 rfl rfl)
theorem dX4_add_62 : decode cX4_add 62 = .ok (.ixor, 1) := dk_130 (dk_at dksX4_add_2 16 rfl rfl)
theorem dX4_add_63 : decode cX4_add 63 = .ok (.iand, 1) := dk_126 (dk_at dksX4_add_2 17 rfl rfl)
theorem dX4_add_64 : decode cX4_add 64 = .ok (.istore_n 2, 1) := dk_61 (dk_at dksX4_add_2 18 rfl rfl)
theorem dX4_add_65 : decode cX4_add 65 = .ok (.iinc 3 1, 3) := dk_132 3 1 (dk_at dksX4_add_2 19 rfl rfl)
theorem dX4_add_68 : decode cX4_add 68 = .ok (.goto (-57), 3) := dk_167 255 199 (dk_at dksX4_add_3 0 rfl rfl)
theorem dX4_add_71 : decode cX4_add 71 = .ok (.aload_n 1, 1) := dk_43 (dk_at dksX4_add_3 3 rfl rfl)
theorem dX4_add_72 : decode cX4_add 72 = .ok (.iload_n 2, 1) := dk_28 (dk_at dksX4_add_3 4 rfl rfl)
theorem dX4_add_73 : decode cX4_add 73 = .ok (.aload_n 0, 1) := dk_42 (dk_at dksX4_add_3 5 rfl rfl)
theorem dX4_add_74 : decode cX4_add 74 = .ok (.getfield 102, 3) := dk_180 0 102 (dk_at dksX4_add_3 6 rfl rfl)
theorem dX4_add_77 : decode cX4_add 77 = .ok (.invokevirtual 115, 3) := dk_182 0 115 (dk_at dksX4_add_3 9 rfl rfl)
theorem dX4_add_80 : decode cX4_add 80 = .ok (.aload_n 0, 1) := dk_42 (dk_at dksX4_add_3 12 rfl rfl)
theorem dX4_add_81 : decode cX4_add 81 = .ok (.getfield 20, 3) := dk_180 0 20 (dk_at dksX4_add_3 13 rfl rfl)
theorem dX4_add_84 : decode cX4_add 84 = .ok (.aload_n 1, 1) := dk_43 (dk_at dksX4_add_3 16 rfl rfl)
theorem dX4_add_85 : decode cX4_add 85 = .ok (.invokeinterface 76 2, 5) := by decide +kernel
theorem dX4_add_90 : decode cX4_add 90 = .ok (.pop, 1) := dk_87 (dk_at dksX4_add_3 22 rfl rfl)
theorem dX4_add_91 : decode cX4_add 91 = .ok (.return_, 1) := dk_177 (dk_at dksX4_add_3 23 rfl rfl)
abbrev cX4_isSensed : ByteArray := prog_15_method_3_code
def yX4_isSensed : MethodName := ⟨RX4, "isSensed", "(LSpectrumAccess$Incumbent;)Z"⟩
def dkwX4_isSensed_2 : List UInt8 := [172]
abbrev dktX4_isSensed_2 : List UInt8 := dkwX4_isSensed_2 ++ []
def dkwX4_isSensed_1 : List UInt8 := [185, 0, 82, 2, 0, 192, 0, 96, 43, 182, 0, 98, 153, 0, 5, 4, 172, 132, 2, 1, 167, 255, 218, 3]
abbrev dktX4_isSensed_1 : List UInt8 := dkwX4_isSensed_1 ++ dktX4_isSensed_2
def dkwX4_isSensed_0 : List UInt8 := [3, 61, 28, 42, 180, 0, 14, 185, 0, 92, 1, 0, 162, 0, 31, 42, 180, 0, 14, 28]
abbrev dktX4_isSensed_0 : List UInt8 := dkwX4_isSensed_0 ++ dktX4_isSensed_1
theorem dksX4_isSensed_0 : cX4_isSensed.data.toList.drop 0 = dktX4_isSensed_0 := by decide +kernel
theorem dksX4_isSensed_1 : cX4_isSensed.data.toList.drop 20 = dktX4_isSensed_1 := dk_seg dksX4_isSensed_0 20 rfl rfl
theorem dksX4_isSensed_2 : cX4_isSensed.data.toList.drop 44 = dktX4_isSensed_2 := dk_seg dksX4_isSensed_1 24 rfl rfl
theorem dX4_isSensed_0 : decode cX4_isSensed 0 = .ok (.iconst 0, 1) := dk_3 (dk_at dksX4_isSensed_0 0 rfl rfl)
theorem dX4_isSensed_1 : decode cX4_isSensed 1 = .ok (.istore_n 2, 1) := dk_61 (dk_at dksX4_isSensed_0 1 rfl rfl)
theorem dX4_isSensed_2 : decode cX4_isSensed 2 = .ok (.iload_n 2, 1) := dk_28 (dk_at dksX4_isSensed_0 2 rfl rfl)
theorem dX4_isSensed_3 : decode cX4_isSensed 3 = .ok (.aload_n 0, 1) := dk_42 (dk_at dksX4_isSensed_0 3 rfl rfl)
theorem dX4_isSensed_4 : decode cX4_isSensed 4 = .ok (.getfield 14, 3) := dk_180 0 14 (dk_at dksX4_isSensed_0 4 rfl rfl)
theorem dX4_isSensed_7 : decode cX4_isSensed 7 = .ok (.invokeinterface 92 1, 5) := by decide +kernel
theorem dX4_isSensed_12 : decode cX4_isSensed 12 = .ok (.if_icmp .ge 31, 3) := dk_162 0 31 (dk_at dksX4_isSensed_0 12 rfl rfl)
theorem dX4_isSensed_15 : decode cX4_isSensed 15 = .ok (.aload_n 0, 1) := dk_42 (dk_at dksX4_isSensed_0 15 rfl rfl)
theorem dX4_isSensed_16 : decode cX4_isSensed 16 = .ok (.getfield 14, 3) := dk_180 0 14 (dk_at dksX4_isSensed_0 16 rfl rfl)
theorem dX4_isSensed_19 : decode cX4_isSensed 19 = .ok (.iload_n 2, 1) := dk_28 (dk_at dksX4_isSensed_0 19 rfl rfl)
theorem dX4_isSensed_20 : decode cX4_isSensed 20 = .ok (.invokeinterface 82 2, 5) := by decide +kernel
theorem dX4_isSensed_25 : decode cX4_isSensed 25 = .ok (.checkcast 96, 3) := dk_192 0 96 (dk_at dksX4_isSensed_1 5 rfl rfl)
theorem dX4_isSensed_28 : decode cX4_isSensed 28 = .ok (.aload_n 1, 1) := dk_43 (dk_at dksX4_isSensed_1 8 rfl rfl)
theorem dX4_isSensed_29 : decode cX4_isSensed 29 = .ok (.invokevirtual 98, 3) := dk_182 0 98 (dk_at dksX4_isSensed_1 9 rfl rfl)
theorem dX4_isSensed_32 : decode cX4_isSensed 32 = .ok (.ifCond .eq 5, 3) := dk_153 0 5 (dk_at dksX4_isSensed_1 12 rfl rfl)
theorem dX4_isSensed_35 : decode cX4_isSensed 35 = .ok (.iconst 1, 1) := dk_4 (dk_at dksX4_isSensed_1 15 rfl rfl)
theorem dX4_isSensed_36 : decode cX4_isSensed 36 = .ok (.ireturn, 1) := dk_172 (dk_at dksX4_isSensed_1 16 rfl rfl)
theorem dX4_isSensed_37 : decode cX4_isSensed 37 = .ok (.iinc 2 1, 3) := dk_132 2 1 (dk_at dksX4_isSensed_1 17 rfl rfl)
theorem dX4_isSensed_40 : decode cX4_isSensed 40 = .ok (.goto (-38), 3) := dk_167 255 218 (dk_at dksX4_isSensed_1 20 rfl rfl)
theorem dX4_isSensed_43 : decode cX4_isSensed 43 = .ok (.iconst 0, 1) := dk_3 (dk_at dksX4_isSensed_1 23 rfl rfl)
theorem dX4_isSensed_44 : decode cX4_isSensed 44 = .ok (.ireturn, 1) := dk_172 (dk_at dksX4_isSensed_2 0 rfl rfl)
abbrev cX4_isPosition : ByteArray := prog_15_method_6_code
def yX4_isPosition : MethodName := ⟨RX4, "isPosition", "(II)Z"⟩
def dkwX4_isPosition_1 : List UInt8 := [100, 133, 184, 0, 129, 153, 0, 7, 4, 167, 0, 4, 3, 172]
abbrev dktX4_isPosition_1 : List UInt8 := dkwX4_isPosition_1 ++ []
def dkwX4_isPosition_0 : List UInt8 := [27, 133, 9, 42, 180, 0, 126, 4, 100, 133, 184, 0, 129, 153, 0, 23, 28, 133, 9, 42, 180, 0, 133, 4]
abbrev dktX4_isPosition_0 : List UInt8 := dkwX4_isPosition_0 ++ dktX4_isPosition_1
theorem dksX4_isPosition_0 : cX4_isPosition.data.toList.drop 0 = dktX4_isPosition_0 := by decide +kernel
theorem dksX4_isPosition_1 : cX4_isPosition.data.toList.drop 24 = dktX4_isPosition_1 := dk_seg dksX4_isPosition_0 24 rfl rfl
theorem dX4_isPosition_0 : decode cX4_isPosition 0 = .ok (.iload_n 1, 1) := dk_27 (dk_at dksX4_isPosition_0 0 rfl rfl)
theorem dX4_isPosition_1 : decode cX4_isPosition 1 = .ok (.i2l, 1) := dk_133 (dk_at dksX4_isPosition_0 1 rfl rfl)
theorem dX4_isPosition_2 : decode cX4_isPosition 2 = .ok (.lconst 0, 1) := dk_9 (dk_at dksX4_isPosition_0 2 rfl rfl)
theorem dX4_isPosition_3 : decode cX4_isPosition 3 = .ok (.aload_n 0, 1) := dk_42 (dk_at dksX4_isPosition_0 3 rfl rfl)
theorem dX4_isPosition_4 : decode cX4_isPosition 4 = .ok (.getfield 126, 3) := dk_180 0 126 (dk_at dksX4_isPosition_0 4 rfl rfl)
theorem dX4_isPosition_7 : decode cX4_isPosition 7 = .ok (.iconst 1, 1) := dk_4 (dk_at dksX4_isPosition_0 7 rfl rfl)
theorem dX4_isPosition_8 : decode cX4_isPosition 8 = .ok (.isub, 1) := dk_100 (dk_at dksX4_isPosition_0 8 rfl rfl)
theorem dX4_isPosition_9 : decode cX4_isPosition 9 = .ok (.i2l, 1) := dk_133 (dk_at dksX4_isPosition_0 9 rfl rfl)
theorem dX4_isPosition_10 : decode cX4_isPosition 10 = .ok (.invokestatic 129, 3) := dk_184 0 129 (dk_at dksX4_isPosition_0 10 rfl rfl)
theorem dX4_isPosition_13 : decode cX4_isPosition 13 = .ok (.ifCond .eq 23, 3) := dk_153 0 23 (dk_at dksX4_isPosition_0 13 rfl rfl)
theorem dX4_isPosition_16 : decode cX4_isPosition 16 = .ok (.iload_n 2, 1) := dk_28 (dk_at dksX4_isPosition_0 16 rfl rfl)
theorem dX4_isPosition_17 : decode cX4_isPosition 17 = .ok (.i2l, 1) := dk_133 (dk_at dksX4_isPosition_0 17 rfl rfl)
theorem dX4_isPosition_18 : decode cX4_isPosition 18 = .ok (.lconst 0, 1) := dk_9 (dk_at dksX4_isPosition_0 18 rfl rfl)
theorem dX4_isPosition_19 : decode cX4_isPosition 19 = .ok (.aload_n 0, 1) := dk_42 (dk_at dksX4_isPosition_0 19 rfl rfl)
theorem dX4_isPosition_20 : decode cX4_isPosition 20 = .ok (.getfield 133, 3) := dk_180 0 133 (dk_at dksX4_isPosition_0 20 rfl rfl)
theorem dX4_isPosition_23 : decode cX4_isPosition 23 = .ok (.iconst 1, 1) := dk_4 (dk_at dksX4_isPosition_0 23 rfl rfl)
theorem dX4_isPosition_24 : decode cX4_isPosition 24 = .ok (.isub, 1) := dk_100 (dk_at dksX4_isPosition_1 0 rfl rfl)
theorem dX4_isPosition_25 : decode cX4_isPosition 25 = .ok (.i2l, 1) := dk_133 (dk_at dksX4_isPosition_1 1 rfl rfl)
theorem dX4_isPosition_26 : decode cX4_isPosition 26 = .ok (.invokestatic 129, 3) := dk_184 0 129 (dk_at dksX4_isPosition_1 2 rfl rfl)
theorem dX4_isPosition_29 : decode cX4_isPosition 29 = .ok (.ifCond .eq 7, 3) := dk_153 0 7 (dk_at dksX4_isPosition_1 5 rfl rfl)
theorem dX4_isPosition_32 : decode cX4_isPosition 32 = .ok (.iconst 1, 1) := dk_4 (dk_at dksX4_isPosition_1 8 rfl rfl)
theorem dX4_isPosition_33 : decode cX4_isPosition 33 = .ok (.goto 4, 3) := dk_167 0 4 (dk_at dksX4_isPosition_1 9 rfl rfl)
theorem dX4_isPosition_36 : decode cX4_isPosition 36 = .ok (.iconst 0, 1) := dk_3 (dk_at dksX4_isPosition_1 12 rfl rfl)
theorem dX4_isPosition_37 : decode cX4_isPosition 37 = .ok (.ireturn, 1) := dk_172 (dk_at dksX4_isPosition_1 13 rfl rfl)
abbrev cX4_licenceAt : ByteArray := prog_15_method_5_code
def yX4_licenceAt : MethodName := ⟨RX4, "licenceAt", "(III)I"⟩
def dkwX4_licenceAt_3 : List UInt8 := [167, 255, 193, 2, 172]
abbrev dktX4_licenceAt_3 : List UInt8 := dkwX4_licenceAt_3 ++ []
def dkwX4_licenceAt_2 : List UInt8 := [185, 0, 82, 2, 0, 192, 0, 112, 27, 28, 182, 0, 122, 153, 0, 6, 21, 4, 172, 132, 4, 1]
abbrev dktX4_licenceAt_2 : List UInt8 := dkwX4_licenceAt_2 ++ dktX4_licenceAt_3
def dkwX4_licenceAt_1 : List UInt8 := [185, 0, 82, 2, 0, 192, 0, 112, 29, 182, 0, 119, 153, 0, 28, 42, 180, 0, 20, 21, 4]
abbrev dktX4_licenceAt_1 : List UInt8 := dkwX4_licenceAt_1 ++ dktX4_licenceAt_2
def dkwX4_licenceAt_0 : List UInt8 := [3, 54, 4, 21, 4, 42, 180, 0, 20, 185, 0, 92, 1, 0, 162, 0, 55, 42, 180, 0, 20, 21, 4]
abbrev dktX4_licenceAt_0 : List UInt8 := dkwX4_licenceAt_0 ++ dktX4_licenceAt_1
theorem dksX4_licenceAt_0 : cX4_licenceAt.data.toList.drop 0 = dktX4_licenceAt_0 := by decide +kernel
theorem dksX4_licenceAt_1 : cX4_licenceAt.data.toList.drop 23 = dktX4_licenceAt_1 := dk_seg dksX4_licenceAt_0 23 rfl rfl
theorem dksX4_licenceAt_2 : cX4_licenceAt.data.toList.drop 44 = dktX4_licenceAt_2 := dk_seg dksX4_licenceAt_1 21 rfl rfl
theorem dksX4_licenceAt_3 : cX4_licenceAt.data.toList.drop 66 = dktX4_licenceAt_3 := dk_seg dksX4_licenceAt_2 22 rfl rfl
theorem dX4_licenceAt_0 : decode cX4_licenceAt 0 = .ok (.iconst 0, 1) := dk_3 (dk_at dksX4_licenceAt_0 0 rfl rfl)
theorem dX4_licenceAt_1 : decode cX4_licenceAt 1 = .ok (.istore 4, 2) := dk_54 4 (dk_at dksX4_licenceAt_0 1 rfl rfl)
theorem dX4_licenceAt_3 : decode cX4_licenceAt 3 = .ok (.iload 4, 2) := dk_21 4 (dk_at dksX4_licenceAt_0 3 rfl rfl)
theorem dX4_licenceAt_5 : decode cX4_licenceAt 5 = .ok (.aload_n 0, 1) := dk_42 (dk_at dksX4_licenceAt_0 5 rfl rfl)
theorem dX4_licenceAt_6 : decode cX4_licenceAt 6 = .ok (.getfield 20, 3) := dk_180 0 20 (dk_at dksX4_licenceAt_0 6 rfl rfl)
theorem dX4_licenceAt_9 : decode cX4_licenceAt 9 = .ok (.invokeinterface 92 1, 5) := by decide +kernel
theorem dX4_licenceAt_14 : decode cX4_licenceAt 14 = .ok (.if_icmp .ge 55, 3) := dk_162 0 55 (dk_at dksX4_licenceAt_0 14 rfl rfl)
theorem dX4_licenceAt_17 : decode cX4_licenceAt 17 = .ok (.aload_n 0, 1) := dk_42 (dk_at dksX4_licenceAt_0 17 rfl rfl)
theorem dX4_licenceAt_18 : decode cX4_licenceAt 18 = .ok (.getfield 20, 3) := dk_180 0 20 (dk_at dksX4_licenceAt_0 18 rfl rfl)
theorem dX4_licenceAt_21 : decode cX4_licenceAt 21 = .ok (.iload 4, 2) := dk_21 4 (dk_at dksX4_licenceAt_0 21 rfl rfl)
theorem dX4_licenceAt_23 : decode cX4_licenceAt 23 = .ok (.invokeinterface 82 2, 5) := by decide +kernel
theorem dX4_licenceAt_28 : decode cX4_licenceAt 28 = .ok (.checkcast 112, 3) := dk_192 0 112 (dk_at dksX4_licenceAt_1 5 rfl rfl)
theorem dX4_licenceAt_31 : decode cX4_licenceAt 31 = .ok (.iload_n 3, 1) := dk_29 (dk_at dksX4_licenceAt_1 8 rfl rfl)
theorem dX4_licenceAt_32 : decode cX4_licenceAt 32 = .ok (.invokevirtual 119, 3) := dk_182 0 119 (dk_at dksX4_licenceAt_1 9 rfl rfl)
theorem dX4_licenceAt_35 : decode cX4_licenceAt 35 = .ok (.ifCond .eq 28, 3) := dk_153 0 28 (dk_at dksX4_licenceAt_1 12 rfl rfl)
theorem dX4_licenceAt_38 : decode cX4_licenceAt 38 = .ok (.aload_n 0, 1) := dk_42 (dk_at dksX4_licenceAt_1 15 rfl rfl)
theorem dX4_licenceAt_39 : decode cX4_licenceAt 39 = .ok (.getfield 20, 3) := dk_180 0 20 (dk_at dksX4_licenceAt_1 16 rfl rfl)
theorem dX4_licenceAt_42 : decode cX4_licenceAt 42 = .ok (.iload 4, 2) := dk_21 4 (dk_at dksX4_licenceAt_1 19 rfl rfl)
theorem dX4_licenceAt_44 : decode cX4_licenceAt 44 = .ok (.invokeinterface 82 2, 5) := by decide +kernel
theorem dX4_licenceAt_49 : decode cX4_licenceAt 49 = .ok (.checkcast 112, 3) := dk_192 0 112 (dk_at dksX4_licenceAt_2 5 rfl rfl)
theorem dX4_licenceAt_52 : decode cX4_licenceAt 52 = .ok (.iload_n 1, 1) := dk_27 (dk_at dksX4_licenceAt_2 8 rfl rfl)
theorem dX4_licenceAt_53 : decode cX4_licenceAt 53 = .ok (.iload_n 2, 1) := dk_28 (dk_at dksX4_licenceAt_2 9 rfl rfl)
theorem dX4_licenceAt_54 : decode cX4_licenceAt 54 = .ok (.invokevirtual 122, 3) := dk_182 0 122 (dk_at dksX4_licenceAt_2 10 rfl rfl)
theorem dX4_licenceAt_57 : decode cX4_licenceAt 57 = .ok (.ifCond .eq 6, 3) := dk_153 0 6 (dk_at dksX4_licenceAt_2 13 rfl rfl)
theorem dX4_licenceAt_60 : decode cX4_licenceAt 60 = .ok (.iload 4, 2) := dk_21 4 (dk_at dksX4_licenceAt_2 16 rfl rfl)
theorem dX4_licenceAt_62 : decode cX4_licenceAt 62 = .ok (.ireturn, 1) := dk_172 (dk_at dksX4_licenceAt_2 18 rfl rfl)
theorem dX4_licenceAt_63 : decode cX4_licenceAt 63 = .ok (.iinc 4 1, 3) := dk_132 4 1 (dk_at dksX4_licenceAt_2 19 rfl rfl)
theorem dX4_licenceAt_66 : decode cX4_licenceAt 66 = .ok (.goto (-63), 3) := dk_167 255 193 (dk_at dksX4_licenceAt_3 0 rfl rfl)
theorem dX4_licenceAt_69 : decode cX4_licenceAt 69 = .ok (.iconst (-1), 1) := dk_2 (dk_at dksX4_licenceAt_3 3 rfl rfl)
theorem dX4_licenceAt_70 : decode cX4_licenceAt 70 = .ok (.ireturn, 1) := dk_172 (dk_at dksX4_licenceAt_3 4 rfl rfl)
theorem q155 : (Jvm.Cond.initialized "SpectrumAccess$Region") ∈ lw_all := lw_g (lw_at lw_m1 16 rfl) rfl
theorem q485 : (Jvm.Cond.instantiable "SpectrumAccess$Region" (19 : Nat)) ∈ lw_all := lw_g (lw_at lw_m2 106 rfl) rfl
theorem q487 : (Jvm.Cond.instanceMethod ({ cls := "SpectrumAccess$Region", name := "<init>", desc := "()V" } : Jvm.MethodName)) ∈ lw_all := lw_g (lw_at lw_m2 108 rfl) rfl
theorem q488 : (Jvm.Cond.code ({ cls := "SpectrumAccess$Region", name := "<init>", desc := "()V" } : Jvm.MethodName) prog_15_method_1_code (2 : Nat) (Option.none : Option Jvm.ClassFile.FieldType)) ∈ lw_all := lw_g (lw_at lw_m2 109 rfl) rfl
theorem q489 : (Jvm.Cond.methodLink "SpectrumAccess$Region" (3 : Nat) ({ cls := "java/lang/Object", name := "<init>", desc := "()V" } : Jvm.MethodName)) ∈ lw_all := lw_g (lw_at lw_m2 110 rfl) rfl
theorem q490 : (Jvm.Cond.classLink "SpectrumAccess$Region" (9 : Nat) "java/util/ArrayList") ∈ lw_all := lw_g (lw_at lw_m2 111 rfl) rfl
theorem q491 : (Jvm.Cond.methodLink "SpectrumAccess$Region" (11 : Nat) ({ cls := "java/util/ArrayList", name := "<init>", desc := "(I)V" } : Jvm.MethodName)) ∈ lw_all := lw_g (lw_at lw_m2 112 rfl) rfl
theorem q726 : (Jvm.Cond.classLink "SpectrumAccess$Region" (29 : Nat) "SpectrumAccess$Case") ∈ lw_all := lw_g (lw_at lw_m3 107 rfl) rfl
theorem q728 : (Jvm.Cond.methodLinkNest "SpectrumAccess$Region" (31 : Nat) ({ cls := "SpectrumAccess$Case", name := "<init>", desc := "()V" } : Jvm.MethodName) "SpectrumAccess") ∈ lw_tbl := lw_at lw_m3 109 rfl
theorem q753 : (Jvm.Cond.static ({ cls := "SpectrumAccess$Region", name := "lambda$new$0", desc := "(I)Z" } : Jvm.MethodName)) ∈ lw_all := lw_g (lw_at lw_m3 134 rfl) rfl
theorem q754 : (Jvm.Cond.code ({ cls := "SpectrumAccess$Region", name := "lambda$new$0", desc := "(I)Z" } : Jvm.MethodName) prog_15_method_8_code (1 : Nat) (Option.some Jvm.ClassFile.FieldType.boolean)) ∈ lw_all := lw_g (lw_at lw_m3 135 rfl) rfl
theorem q755 : (Jvm.Cond.privateMethod ({ cls := "SpectrumAccess$Region", name := "isLicensed", desc := "(I)Z" } : Jvm.MethodName)) ∈ lw_tbl := lw_at lw_m3 136 rfl
theorem q756 : (Jvm.Cond.instanceMethod ({ cls := "SpectrumAccess$Region", name := "isLicensed", desc := "(I)Z" } : Jvm.MethodName)) ∈ lw_all := lw_g (lw_at lw_m3 137 rfl) rfl
theorem q757 : (Jvm.Cond.code ({ cls := "SpectrumAccess$Region", name := "isLicensed", desc := "(I)Z" } : Jvm.MethodName) prog_15_method_2_code (2 : Nat) (Option.some Jvm.ClassFile.FieldType.boolean)) ∈ lw_all := lw_g (lw_at lw_m3 138 rfl) rfl
theorem q758 : (Jvm.Cond.interfaceEntry "SpectrumAccess$Region" (82 : Nat)) ∈ lw_tbl := lw_at lw_m3 139 rfl
theorem q759 : (Jvm.Cond.methodLink "SpectrumAccess$Region" (82 : Nat) ({ cls := "java/util/List", name := "get", desc := "(I)Ljava/lang/Object;" } : Jvm.MethodName)) ∈ lw_all := lw_g (lw_at lw_m3 140 rfl) rfl
theorem q777 : (Jvm.Cond.classLink "SpectrumAccess$Region" (86 : Nat) "SpectrumAccess$Device") ∈ lw_all := lw_g (lw_at lw_m3 158 rfl) rfl
theorem q778 : (Jvm.Cond.methodLink "SpectrumAccess$Region" (88 : Nat) ({ cls := "SpectrumAccess$Device", name := "isLicensed", desc := "()Z" } : Jvm.MethodName)) ∈ lw_all := lw_g (lw_at lw_m3 159 rfl) rfl
theorem q782 : (Jvm.Cond.privateMethod ({ cls := "SpectrumAccess$Region", name := "lambda$new$1", desc := "(I)Z" } : Jvm.MethodName)) ∈ lw_tbl := lw_at lw_m3 163 rfl
theorem q783 : (Jvm.Cond.instanceMethod ({ cls := "SpectrumAccess$Region", name := "lambda$new$1", desc := "(I)Z" } : Jvm.MethodName)) ∈ lw_all := lw_g (lw_at lw_m3 164 rfl) rfl
theorem q784 : (Jvm.Cond.code ({ cls := "SpectrumAccess$Region", name := "lambda$new$1", desc := "(I)Z" } : Jvm.MethodName) prog_15_method_7_code (2 : Nat) (Option.some Jvm.ClassFile.FieldType.boolean)) ∈ lw_all := lw_g (lw_at lw_m3 165 rfl) rfl
theorem q785 : (Jvm.Cond.methodLink "SpectrumAccess$Region" (136 : Nat) ({ cls := "SpectrumAccess$Region", name := "isLicensed", desc := "(I)Z" } : Jvm.MethodName)) ∈ lw_all := lw_g (lw_at lw_m3 166 rfl) rfl
theorem q786 : (Jvm.Cond.classLink "SpectrumAccess$Region" (54 : Nat) "java/util/PriorityQueue") ∈ lw_all := lw_g (lw_at lw_m3 167 rfl) rfl
theorem q788 : (Jvm.Cond.classLink "SpectrumAccess$Region" (56 : Nat) "SpectrumAccess$ByPriority") ∈ lw_all := lw_g (lw_at lw_m3 169 rfl) rfl
theorem q790 : (Jvm.Cond.methodLinkNest "SpectrumAccess$Region" (58 : Nat) ({ cls := "SpectrumAccess$ByPriority", name := "<init>", desc := "()V" } : Jvm.MethodName) "SpectrumAccess") ∈ lw_tbl := lw_at lw_m3 171 rfl
theorem q795 : (Jvm.Cond.methodLink "SpectrumAccess$Region" (59 : Nat) ({ cls := "java/util/PriorityQueue", name := "<init>", desc := "(ILjava/util/Comparator;)V" } : Jvm.MethodName)) ∈ lw_all := lw_g (lw_at lw_m3 176 rfl) rfl
theorem q821 : (Jvm.Cond.classLink "SpectrumAccess$Region" (73 : Nat) "SpectrumAccess$Waiting") ∈ lw_all := lw_g (lw_at lw_m3 202 rfl) rfl
theorem q823 : (Jvm.Cond.methodLink "SpectrumAccess$Region" (75 : Nat) ({ cls := "SpectrumAccess$Waiting", name := "<init>", desc := "(I)V" } : Jvm.MethodName)) ∈ lw_all := lw_g (lw_at lw_m3 204 rfl) rfl
theorem q841 : (Jvm.Cond.interfaceEntry "SpectrumAccess$Region" (76 : Nat)) ∈ lw_tbl := lw_at lw_m3 222 rfl
theorem q842 : (Jvm.Cond.methodLink "SpectrumAccess$Region" (76 : Nat) ({ cls := "java/util/List", name := "add", desc := "(Ljava/lang/Object;)Z" } : Jvm.MethodName)) ∈ lw_all := lw_g (lw_at lw_m3 223 rfl) rfl
theorem q881 : (Jvm.Cond.selects "SpectrumAccess$Region" ({ cls := "java/lang/Object", name := "getClass", desc := "()Ljava/lang/Class;" } : Jvm.MethodName) ({ cls := "java/lang/Object", name := "getClass", desc := "()Ljava/lang/Class;" } : Jvm.MethodName)) ∈ lw_all := lw_g (lw_at lw_m4 22 rfl) rfl
theorem q905 : (Jvm.Cond.fieldLink "SpectrumAccess$Region" (14 : Nat) "SpectrumAccess$Region" "sensors" "Ljava/util/List;") ∈ lw_all := lw_g (lw_at lw_m4 46 rfl) rfl
theorem q907 : (Jvm.Cond.fieldLink "SpectrumAccess$Region" (20 : Nat) "SpectrumAccess$Region" "licences" "Ljava/util/List;") ∈ lw_all := lw_g (lw_at lw_m4 48 rfl) rfl
theorem q911 : (Jvm.Cond.fieldLink "SpectrumAccess$Region" (23 : Nat) "SpectrumAccess$Region" "devices" "Ljava/util/List;") ∈ lw_all := lw_g (lw_at lw_m4 52 rfl) rfl
theorem q915 : (Jvm.Cond.fieldLink "SpectrumAccess$Region" (26 : Nat) "SpectrumAccess$Region" "denials" "Ljava/util/List;") ∈ lw_all := lw_g (lw_at lw_m4 56 rfl) rfl
theorem q919 : (Jvm.Cond.fieldLink "SpectrumAccess$Region" (32 : Nat) "SpectrumAccess$Region" "asked" "LSpectrumAccess$Case;") ∈ lw_all := lw_g (lw_at lw_m4 60 rfl) rfl
theorem q921 : (Jvm.Cond.fieldLink "SpectrumAccess$Region" (126 : Nat) "SpectrumAccess$Region" "width" "I") ∈ lw_all := lw_g (lw_at lw_m4 62 rfl) rfl
theorem q924 : (Jvm.Cond.fieldLink "SpectrumAccess$Region" (133 : Nat) "SpectrumAccess$Region" "height" "I") ∈ lw_all := lw_g (lw_at lw_m4 65 rfl) rfl
theorem q927 : (Jvm.Cond.fieldLink "SpectrumAccess$Region" (102 : Nat) "SpectrumAccess$Region" "channels" "I") ∈ lw_all := lw_g (lw_at lw_m4 68 rfl) rfl
theorem q942 : (Jvm.Cond.fieldLink "SpectrumAccess$Region" (40 : Nat) "SpectrumAccess$Region" "everyone" "LSpectrumAccess$Some;") ∈ lw_all := lw_g (lw_at lw_m4 83 rfl) rfl
theorem q945 : (Jvm.Cond.fieldLink "SpectrumAccess$Region" (47 : Nat) "SpectrumAccess$Region" "licensed" "LSpectrumAccess$Some;") ∈ lw_all := lw_g (lw_at lw_m4 86 rfl) rfl
theorem q948 : (Jvm.Cond.fieldLink "SpectrumAccess$Region" (51 : Nat) "SpectrumAccess$Region" "general" "LSpectrumAccess$Some;") ∈ lw_all := lw_g (lw_at lw_m4 89 rfl) rfl
theorem q951 : (Jvm.Cond.fieldLink "SpectrumAccess$Region" (62 : Nat) "SpectrumAccess$Region" "queue" "Ljava/util/PriorityQueue;") ∈ lw_all := lw_g (lw_at lw_m4 92 rfl) rfl
theorem q953 : (Jvm.Cond.fieldLink "SpectrumAccess$Region" (66 : Nat) "SpectrumAccess$Region" "tickets" "Ljava/util/List;") ∈ lw_all := lw_g (lw_at lw_m4 94 rfl) rfl
theorem q955 : (Jvm.Cond.fieldLink "SpectrumAccess$Region" (69 : Nat) "SpectrumAccess$Region" "order" "[I") ∈ lw_all := lw_g (lw_at lw_m4 96 rfl) rfl
theorem q958 : (Jvm.Cond.laysFinal "SpectrumAccess$Region" "SpectrumAccess$Region" "sensors" "Ljava/util/List;") ∈ lw_all := lw_g (lw_at lw_m4 99 rfl) rfl
theorem q959 : (Jvm.Cond.soleField "SpectrumAccess$Region" "sensors") ∈ lw_all := lw_g (lw_at lw_m4 100 rfl) rfl
theorem q960 : (Jvm.Cond.laysFinal "SpectrumAccess$Region" "SpectrumAccess$Region" "licences" "Ljava/util/List;") ∈ lw_all := lw_g (lw_at lw_m4 101 rfl) rfl
theorem q961 : (Jvm.Cond.soleField "SpectrumAccess$Region" "licences") ∈ lw_all := lw_g (lw_at lw_m4 102 rfl) rfl
theorem q962 : (Jvm.Cond.laysFinal "SpectrumAccess$Region" "SpectrumAccess$Region" "devices" "Ljava/util/List;") ∈ lw_all := lw_g (lw_at lw_m4 103 rfl) rfl
theorem q963 : (Jvm.Cond.soleField "SpectrumAccess$Region" "devices") ∈ lw_all := lw_g (lw_at lw_m4 104 rfl) rfl
theorem q964 : (Jvm.Cond.laysFinal "SpectrumAccess$Region" "SpectrumAccess$Region" "denials" "Ljava/util/List;") ∈ lw_all := lw_g (lw_at lw_m4 105 rfl) rfl
theorem q965 : (Jvm.Cond.soleField "SpectrumAccess$Region" "denials") ∈ lw_all := lw_g (lw_at lw_m4 106 rfl) rfl
theorem q966 : (Jvm.Cond.laysFinal "SpectrumAccess$Region" "SpectrumAccess$Region" "asked" "LSpectrumAccess$Case;") ∈ lw_all := lw_g (lw_at lw_m4 107 rfl) rfl
theorem q967 : (Jvm.Cond.soleField "SpectrumAccess$Region" "asked") ∈ lw_all := lw_g (lw_at lw_m4 108 rfl) rfl
theorem q968 : (Jvm.Cond.lays "SpectrumAccess$Region" "SpectrumAccess$Region" "width" "I") ∈ lw_all := lw_g (lw_at lw_m4 109 rfl) rfl
theorem q969 : (Jvm.Cond.soleField "SpectrumAccess$Region" "width") ∈ lw_all := lw_g (lw_at lw_m4 110 rfl) rfl
theorem q970 : (Jvm.Cond.lays "SpectrumAccess$Region" "SpectrumAccess$Region" "height" "I") ∈ lw_all := lw_g (lw_at lw_m4 111 rfl) rfl
theorem q971 : (Jvm.Cond.soleField "SpectrumAccess$Region" "height") ∈ lw_all := lw_g (lw_at lw_m4 112 rfl) rfl
theorem q972 : (Jvm.Cond.lays "SpectrumAccess$Region" "SpectrumAccess$Region" "channels" "I") ∈ lw_all := lw_g (lw_at lw_m4 113 rfl) rfl
theorem q973 : (Jvm.Cond.soleField "SpectrumAccess$Region" "channels") ∈ lw_all := lw_g (lw_at lw_m4 114 rfl) rfl
theorem q974 : (Jvm.Cond.lays "SpectrumAccess$Region" "SpectrumAccess$Region" "leak" "I") ∈ lw_all := lw_g (lw_at lw_m4 115 rfl) rfl
theorem q975 : (Jvm.Cond.soleField "SpectrumAccess$Region" "leak") ∈ lw_all := lw_g (lw_at lw_m4 116 rfl) rfl
theorem q976 : (Jvm.Cond.lays "SpectrumAccess$Region" "SpectrumAccess$Region" "shield" "I") ∈ lw_all := lw_g (lw_at lw_m4 117 rfl) rfl
theorem q977 : (Jvm.Cond.soleField "SpectrumAccess$Region" "shield") ∈ lw_all := lw_g (lw_at lw_m4 118 rfl) rfl
theorem q978 : (Jvm.Cond.lays "SpectrumAccess$Region" "SpectrumAccess$Region" "minimum" "I") ∈ lw_all := lw_g (lw_at lw_m4 119 rfl) rfl
theorem q979 : (Jvm.Cond.soleField "SpectrumAccess$Region" "minimum") ∈ lw_all := lw_g (lw_at lw_m4 120 rfl) rfl
theorem q980 : (Jvm.Cond.lays "SpectrumAccess$Region" "SpectrumAccess$Region" "lease" "I") ∈ lw_all := lw_g (lw_at lw_m4 121 rfl) rfl
theorem q981 : (Jvm.Cond.soleField "SpectrumAccess$Region" "lease") ∈ lw_all := lw_g (lw_at lw_m4 122 rfl) rfl
theorem q982 : (Jvm.Cond.lays "SpectrumAccess$Region" "SpectrumAccess$Region" "delay" "I") ∈ lw_all := lw_g (lw_at lw_m4 123 rfl) rfl
theorem q983 : (Jvm.Cond.soleField "SpectrumAccess$Region" "delay") ∈ lw_all := lw_g (lw_at lw_m4 124 rfl) rfl
theorem q984 : (Jvm.Cond.laysFinal "SpectrumAccess$Region" "SpectrumAccess$Region" "everyone" "LSpectrumAccess$Some;") ∈ lw_all := lw_g (lw_at lw_m4 125 rfl) rfl
theorem q985 : (Jvm.Cond.soleField "SpectrumAccess$Region" "everyone") ∈ lw_all := lw_g (lw_at lw_m4 126 rfl) rfl
theorem q986 : (Jvm.Cond.laysFinal "SpectrumAccess$Region" "SpectrumAccess$Region" "licensed" "LSpectrumAccess$Some;") ∈ lw_all := lw_g (lw_at lw_m4 127 rfl) rfl
theorem q987 : (Jvm.Cond.soleField "SpectrumAccess$Region" "licensed") ∈ lw_all := lw_g (lw_at lw_m4 128 rfl) rfl
theorem q988 : (Jvm.Cond.laysFinal "SpectrumAccess$Region" "SpectrumAccess$Region" "general" "LSpectrumAccess$Some;") ∈ lw_all := lw_g (lw_at lw_m4 129 rfl) rfl
theorem q989 : (Jvm.Cond.soleField "SpectrumAccess$Region" "general") ∈ lw_all := lw_g (lw_at lw_m4 130 rfl) rfl
theorem q990 : (Jvm.Cond.laysFinal "SpectrumAccess$Region" "SpectrumAccess$Region" "queue" "Ljava/util/PriorityQueue;") ∈ lw_all := lw_g (lw_at lw_m4 131 rfl) rfl
theorem q991 : (Jvm.Cond.soleField "SpectrumAccess$Region" "queue") ∈ lw_all := lw_g (lw_at lw_m4 132 rfl) rfl
theorem q992 : (Jvm.Cond.laysFinal "SpectrumAccess$Region" "SpectrumAccess$Region" "tickets" "Ljava/util/List;") ∈ lw_all := lw_g (lw_at lw_m4 133 rfl) rfl
theorem q993 : (Jvm.Cond.soleField "SpectrumAccess$Region" "tickets") ∈ lw_all := lw_g (lw_at lw_m4 134 rfl) rfl
theorem q994 : (Jvm.Cond.laysFinal "SpectrumAccess$Region" "SpectrumAccess$Region" "order" "[I") ∈ lw_all := lw_g (lw_at lw_m4 135 rfl) rfl
theorem q995 : (Jvm.Cond.soleField "SpectrumAccess$Region" "order") ∈ lw_all := lw_g (lw_at lw_m4 136 rfl) rfl
theorem q996 : (Jvm.Cond.superclass "SpectrumAccess$Region" "java/lang/Object") ∈ lw_all := lw_g (lw_at lw_m4 137 rfl) rfl
theorem q1471 : (Jvm.Cond.fieldLinkNest "SpectrumAccess$Region" (114 : Nat) "SpectrumAccess$Licence" "channels" "I" "SpectrumAccess") ∈ lw_tbl := lw_at lw_m6 132 rfl
theorem q1488 : (Jvm.Cond.instanceMethod ({ cls := "SpectrumAccess$Region", name := "add", desc := "(LSpectrumAccess$Licence;)V" } : Jvm.MethodName)) ∈ lw_all := lw_g (lw_at lw_m6 149 rfl) rfl
theorem q1489 : (Jvm.Cond.selects "SpectrumAccess$Region" ({ cls := "SpectrumAccess$Region", name := "add", desc := "(LSpectrumAccess$Licence;)V" } : Jvm.MethodName) ({ cls := "SpectrumAccess$Region", name := "add", desc := "(LSpectrumAccess$Licence;)V" } : Jvm.MethodName)) ∈ lw_all := lw_g (lw_at lw_m6 150 rfl) rfl
theorem q1490 : (Jvm.Cond.code ({ cls := "SpectrumAccess$Region", name := "add", desc := "(LSpectrumAccess$Licence;)V" } : Jvm.MethodName) prog_15_method_4_code (4 : Nat) (Option.none : Option Jvm.ClassFile.FieldType)) ∈ lw_all := lw_g (lw_at lw_m6 151 rfl) rfl
theorem q1491 : (Jvm.Cond.interfaceEntry "SpectrumAccess$Region" (92 : Nat)) ∈ lw_tbl := lw_at lw_m6 152 rfl
theorem q1492 : (Jvm.Cond.methodLink "SpectrumAccess$Region" (92 : Nat) ({ cls := "java/util/List", name := "size", desc := "()I" } : Jvm.MethodName)) ∈ lw_all := lw_g (lw_at lw_m6 153 rfl) rfl
theorem q1493 : (Jvm.Cond.classLink "SpectrumAccess$Region" (106 : Nat) "SpectrumAccess$Area") ∈ lw_all := lw_g (lw_at lw_m6 154 rfl) rfl
theorem q1494 : (Jvm.Cond.methodLink "SpectrumAccess$Region" (108 : Nat) ({ cls := "SpectrumAccess$Area", name := "meet", desc := "(LSpectrumAccess$Area;LSpectrumAccess$Area;)Z" } : Jvm.MethodName)) ∈ lw_all := lw_g (lw_at lw_m6 155 rfl) rfl
theorem q1534 : (Jvm.Cond.classLink "SpectrumAccess$Region" (112 : Nat) "SpectrumAccess$Licence") ∈ lw_all := lw_g (lw_at lw_m6 195 rfl) rfl
theorem q1535 : (Jvm.Cond.methodLink "SpectrumAccess$Region" (115 : Nat) ({ cls := "SpectrumAccess$Licence", name := "take", desc := "(II)V" } : Jvm.MethodName)) ∈ lw_all := lw_g (lw_at lw_m6 196 rfl) rfl
theorem q1755 : (Jvm.Cond.instanceMethod ({ cls := "SpectrumAccess$Region", name := "isSensed", desc := "(LSpectrumAccess$Incumbent;)Z" } : Jvm.MethodName)) ∈ lw_all := lw_g (lw_at lw_m7 176 rfl) rfl
theorem q1756 : (Jvm.Cond.selects "SpectrumAccess$Region" ({ cls := "SpectrumAccess$Region", name := "isSensed", desc := "(LSpectrumAccess$Incumbent;)Z" } : Jvm.MethodName) ({ cls := "SpectrumAccess$Region", name := "isSensed", desc := "(LSpectrumAccess$Incumbent;)Z" } : Jvm.MethodName)) ∈ lw_all := lw_g (lw_at lw_m7 177 rfl) rfl
theorem q1757 : (Jvm.Cond.code ({ cls := "SpectrumAccess$Region", name := "isSensed", desc := "(LSpectrumAccess$Incumbent;)Z" } : Jvm.MethodName) prog_15_method_3_code (3 : Nat) (Option.some Jvm.ClassFile.FieldType.boolean)) ∈ lw_all := lw_g (lw_at lw_m7 178 rfl) rfl
theorem q1758 : (Jvm.Cond.classLink "SpectrumAccess$Region" (96 : Nat) "SpectrumAccess$Sensor") ∈ lw_all := lw_g (lw_at lw_m7 179 rfl) rfl
theorem q1759 : (Jvm.Cond.methodLink "SpectrumAccess$Region" (98 : Nat) ({ cls := "SpectrumAccess$Sensor", name := "senses", desc := "(LSpectrumAccess$Point;)Z" } : Jvm.MethodName)) ∈ lw_all := lw_g (lw_at lw_m7 180 rfl) rfl
theorem q1856 : (Jvm.Cond.instanceMethod ({ cls := "SpectrumAccess$Region", name := "isPosition", desc := "(II)Z" } : Jvm.MethodName)) ∈ lw_all := lw_g (lw_at lw_m8 37 rfl) rfl
theorem q1857 : (Jvm.Cond.selects "SpectrumAccess$Region" ({ cls := "SpectrumAccess$Region", name := "isPosition", desc := "(II)Z" } : Jvm.MethodName) ({ cls := "SpectrumAccess$Region", name := "isPosition", desc := "(II)Z" } : Jvm.MethodName)) ∈ lw_all := lw_g (lw_at lw_m8 38 rfl) rfl
theorem q1858 : (Jvm.Cond.code ({ cls := "SpectrumAccess$Region", name := "isPosition", desc := "(II)Z" } : Jvm.MethodName) prog_15_method_6_code (3 : Nat) (Option.some Jvm.ClassFile.FieldType.boolean)) ∈ lw_all := lw_g (lw_at lw_m8 39 rfl) rfl
theorem q1859 : (Jvm.Cond.methodLinkNest "SpectrumAccess$Region" (129 : Nat) ({ cls := "SpectrumAccess", name := "in", desc := "(JJJ)Z" } : Jvm.MethodName) "SpectrumAccess") ∈ lw_tbl := lw_at lw_m8 40 rfl
theorem q1865 : (Jvm.Cond.instanceMethod ({ cls := "SpectrumAccess$Region", name := "licenceAt", desc := "(III)I" } : Jvm.MethodName)) ∈ lw_all := lw_g (lw_at lw_m8 46 rfl) rfl
theorem q1866 : (Jvm.Cond.selects "SpectrumAccess$Region" ({ cls := "SpectrumAccess$Region", name := "licenceAt", desc := "(III)I" } : Jvm.MethodName) ({ cls := "SpectrumAccess$Region", name := "licenceAt", desc := "(III)I" } : Jvm.MethodName)) ∈ lw_all := lw_g (lw_at lw_m8 47 rfl) rfl
theorem q1867 : (Jvm.Cond.code ({ cls := "SpectrumAccess$Region", name := "licenceAt", desc := "(III)I" } : Jvm.MethodName) prog_15_method_5_code (5 : Nat) (Option.some Jvm.ClassFile.FieldType.int)) ∈ lw_all := lw_g (lw_at lw_m8 48 rfl) rfl
theorem q1868 : (Jvm.Cond.methodLink "SpectrumAccess$Region" (119 : Nat) ({ cls := "SpectrumAccess$Licence", name := "has", desc := "(I)Z" } : Jvm.MethodName)) ∈ lw_all := lw_g (lw_at lw_m8 49 rfl) rfl
theorem q3496 : (Jvm.Cond.castable "SpectrumAccess$Region" "java/lang/Object") ∈ lw_tbl := lw_at lw_m14 237 rfl
theorem in_X4 : ∀ w ∈ wsX40, w ∈ lw_all := lw_in wsX40 [958, 960, 962, 964, 966, 968, 970, 972, 974, 976, 978, 980, 982, 984, 986, 988, 990, 992, 994] (by decide +kernel) (by decide +kernel)


/-! SpectrumAccess$Case -/
set_option maxRecDepth 100000
def RX5 : String := "SpectrumAccess$Case"
def TX5 : u_T := fun k => match k with
  | 0 => ("SpectrumAccess$Case", "x", "I", false)
  | 1 => ("SpectrumAccess$Case", "y", "I", false)
  | 2 => ("SpectrumAccess$Case", "channel", "I", false)
  | 3 => ("SpectrumAccess$Case", "time", "I", false)
  | _ => ("SpectrumAccess$Case", "moves", "I", false)
def tyX5 : Nat → FieldType := fun k => match k with
  | 0 => .int
  | 1 => .int
  | 2 => .int
  | 3 => .int
  | _ => .int
abbrev wsX50 : List Cond := u_ws RX5 TX5 5
theorem nmX5 : ∀ a, a < 5 → ∀ b, b < 5 → a ≠ b → (TX5 a).2.1 ≠ (TX5 b).2.1 := by decide +kernel
theorem tyX5_ok : ∀ k, k < 5 → parseFieldDescriptor (TX5 k).2.2.1 = some (tyX5 k) := by decide +kernel
abbrev cX5_init : ByteArray := prog_4_method_1_code
def yX5_init : MethodName := ⟨RX5, "<init>", "()V"⟩
theorem dX5_init_0 : decode cX5_init 0 = .ok (.aload_n 0, 1) := by decide +kernel
theorem dX5_init_1 : decode cX5_init 1 = .ok (.invokespecial 1, 3) := by decide +kernel
theorem dX5_init_4 : decode cX5_init 4 = .ok (.return_, 1) := by decide +kernel
abbrev cX5_value : ByteArray := prog_4_method_2_code
def yX5_value : MethodName := ⟨RX5, "value", "(Ljava/lang/String;)I"⟩
def dkwX5_value_7 : List UInt8 := [180, 0, 34, 167, 0, 7, 42, 180, 0, 36, 172]
abbrev dktX5_value_7 : List UInt8 := dkwX5_value_7 ++ []
def dkwX5_value_6 : List UInt8 := [42, 180, 0, 25, 167, 0, 28, 42, 180, 0, 30, 167, 0, 21, 42, 180, 0, 32, 167, 0, 14, 42]
abbrev dktX5_value_6 : List UInt8 := dkwX5_value_6 ++ dktX5_value_7
def dkwX5_value_5 : List UInt8 := [170, 0, 0, 0, 0, 58, 0, 0, 0, 0, 0, 0, 0, 3, 0, 0, 0, 30, 0, 0, 0, 37, 0, 0, 0, 44, 0, 0, 0, 51]
abbrev dktX5_value_5 : List UInt8 := dkwX5_value_5 ++ dktX5_value_6
def dkwX5_value_4 : List UInt8 := [153, 0, 5, 6, 62, 29]
abbrev dktX5_value_4 : List UInt8 := dkwX5_value_4 ++ dktX5_value_5
def dkwX5_value_3 : List UInt8 := [62, 167, 0, 28, 44, 18, 21, 182, 0, 15, 153, 0, 19, 5, 62, 167, 0, 14, 44, 18, 23, 182, 0, 15]
abbrev dktX5_value_3 : List UInt8 := dkwX5_value_3 ++ dktX5_value_4
def dkwX5_value_2 : List UInt8 := [44, 18, 13, 182, 0, 15, 153, 0, 47, 3, 62, 167, 0, 42, 44, 18, 19, 182, 0, 15, 153, 0, 33, 4]
abbrev dktX5_value_2 : List UInt8 := dkwX5_value_2 ++ dktX5_value_3
def dkwX5_value_1 : List UInt8 := [171, 0, 0, 0, 0, 0, 0, 97, 0, 0, 0, 4, 0, 0, 0, 120, 0, 0, 0, 44, 0, 0, 0, 121, 0, 0, 0, 58, 0, 54, 82, 205, 0, 0, 0, 86, 44, 11, 125, 3, 0, 0, 0, 72]
abbrev dktX5_value_1 : List UInt8 := dkwX5_value_1 ++ dktX5_value_2
def dkwX5_value_0 : List UInt8 := [43, 77, 2, 62, 44, 182, 0, 7]
abbrev dktX5_value_0 : List UInt8 := dkwX5_value_0 ++ dktX5_value_1
theorem dksX5_value_0 : cX5_value.data.toList.drop 0 = dktX5_value_0 := by decide +kernel
theorem dksX5_value_1 : cX5_value.data.toList.drop 8 = dktX5_value_1 := dk_seg dksX5_value_0 8 rfl rfl
theorem dksX5_value_2 : cX5_value.data.toList.drop 52 = dktX5_value_2 := dk_seg dksX5_value_1 44 rfl rfl
theorem dksX5_value_3 : cX5_value.data.toList.drop 76 = dktX5_value_3 := dk_seg dksX5_value_2 24 rfl rfl
theorem dksX5_value_4 : cX5_value.data.toList.drop 100 = dktX5_value_4 := dk_seg dksX5_value_3 24 rfl rfl
theorem dksX5_value_5 : cX5_value.data.toList.drop 106 = dktX5_value_5 := dk_seg dksX5_value_4 6 rfl rfl
theorem dksX5_value_6 : cX5_value.data.toList.drop 136 = dktX5_value_6 := dk_seg dksX5_value_5 30 rfl rfl
theorem dksX5_value_7 : cX5_value.data.toList.drop 158 = dktX5_value_7 := dk_seg dksX5_value_6 22 rfl rfl
theorem dX5_value_0 : decode cX5_value 0 = .ok (.aload_n 1, 1) := dk_43 (dk_at dksX5_value_0 0 rfl rfl)
theorem dX5_value_1 : decode cX5_value 1 = .ok (.astore_n 2, 1) := dk_77 (dk_at dksX5_value_0 1 rfl rfl)
theorem dX5_value_2 : decode cX5_value 2 = .ok (.iconst (-1), 1) := dk_2 (dk_at dksX5_value_0 2 rfl rfl)
theorem dX5_value_3 : decode cX5_value 3 = .ok (.istore_n 3, 1) := dk_62 (dk_at dksX5_value_0 3 rfl rfl)
theorem dX5_value_4 : decode cX5_value 4 = .ok (.aload_n 2, 1) := dk_44 (dk_at dksX5_value_0 4 rfl rfl)
theorem dX5_value_5 : decode cX5_value 5 = .ok (.invokevirtual 7, 3) := dk_182 0 7 (dk_at dksX5_value_0 5 rfl rfl)
theorem dX5_value_8 : decode cX5_value 8 = .ok (.lookupswitch 97 #[(120, 44), (121, 58), (3560141, 86), (738950403, 72)], 44) := by decide +kernel
theorem dX5_value_52 : decode cX5_value 52 = .ok (.aload_n 2, 1) := dk_44 (dk_at dksX5_value_2 0 rfl rfl)
theorem dX5_value_53 : decode cX5_value 53 = .ok (.ldc 13, 2) := dk_18 13 (dk_at dksX5_value_2 1 rfl rfl)
theorem dX5_value_55 : decode cX5_value 55 = .ok (.invokevirtual 15, 3) := dk_182 0 15 (dk_at dksX5_value_2 3 rfl rfl)
theorem dX5_value_58 : decode cX5_value 58 = .ok (.ifCond .eq 47, 3) := dk_153 0 47 (dk_at dksX5_value_2 6 rfl rfl)
theorem dX5_value_61 : decode cX5_value 61 = .ok (.iconst 0, 1) := dk_3 (dk_at dksX5_value_2 9 rfl rfl)
theorem dX5_value_62 : decode cX5_value 62 = .ok (.istore_n 3, 1) := dk_62 (dk_at dksX5_value_2 10 rfl rfl)
theorem dX5_value_63 : decode cX5_value 63 = .ok (.goto 42, 3) := dk_167 0 42 (dk_at dksX5_value_2 11 rfl rfl)
theorem dX5_value_66 : decode cX5_value 66 = .ok (.aload_n 2, 1) := dk_44 (dk_at dksX5_value_2 14 rfl rfl)
theorem dX5_value_67 : decode cX5_value 67 = .ok (.ldc 19, 2) := dk_18 19 (dk_at dksX5_value_2 15 rfl rfl)
theorem dX5_value_69 : decode cX5_value 69 = .ok (.invokevirtual 15, 3) := dk_182 0 15 (dk_at dksX5_value_2 17 rfl rfl)
theorem dX5_value_72 : decode cX5_value 72 = .ok (.ifCond .eq 33, 3) := dk_153 0 33 (dk_at dksX5_value_2 20 rfl rfl)
theorem dX5_value_75 : decode cX5_value 75 = .ok (.iconst 1, 1) := dk_4 (dk_at dksX5_value_2 23 rfl rfl)
theorem dX5_value_76 : decode cX5_value 76 = .ok (.istore_n 3, 1) := dk_62 (dk_at dksX5_value_3 0 rfl rfl)
theorem dX5_value_77 : decode cX5_value 77 = .ok (.goto 28, 3) := dk_167 0 28 (dk_at dksX5_value_3 1 rfl rfl)
theorem dX5_value_80 : decode cX5_value 80 = .ok (.aload_n 2, 1) := dk_44 (dk_at dksX5_value_3 4 rfl rfl)
theorem dX5_value_81 : decode cX5_value 81 = .ok (.ldc 21, 2) := dk_18 21 (dk_at dksX5_value_3 5 rfl rfl)
theorem dX5_value_83 : decode cX5_value 83 = .ok (.invokevirtual 15, 3) := dk_182 0 15 (dk_at dksX5_value_3 7 rfl rfl)
theorem dX5_value_86 : decode cX5_value 86 = .ok (.ifCond .eq 19, 3) := dk_153 0 19 (dk_at dksX5_value_3 10 rfl rfl)
theorem dX5_value_89 : decode cX5_value 89 = .ok (.iconst 2, 1) := dk_5 (dk_at dksX5_value_3 13 rfl rfl)
theorem dX5_value_90 : decode cX5_value 90 = .ok (.istore_n 3, 1) := dk_62 (dk_at dksX5_value_3 14 rfl rfl)
theorem dX5_value_91 : decode cX5_value 91 = .ok (.goto 14, 3) := dk_167 0 14 (dk_at dksX5_value_3 15 rfl rfl)
theorem dX5_value_94 : decode cX5_value 94 = .ok (.aload_n 2, 1) := dk_44 (dk_at dksX5_value_3 18 rfl rfl)
theorem dX5_value_95 : decode cX5_value 95 = .ok (.ldc 23, 2) := dk_18 23 (dk_at dksX5_value_3 19 rfl rfl)
theorem dX5_value_97 : decode cX5_value 97 = .ok (.invokevirtual 15, 3) := dk_182 0 15 (dk_at dksX5_value_3 21 rfl rfl)
theorem dX5_value_100 : decode cX5_value 100 = .ok (.ifCond .eq 5, 3) := dk_153 0 5 (dk_at dksX5_value_4 0 rfl rfl)
theorem dX5_value_103 : decode cX5_value 103 = .ok (.iconst 3, 1) := dk_6 (dk_at dksX5_value_4 3 rfl rfl)
theorem dX5_value_104 : decode cX5_value 104 = .ok (.istore_n 3, 1) := dk_62 (dk_at dksX5_value_4 4 rfl rfl)
theorem dX5_value_105 : decode cX5_value 105 = .ok (.iload_n 3, 1) := dk_29 (dk_at dksX5_value_4 5 rfl rfl)
theorem dX5_value_106 : decode cX5_value 106 = .ok (.tableswitch 58 0 3 #[30, 37, 44, 51], 30) := by decide +kernel
theorem dX5_value_136 : decode cX5_value 136 = .ok (.aload_n 0, 1) := dk_42 (dk_at dksX5_value_6 0 rfl rfl)
theorem dX5_value_137 : decode cX5_value 137 = .ok (.getfield 25, 3) := dk_180 0 25 (dk_at dksX5_value_6 1 rfl rfl)
theorem dX5_value_140 : decode cX5_value 140 = .ok (.goto 28, 3) := dk_167 0 28 (dk_at dksX5_value_6 4 rfl rfl)
theorem dX5_value_143 : decode cX5_value 143 = .ok (.aload_n 0, 1) := dk_42 (dk_at dksX5_value_6 7 rfl rfl)
theorem dX5_value_144 : decode cX5_value 144 = .ok (.getfield 30, 3) := dk_180 0 30 (dk_at dksX5_value_6 8 rfl rfl)
theorem dX5_value_147 : decode cX5_value 147 = .ok (.goto 21, 3) := dk_167 0 21 (dk_at dksX5_value_6 11 rfl rfl)
theorem dX5_value_150 : decode cX5_value 150 = .ok (.aload_n 0, 1) := dk_42 (dk_at dksX5_value_6 14 rfl rfl)
theorem dX5_value_151 : decode cX5_value 151 = .ok (.getfield 32, 3) := dk_180 0 32 (dk_at dksX5_value_6 15 rfl rfl)
theorem dX5_value_154 : decode cX5_value 154 = .ok (.goto 14, 3) := dk_167 0 14 (dk_at dksX5_value_6 18 rfl rfl)
theorem dX5_value_157 : decode cX5_value 157 = .ok (.aload_n 0, 1) := dk_42 (dk_at dksX5_value_6 21 rfl rfl)
theorem dX5_value_158 : decode cX5_value 158 = .ok (.getfield 34, 3) := dk_180 0 34 (dk_at dksX5_value_7 0 rfl rfl)
theorem dX5_value_161 : decode cX5_value 161 = .ok (.goto 7, 3) := dk_167 0 7 (dk_at dksX5_value_7 3 rfl rfl)
theorem dX5_value_164 : decode cX5_value 164 = .ok (.aload_n 0, 1) := dk_42 (dk_at dksX5_value_7 6 rfl rfl)
theorem dX5_value_165 : decode cX5_value 165 = .ok (.getfield 36, 3) := dk_180 0 36 (dk_at dksX5_value_7 7 rfl rfl)
theorem dX5_value_168 : decode cX5_value 168 = .ok (.ireturn, 1) := dk_172 (dk_at dksX5_value_7 10 rfl rfl)
theorem q165 : (Jvm.Cond.initialized "SpectrumAccess$Case") ∈ lw_all := lw_g (lw_at lw_m1 26 rfl) rfl
theorem q727 : (Jvm.Cond.instantiable "SpectrumAccess$Case" (5 : Nat)) ∈ lw_all := lw_g (lw_at lw_m3 108 rfl) rfl
theorem q729 : (Jvm.Cond.instanceMethod ({ cls := "SpectrumAccess$Case", name := "<init>", desc := "()V" } : Jvm.MethodName)) ∈ lw_all := lw_g (lw_at lw_m3 110 rfl) rfl
theorem q730 : (Jvm.Cond.code ({ cls := "SpectrumAccess$Case", name := "<init>", desc := "()V" } : Jvm.MethodName) prog_4_method_1_code (1 : Nat) (Option.none : Option Jvm.ClassFile.FieldType)) ∈ lw_all := lw_g (lw_at lw_m3 111 rfl) rfl
theorem q731 : (Jvm.Cond.methodLink "SpectrumAccess$Case" (1 : Nat) ({ cls := "java/lang/Object", name := "<init>", desc := "()V" } : Jvm.MethodName)) ∈ lw_all := lw_g (lw_at lw_m3 112 rfl) rfl
theorem q732 : (Jvm.Cond.fieldLink "SpectrumAccess$Case" (25 : Nat) "SpectrumAccess$Case" "x" "I") ∈ lw_all := lw_g (lw_at lw_m3 113 rfl) rfl
theorem q734 : (Jvm.Cond.fieldLink "SpectrumAccess$Case" (30 : Nat) "SpectrumAccess$Case" "y" "I") ∈ lw_all := lw_g (lw_at lw_m3 115 rfl) rfl
theorem q736 : (Jvm.Cond.fieldLink "SpectrumAccess$Case" (32 : Nat) "SpectrumAccess$Case" "channel" "I") ∈ lw_all := lw_g (lw_at lw_m3 117 rfl) rfl
theorem q738 : (Jvm.Cond.fieldLink "SpectrumAccess$Case" (34 : Nat) "SpectrumAccess$Case" "time" "I") ∈ lw_all := lw_g (lw_at lw_m3 119 rfl) rfl
theorem q740 : (Jvm.Cond.fieldLink "SpectrumAccess$Case" (36 : Nat) "SpectrumAccess$Case" "moves" "I") ∈ lw_all := lw_g (lw_at lw_m3 121 rfl) rfl
theorem q742 : (Jvm.Cond.lays "SpectrumAccess$Case" "SpectrumAccess$Case" "x" "I") ∈ lw_all := lw_g (lw_at lw_m3 123 rfl) rfl
theorem q743 : (Jvm.Cond.soleField "SpectrumAccess$Case" "x") ∈ lw_all := lw_g (lw_at lw_m3 124 rfl) rfl
theorem q744 : (Jvm.Cond.lays "SpectrumAccess$Case" "SpectrumAccess$Case" "y" "I") ∈ lw_all := lw_g (lw_at lw_m3 125 rfl) rfl
theorem q745 : (Jvm.Cond.soleField "SpectrumAccess$Case" "y") ∈ lw_all := lw_g (lw_at lw_m3 126 rfl) rfl
theorem q746 : (Jvm.Cond.lays "SpectrumAccess$Case" "SpectrumAccess$Case" "channel" "I") ∈ lw_all := lw_g (lw_at lw_m3 127 rfl) rfl
theorem q747 : (Jvm.Cond.soleField "SpectrumAccess$Case" "channel") ∈ lw_all := lw_g (lw_at lw_m3 128 rfl) rfl
theorem q748 : (Jvm.Cond.lays "SpectrumAccess$Case" "SpectrumAccess$Case" "time" "I") ∈ lw_all := lw_g (lw_at lw_m3 129 rfl) rfl
theorem q749 : (Jvm.Cond.soleField "SpectrumAccess$Case" "time") ∈ lw_all := lw_g (lw_at lw_m3 130 rfl) rfl
theorem q750 : (Jvm.Cond.lays "SpectrumAccess$Case" "SpectrumAccess$Case" "moves" "I") ∈ lw_all := lw_g (lw_at lw_m3 131 rfl) rfl
theorem q751 : (Jvm.Cond.soleField "SpectrumAccess$Case" "moves") ∈ lw_all := lw_g (lw_at lw_m3 132 rfl) rfl
theorem q752 : (Jvm.Cond.superclass "SpectrumAccess$Case" "java/lang/Object") ∈ lw_all := lw_g (lw_at lw_m3 133 rfl) rfl
theorem q871 : (Jvm.Cond.selects "SpectrumAccess$Case" ({ cls := "java/lang/Object", name := "getClass", desc := "()Ljava/lang/Class;" } : Jvm.MethodName) ({ cls := "java/lang/Object", name := "getClass", desc := "()Ljava/lang/Class;" } : Jvm.MethodName)) ∈ lw_all := lw_g (lw_at lw_m4 12 rfl) rfl
theorem q2060 : (Jvm.Cond.instanceMethod ({ cls := "SpectrumAccess$Case", name := "value", desc := "(Ljava/lang/String;)I" } : Jvm.MethodName)) ∈ lw_all := lw_g (lw_at lw_m9 1 rfl) rfl
theorem q2061 : (Jvm.Cond.selects "SpectrumAccess$Case" ({ cls := "SpectrumAccess$Case", name := "value", desc := "(Ljava/lang/String;)I" } : Jvm.MethodName) ({ cls := "SpectrumAccess$Case", name := "value", desc := "(Ljava/lang/String;)I" } : Jvm.MethodName)) ∈ lw_all := lw_g (lw_at lw_m9 2 rfl) rfl
theorem q2062 : (Jvm.Cond.code ({ cls := "SpectrumAccess$Case", name := "value", desc := "(Ljava/lang/String;)I" } : Jvm.MethodName) prog_4_method_2_code (4 : Nat) (Option.some Jvm.ClassFile.FieldType.int)) ∈ lw_all := lw_g (lw_at lw_m9 3 rfl) rfl
theorem q2063 : (Jvm.Cond.methodLink "SpectrumAccess$Case" (7 : Nat) ({ cls := "java/lang/String", name := "hashCode", desc := "()I" } : Jvm.MethodName)) ∈ lw_all := lw_g (lw_at lw_m9 4 rfl) rfl
theorem q2064 : (Jvm.Cond.stringRef "SpectrumAccess$Case" (13 : Nat) "x") ∈ lw_tbl := lw_at lw_m9 5 rfl
theorem q2065 : (Jvm.Cond.methodLink "SpectrumAccess$Case" (15 : Nat) ({ cls := "java/lang/String", name := "equals", desc := "(Ljava/lang/Object;)Z" } : Jvm.MethodName)) ∈ lw_all := lw_g (lw_at lw_m9 6 rfl) rfl
theorem q2066 : (Jvm.Cond.stringRef "SpectrumAccess$Case" (19 : Nat) "y") ∈ lw_tbl := lw_at lw_m9 7 rfl
theorem q2067 : (Jvm.Cond.stringRef "SpectrumAccess$Case" (21 : Nat) "channel") ∈ lw_tbl := lw_at lw_m9 8 rfl
theorem q2068 : (Jvm.Cond.stringRef "SpectrumAccess$Case" (23 : Nat) "time") ∈ lw_tbl := lw_at lw_m9 9 rfl
theorem q3498 : (Jvm.Cond.castable "SpectrumAccess$Case" "java/lang/Object") ∈ lw_tbl := lw_at lw_m14 239 rfl
theorem in_X5 : ∀ w ∈ wsX50, w ∈ lw_all := lw_in wsX50 [742, 744, 746, 748, 750] (by decide +kernel) (by decide +kernel)


/-! SpectrumAccess$ByPriority -/
set_option maxRecDepth 100000
def RX6 : String := "SpectrumAccess$ByPriority"
abbrev cX6_init : ByteArray := prog_3_method_1_code
def yX6_init : MethodName := ⟨RX6, "<init>", "()V"⟩
theorem dX6_init_0 : decode cX6_init 0 = .ok (.aload_n 0, 1) := by decide +kernel
theorem dX6_init_1 : decode cX6_init 1 = .ok (.invokespecial 1, 3) := by decide +kernel
theorem dX6_init_4 : decode cX6_init 4 = .ok (.return_, 1) := by decide +kernel
abbrev cX6_compare : ByteArray := prog_3_method_3_code
def yX6_compare : MethodName := ⟨RX6, "compare", "(Ljava/lang/Object;Ljava/lang/Object;)I"⟩
def dkwX6_compare_0 : List UInt8 := [42, 43, 192, 0, 8, 44, 192, 0, 8, 182, 0, 26, 172]
abbrev dktX6_compare_0 : List UInt8 := dkwX6_compare_0 ++ []
theorem dksX6_compare_0 : cX6_compare.data.toList.drop 0 = dktX6_compare_0 := by decide +kernel
theorem dX6_compare_0 : decode cX6_compare 0 = .ok (.aload_n 0, 1) := dk_42 (dk_at dksX6_compare_0 0 rfl rfl)
theorem dX6_compare_1 : decode cX6_compare 1 = .ok (.aload_n 1, 1) := dk_43 (dk_at dksX6_compare_0 1 rfl rfl)
theorem dX6_compare_2 : decode cX6_compare 2 = .ok (.checkcast 8, 3) := dk_192 0 8 (dk_at dksX6_compare_0 2 rfl rfl)
theorem dX6_compare_5 : decode cX6_compare 5 = .ok (.aload_n 2, 1) := dk_44 (dk_at dksX6_compare_0 5 rfl rfl)
theorem dX6_compare_6 : decode cX6_compare 6 = .ok (.checkcast 8, 3) := dk_192 0 8 (dk_at dksX6_compare_0 6 rfl rfl)
theorem dX6_compare_9 : decode cX6_compare 9 = .ok (.invokevirtual 26, 3) := dk_182 0 26 (dk_at dksX6_compare_0 9 rfl rfl)
theorem dX6_compare_12 : decode cX6_compare 12 = .ok (.ireturn, 1) := dk_172 (dk_at dksX6_compare_0 12 rfl rfl)
abbrev cX6_compare_2 : ByteArray := prog_3_method_2_code
def yX6_compare_2 : MethodName := ⟨RX6, "compare", "(LSpectrumAccess$Waiting;LSpectrumAccess$Waiting;)I"⟩
def dkwX6_compare_2_2 : List UInt8 := [167, 0, 14, 43, 180, 0, 23, 44, 180, 0, 23, 184, 0, 17, 172]
abbrev dktX6_compare_2_2 : List UInt8 := dkwX6_compare_2_2 ++ []
def dkwX6_compare_2_1 : List UInt8 := [43, 180, 0, 13, 44, 180, 0, 13, 159, 0, 17, 43, 180, 0, 13, 44, 180, 0, 13, 184, 0, 17]
abbrev dktX6_compare_2_1 : List UInt8 := dkwX6_compare_2_1 ++ dktX6_compare_2_2
def dkwX6_compare_2_0 : List UInt8 := [43, 180, 0, 7, 44, 180, 0, 7, 159, 0, 16, 43, 180, 0, 7, 153, 0, 7, 2, 167, 0, 4, 4, 172]
abbrev dktX6_compare_2_0 : List UInt8 := dkwX6_compare_2_0 ++ dktX6_compare_2_1
theorem dksX6_compare_2_0 : cX6_compare_2.data.toList.drop 0 = dktX6_compare_2_0 := by decide +kernel
theorem dksX6_compare_2_1 : cX6_compare_2.data.toList.drop 24 = dktX6_compare_2_1 := dk_seg dksX6_compare_2_0 24 rfl rfl
theorem dksX6_compare_2_2 : cX6_compare_2.data.toList.drop 46 = dktX6_compare_2_2 := dk_seg dksX6_compare_2_1 22 rfl rfl
theorem dX6_compare_2_0 : decode cX6_compare_2 0 = .ok (.aload_n 1, 1) := dk_43 (dk_at dksX6_compare_2_0 0 rfl rfl)
theorem dX6_compare_2_1 : decode cX6_compare_2 1 = .ok (.getfield 7, 3) := dk_180 0 7 (dk_at dksX6_compare_2_0 1 rfl rfl)
theorem dX6_compare_2_4 : decode cX6_compare_2 4 = .ok (.aload_n 2, 1) := dk_44 (dk_at dksX6_compare_2_0 4 rfl rfl)
theorem dX6_compare_2_5 : decode cX6_compare_2 5 = .ok (.getfield 7, 3) := dk_180 0 7 (dk_at dksX6_compare_2_0 5 rfl rfl)
theorem dX6_compare_2_8 : decode cX6_compare_2 8 = .ok (.if_icmp .eq 16, 3) := dk_159 0 16 (dk_at dksX6_compare_2_0 8 rfl rfl)
theorem dX6_compare_2_11 : decode cX6_compare_2 11 = .ok (.aload_n 1, 1) := dk_43 (dk_at dksX6_compare_2_0 11 rfl rfl)
theorem dX6_compare_2_12 : decode cX6_compare_2 12 = .ok (.getfield 7, 3) := dk_180 0 7 (dk_at dksX6_compare_2_0 12 rfl rfl)
theorem dX6_compare_2_15 : decode cX6_compare_2 15 = .ok (.ifCond .eq 7, 3) := dk_153 0 7 (dk_at dksX6_compare_2_0 15 rfl rfl)
theorem dX6_compare_2_18 : decode cX6_compare_2 18 = .ok (.iconst (-1), 1) := dk_2 (dk_at dksX6_compare_2_0 18 rfl rfl)
theorem dX6_compare_2_19 : decode cX6_compare_2 19 = .ok (.goto 4, 3) := dk_167 0 4 (dk_at dksX6_compare_2_0 19 rfl rfl)
theorem dX6_compare_2_22 : decode cX6_compare_2 22 = .ok (.iconst 1, 1) := dk_4 (dk_at dksX6_compare_2_0 22 rfl rfl)
theorem dX6_compare_2_23 : decode cX6_compare_2 23 = .ok (.ireturn, 1) := dk_172 (dk_at dksX6_compare_2_0 23 rfl rfl)
theorem dX6_compare_2_24 : decode cX6_compare_2 24 = .ok (.aload_n 1, 1) := dk_43 (dk_at dksX6_compare_2_1 0 rfl rfl)
theorem dX6_compare_2_25 : decode cX6_compare_2 25 = .ok (.getfield 13, 3) := dk_180 0 13 (dk_at dksX6_compare_2_1 1 rfl rfl)
theorem dX6_compare_2_28 : decode cX6_compare_2 28 = .ok (.aload_n 2, 1) := dk_44 (dk_at dksX6_compare_2_1 4 rfl rfl)
theorem dX6_compare_2_29 : decode cX6_compare_2 29 = .ok (.getfield 13, 3) := dk_180 0 13 (dk_at dksX6_compare_2_1 5 rfl rfl)
theorem dX6_compare_2_32 : decode cX6_compare_2 32 = .ok (.if_icmp .eq 17, 3) := dk_159 0 17 (dk_at dksX6_compare_2_1 8 rfl rfl)
theorem dX6_compare_2_35 : decode cX6_compare_2 35 = .ok (.aload_n 1, 1) := dk_43 (dk_at dksX6_compare_2_1 11 rfl rfl)
theorem dX6_compare_2_36 : decode cX6_compare_2 36 = .ok (.getfield 13, 3) := dk_180 0 13 (dk_at dksX6_compare_2_1 12 rfl rfl)
theorem dX6_compare_2_39 : decode cX6_compare_2 39 = .ok (.aload_n 2, 1) := dk_44 (dk_at dksX6_compare_2_1 15 rfl rfl)
theorem dX6_compare_2_40 : decode cX6_compare_2 40 = .ok (.getfield 13, 3) := dk_180 0 13 (dk_at dksX6_compare_2_1 16 rfl rfl)
theorem dX6_compare_2_43 : decode cX6_compare_2 43 = .ok (.invokestatic 17, 3) := dk_184 0 17 (dk_at dksX6_compare_2_1 19 rfl rfl)
theorem dX6_compare_2_46 : decode cX6_compare_2 46 = .ok (.goto 14, 3) := dk_167 0 14 (dk_at dksX6_compare_2_2 0 rfl rfl)
theorem dX6_compare_2_49 : decode cX6_compare_2 49 = .ok (.aload_n 1, 1) := dk_43 (dk_at dksX6_compare_2_2 3 rfl rfl)
theorem dX6_compare_2_50 : decode cX6_compare_2 50 = .ok (.getfield 23, 3) := dk_180 0 23 (dk_at dksX6_compare_2_2 4 rfl rfl)
theorem dX6_compare_2_53 : decode cX6_compare_2 53 = .ok (.aload_n 2, 1) := dk_44 (dk_at dksX6_compare_2_2 7 rfl rfl)
theorem dX6_compare_2_54 : decode cX6_compare_2 54 = .ok (.getfield 23, 3) := dk_180 0 23 (dk_at dksX6_compare_2_2 8 rfl rfl)
theorem dX6_compare_2_57 : decode cX6_compare_2 57 = .ok (.invokestatic 17, 3) := dk_184 0 17 (dk_at dksX6_compare_2_2 11 rfl rfl)
theorem dX6_compare_2_60 : decode cX6_compare_2 60 = .ok (.ireturn, 1) := dk_172 (dk_at dksX6_compare_2_2 14 rfl rfl)
theorem q169 : (Jvm.Cond.initialized "SpectrumAccess$ByPriority") ∈ lw_all := lw_g (lw_at lw_m1 30 rfl) rfl
theorem q789 : (Jvm.Cond.instantiable "SpectrumAccess$ByPriority" (0 : Nat)) ∈ lw_all := lw_g (lw_at lw_m3 170 rfl) rfl
theorem q791 : (Jvm.Cond.instanceMethod ({ cls := "SpectrumAccess$ByPriority", name := "<init>", desc := "()V" } : Jvm.MethodName)) ∈ lw_all := lw_g (lw_at lw_m3 172 rfl) rfl
theorem q792 : (Jvm.Cond.code ({ cls := "SpectrumAccess$ByPriority", name := "<init>", desc := "()V" } : Jvm.MethodName) prog_3_method_1_code (1 : Nat) (Option.none : Option Jvm.ClassFile.FieldType)) ∈ lw_all := lw_g (lw_at lw_m3 173 rfl) rfl
theorem q793 : (Jvm.Cond.methodLink "SpectrumAccess$ByPriority" (1 : Nat) ({ cls := "java/lang/Object", name := "<init>", desc := "()V" } : Jvm.MethodName)) ∈ lw_all := lw_g (lw_at lw_m3 174 rfl) rfl
theorem q794 : (Jvm.Cond.superclass "SpectrumAccess$ByPriority" "java/lang/Object") ∈ lw_all := lw_g (lw_at lw_m3 175 rfl) rfl
theorem q828 : (Jvm.Cond.fieldLinkNest "SpectrumAccess$ByPriority" (23 : Nat) "SpectrumAccess$Waiting" "device" "I" "SpectrumAccess") ∈ lw_tbl := lw_at lw_m3 209 rfl
theorem q830 : (Jvm.Cond.fieldLinkNest "SpectrumAccess$ByPriority" (13 : Nat) "SpectrumAccess$Waiting" "since" "I" "SpectrumAccess") ∈ lw_tbl := lw_at lw_m3 211 rfl
theorem q832 : (Jvm.Cond.fieldLinkNest "SpectrumAccess$ByPriority" (7 : Nat) "SpectrumAccess$Waiting" "isLicensed" "Z" "SpectrumAccess") ∈ lw_tbl := lw_at lw_m3 213 rfl
theorem q870 : (Jvm.Cond.selects "SpectrumAccess$ByPriority" ({ cls := "java/lang/Object", name := "getClass", desc := "()Ljava/lang/Class;" } : Jvm.MethodName) ({ cls := "java/lang/Object", name := "getClass", desc := "()Ljava/lang/Class;" } : Jvm.MethodName)) ∈ lw_all := lw_g (lw_at lw_m4 11 rfl) rfl
theorem q2185 : (Jvm.Cond.castable "SpectrumAccess$ByPriority" "java/util/Comparator") ∈ lw_tbl := lw_at lw_m9 126 rfl
theorem q2186 : (Jvm.Cond.selects "SpectrumAccess$ByPriority" ({ cls := "java/util/Comparator", name := "compare", desc := "(Ljava/lang/Object;Ljava/lang/Object;)I" } : Jvm.MethodName) ({ cls := "SpectrumAccess$ByPriority", name := "compare", desc := "(Ljava/lang/Object;Ljava/lang/Object;)I" } : Jvm.MethodName)) ∈ lw_all := lw_g (lw_at lw_m9 127 rfl) rfl
theorem q2187 : (Jvm.Cond.unhidden "SpectrumAccess$ByPriority" "compare" "(Ljava/lang/Object;Ljava/lang/Object;)I") ∈ lw_tbl := lw_at lw_m9 128 rfl
theorem q2188 : (Jvm.Cond.instanceMethod ({ cls := "SpectrumAccess$ByPriority", name := "compare", desc := "(Ljava/lang/Object;Ljava/lang/Object;)I" } : Jvm.MethodName)) ∈ lw_all := lw_g (lw_at lw_m9 129 rfl) rfl
theorem q2189 : (Jvm.Cond.publicMethod ({ cls := "SpectrumAccess$ByPriority", name := "compare", desc := "(Ljava/lang/Object;Ljava/lang/Object;)I" } : Jvm.MethodName)) ∈ lw_tbl := lw_at lw_m9 130 rfl
theorem q2190 : (Jvm.Cond.code ({ cls := "SpectrumAccess$ByPriority", name := "compare", desc := "(Ljava/lang/Object;Ljava/lang/Object;)I" } : Jvm.MethodName) prog_3_method_3_code (3 : Nat) (Option.some Jvm.ClassFile.FieldType.int)) ∈ lw_all := lw_g (lw_at lw_m9 131 rfl) rfl
theorem q2191 : (Jvm.Cond.classLink "SpectrumAccess$ByPriority" (8 : Nat) "SpectrumAccess$Waiting") ∈ lw_all := lw_g (lw_at lw_m9 132 rfl) rfl
theorem q2192 : (Jvm.Cond.methodLink "SpectrumAccess$ByPriority" (26 : Nat) ({ cls := "SpectrumAccess$ByPriority", name := "compare", desc := "(LSpectrumAccess$Waiting;LSpectrumAccess$Waiting;)I" } : Jvm.MethodName)) ∈ lw_all := lw_g (lw_at lw_m9 133 rfl) rfl
theorem q2193 : (Jvm.Cond.instanceMethod ({ cls := "SpectrumAccess$ByPriority", name := "compare", desc := "(LSpectrumAccess$Waiting;LSpectrumAccess$Waiting;)I" } : Jvm.MethodName)) ∈ lw_all := lw_g (lw_at lw_m9 134 rfl) rfl
theorem q2194 : (Jvm.Cond.selects "SpectrumAccess$ByPriority" ({ cls := "SpectrumAccess$ByPriority", name := "compare", desc := "(LSpectrumAccess$Waiting;LSpectrumAccess$Waiting;)I" } : Jvm.MethodName) ({ cls := "SpectrumAccess$ByPriority", name := "compare", desc := "(LSpectrumAccess$Waiting;LSpectrumAccess$Waiting;)I" } : Jvm.MethodName)) ∈ lw_all := lw_g (lw_at lw_m9 135 rfl) rfl
theorem q2195 : (Jvm.Cond.code ({ cls := "SpectrumAccess$ByPriority", name := "compare", desc := "(LSpectrumAccess$Waiting;LSpectrumAccess$Waiting;)I" } : Jvm.MethodName) prog_3_method_2_code (3 : Nat) (Option.some Jvm.ClassFile.FieldType.int)) ∈ lw_all := lw_g (lw_at lw_m9 136 rfl) rfl
theorem q2196 : (Jvm.Cond.methodLink "SpectrumAccess$ByPriority" (17 : Nat) ({ cls := "java/lang/Integer", name := "compare", desc := "(II)I" } : Jvm.MethodName)) ∈ lw_all := lw_g (lw_at lw_m9 137 rfl) rfl
theorem q3500 : (Jvm.Cond.castable "SpectrumAccess$ByPriority" "java/lang/Object") ∈ lw_tbl := lw_at lw_m15 1 rfl


/-! SpectrumAccess$Waiting -/
set_option maxRecDepth 100000
def RX7 : String := "SpectrumAccess$Waiting"
def TX7 : u_T := fun k => match k with
  | 0 => ("SpectrumAccess$Waiting", "device", "I", true)
  | 1 => ("SpectrumAccess$Waiting", "since", "I", false)
  | _ => ("SpectrumAccess$Waiting", "isLicensed", "Z", false)
def tyX7 : Nat → FieldType := fun k => match k with
  | 0 => .int
  | 1 => .int
  | _ => .boolean
abbrev wsX70 : List Cond := u_ws RX7 TX7 3
theorem nmX7 : ∀ a, a < 3 → ∀ b, b < 3 → a ≠ b → (TX7 a).2.1 ≠ (TX7 b).2.1 := by decide +kernel
theorem tyX7_ok : ∀ k, k < 3 → parseFieldDescriptor (TX7 k).2.2.1 = some (tyX7 k) := by decide +kernel
abbrev cX7_init : ByteArray := prog_20_method_1_code
def yX7_init : MethodName := ⟨RX7, "<init>", "(I)V"⟩
def dkwX7_init_0 : List UInt8 := [42, 183, 0, 1, 42, 27, 181, 0, 7, 177]
abbrev dktX7_init_0 : List UInt8 := dkwX7_init_0 ++ []
theorem dksX7_init_0 : cX7_init.data.toList.drop 0 = dktX7_init_0 := by decide +kernel
theorem dX7_init_0 : decode cX7_init 0 = .ok (.aload_n 0, 1) := dk_42 (dk_at dksX7_init_0 0 rfl rfl)
theorem dX7_init_1 : decode cX7_init 1 = .ok (.invokespecial 1, 3) := dk_183 0 1 (dk_at dksX7_init_0 1 rfl rfl)
theorem dX7_init_4 : decode cX7_init 4 = .ok (.aload_n 0, 1) := dk_42 (dk_at dksX7_init_0 4 rfl rfl)
theorem dX7_init_5 : decode cX7_init 5 = .ok (.iload_n 1, 1) := dk_27 (dk_at dksX7_init_0 5 rfl rfl)
theorem dX7_init_6 : decode cX7_init 6 = .ok (.putfield 7, 3) := dk_181 0 7 (dk_at dksX7_init_0 6 rfl rfl)
theorem dX7_init_9 : decode cX7_init 9 = .ok (.return_, 1) := dk_177 (dk_at dksX7_init_0 9 rfl rfl)
theorem q170 : (Jvm.Cond.initialized "SpectrumAccess$Waiting") ∈ lw_all := lw_g (lw_at lw_m1 31 rfl) rfl
theorem q822 : (Jvm.Cond.instantiable "SpectrumAccess$Waiting" (3 : Nat)) ∈ lw_all := lw_g (lw_at lw_m3 203 rfl) rfl
theorem q824 : (Jvm.Cond.instanceMethod ({ cls := "SpectrumAccess$Waiting", name := "<init>", desc := "(I)V" } : Jvm.MethodName)) ∈ lw_all := lw_g (lw_at lw_m3 205 rfl) rfl
theorem q825 : (Jvm.Cond.code ({ cls := "SpectrumAccess$Waiting", name := "<init>", desc := "(I)V" } : Jvm.MethodName) prog_20_method_1_code (2 : Nat) (Option.none : Option Jvm.ClassFile.FieldType)) ∈ lw_all := lw_g (lw_at lw_m3 206 rfl) rfl
theorem q826 : (Jvm.Cond.methodLink "SpectrumAccess$Waiting" (1 : Nat) ({ cls := "java/lang/Object", name := "<init>", desc := "()V" } : Jvm.MethodName)) ∈ lw_all := lw_g (lw_at lw_m3 207 rfl) rfl
theorem q827 : (Jvm.Cond.fieldLink "SpectrumAccess$Waiting" (7 : Nat) "SpectrumAccess$Waiting" "device" "I") ∈ lw_all := lw_g (lw_at lw_m3 208 rfl) rfl
theorem q834 : (Jvm.Cond.laysFinal "SpectrumAccess$Waiting" "SpectrumAccess$Waiting" "device" "I") ∈ lw_all := lw_g (lw_at lw_m3 215 rfl) rfl
theorem q835 : (Jvm.Cond.soleField "SpectrumAccess$Waiting" "device") ∈ lw_all := lw_g (lw_at lw_m3 216 rfl) rfl
theorem q836 : (Jvm.Cond.lays "SpectrumAccess$Waiting" "SpectrumAccess$Waiting" "since" "I") ∈ lw_all := lw_g (lw_at lw_m3 217 rfl) rfl
theorem q837 : (Jvm.Cond.soleField "SpectrumAccess$Waiting" "since") ∈ lw_all := lw_g (lw_at lw_m3 218 rfl) rfl
theorem q838 : (Jvm.Cond.lays "SpectrumAccess$Waiting" "SpectrumAccess$Waiting" "isLicensed" "Z") ∈ lw_all := lw_g (lw_at lw_m3 219 rfl) rfl
theorem q839 : (Jvm.Cond.soleField "SpectrumAccess$Waiting" "isLicensed") ∈ lw_all := lw_g (lw_at lw_m3 220 rfl) rfl
theorem q840 : (Jvm.Cond.superclass "SpectrumAccess$Waiting" "java/lang/Object") ∈ lw_all := lw_g (lw_at lw_m3 221 rfl) rfl
theorem q884 : (Jvm.Cond.selects "SpectrumAccess$Waiting" ({ cls := "java/lang/Object", name := "getClass", desc := "()Ljava/lang/Class;" } : Jvm.MethodName) ({ cls := "java/lang/Object", name := "getClass", desc := "()Ljava/lang/Class;" } : Jvm.MethodName)) ∈ lw_all := lw_g (lw_at lw_m4 25 rfl) rfl
theorem q3501 : (Jvm.Cond.castable "SpectrumAccess$Waiting" "java/lang/Object") ∈ lw_tbl := lw_at lw_m15 2 rfl
theorem in_X7 : ∀ w ∈ wsX70, w ∈ lw_all := lw_in wsX70 [834, 836, 838] (by decide +kernel) (by decide +kernel)


/-! SpectrumAccess$State -/
set_option maxRecDepth 100000
def RX8 : String := "SpectrumAccess$State"
def TX8 : u_T := fun k => match k with
  | 0 => ("SpectrumAccess$State", "region", "LSpectrumAccess$Region;", true)
  | 1 => ("SpectrumAccess$State", "incumbents", "Ljava/util/List;", true)
  | 2 => ("SpectrumAccess$State", "until", "[I", true)
  | 3 => ("SpectrumAccess$State", "states", "[I", true)
  | 4 => ("SpectrumAccess$State", "channel", "[I", true)
  | 5 => ("SpectrumAccess$State", "power", "[I", true)
  | 6 => ("SpectrumAccess$State", "greatest", "[I", true)
  | 7 => ("SpectrumAccess$State", "since", "[I", true)
  | 8 => ("SpectrumAccess$State", "moves", "[I", true)
  | 9 => ("SpectrumAccess$State", "airtime", "[I", true)
  | 10 => ("SpectrumAccess$State", "events", "[[I", true)
  | 11 => ("SpectrumAccess$State", "time", "I", false)
  | 12 => ("SpectrumAccess$State", "allMoves", "I", false)
  | 13 => ("SpectrumAccess$State", "leaseEnds", "I", false)
  | 14 => ("SpectrumAccess$State", "eventCount", "I", false)
  | 15 => ("SpectrumAccess$State", "grantedPower", "I", false)
  | 16 => ("SpectrumAccess$State", "left", "[[I", true)
  | _ => ("SpectrumAccess$State", "isLaid", "Z", false)
def tyX8 : Nat → FieldType := fun k => match k with
  | 0 => .object "SpectrumAccess$Region"
  | 1 => .object "java/util/List"
  | 2 => .array .int
  | 3 => .array .int
  | 4 => .array .int
  | 5 => .array .int
  | 6 => .array .int
  | 7 => .array .int
  | 8 => .array .int
  | 9 => .array .int
  | 10 => .array (.array .int)
  | 11 => .int
  | 12 => .int
  | 13 => .int
  | 14 => .int
  | 15 => .int
  | 16 => .array (.array .int)
  | _ => .boolean
abbrev wsX80 : List Cond := u_ws RX8 TX8 18
set_option maxRecDepth 100000 in
theorem nmX8 : ∀ a, a < 18 → ∀ b, b < 18 → a ≠ b → (TX8 a).2.1 ≠ (TX8 b).2.1 := by decide +kernel
set_option maxRecDepth 100000 in
theorem tyX8_ok : ∀ k, k < 18 → parseFieldDescriptor (TX8 k).2.2.1 = some (tyX8 k) := by decide +kernel
abbrev cX8_count : ByteArray := prog_18_method_37_code
def yX8_count : MethodName := ⟨RX8, "count", "(I)I"⟩
def dkwX8_count_1 : List UInt8 := [180, 0, 24, 29, 46, 27, 160, 0, 7, 4, 167, 0, 4, 3, 96, 61, 132, 3, 1, 167, 255, 219, 28, 172]
abbrev dktX8_count_1 : List UInt8 := dkwX8_count_1 ++ []
def dkwX8_count_0 : List UInt8 := [3, 61, 3, 62, 29, 42, 180, 0, 53, 180, 0, 102, 185, 0, 94, 1, 0, 162, 0, 27, 28, 42]
abbrev dktX8_count_0 : List UInt8 := dkwX8_count_0 ++ dktX8_count_1
theorem dksX8_count_0 : cX8_count.data.toList.drop 0 = dktX8_count_0 := by decide +kernel
theorem dksX8_count_1 : cX8_count.data.toList.drop 22 = dktX8_count_1 := dk_seg dksX8_count_0 22 rfl rfl
theorem dX8_count_0 : decode cX8_count 0 = .ok (.iconst 0, 1) := dk_3 (dk_at dksX8_count_0 0 rfl rfl)
theorem dX8_count_1 : decode cX8_count 1 = .ok (.istore_n 2, 1) := dk_61 (dk_at dksX8_count_0 1 rfl rfl)
theorem dX8_count_2 : decode cX8_count 2 = .ok (.iconst 0, 1) := dk_3 (dk_at dksX8_count_0 2 rfl rfl)
theorem dX8_count_3 : decode cX8_count 3 = .ok (.istore_n 3, 1) := dk_62 (dk_at dksX8_count_0 3 rfl rfl)
theorem dX8_count_4 : decode cX8_count 4 = .ok (.iload_n 3, 1) := dk_29 (dk_at dksX8_count_0 4 rfl rfl)
theorem dX8_count_5 : decode cX8_count 5 = .ok (.aload_n 0, 1) := dk_42 (dk_at dksX8_count_0 5 rfl rfl)
theorem dX8_count_6 : decode cX8_count 6 = .ok (.getfield 53, 3) := dk_180 0 53 (dk_at dksX8_count_0 6 rfl rfl)
theorem dX8_count_9 : decode cX8_count 9 = .ok (.getfield 102, 3) := dk_180 0 102 (dk_at dksX8_count_0 9 rfl rfl)
theorem dX8_count_12 : decode cX8_count 12 = .ok (.invokeinterface 94 1, 5) := by decide +kernel
theorem dX8_count_17 : decode cX8_count 17 = .ok (.if_icmp .ge 27, 3) := dk_162 0 27 (dk_at dksX8_count_0 17 rfl rfl)
theorem dX8_count_20 : decode cX8_count 20 = .ok (.iload_n 2, 1) := dk_28 (dk_at dksX8_count_0 20 rfl rfl)
theorem dX8_count_21 : decode cX8_count 21 = .ok (.aload_n 0, 1) := dk_42 (dk_at dksX8_count_0 21 rfl rfl)
theorem dX8_count_22 : decode cX8_count 22 = .ok (.getfield 24, 3) := dk_180 0 24 (dk_at dksX8_count_1 0 rfl rfl)
theorem dX8_count_25 : decode cX8_count 25 = .ok (.iload_n 3, 1) := dk_29 (dk_at dksX8_count_1 3 rfl rfl)
theorem dX8_count_26 : decode cX8_count 26 = .ok (.iaload, 1) := dk_46 (dk_at dksX8_count_1 4 rfl rfl)
theorem dX8_count_27 : decode cX8_count 27 = .ok (.iload_n 1, 1) := dk_27 (dk_at dksX8_count_1 5 rfl rfl)
theorem dX8_count_28 : decode cX8_count 28 = .ok (.if_icmp .ne 7, 3) := dk_160 0 7 (dk_at dksX8_count_1 6 rfl rfl)
theorem dX8_count_31 : decode cX8_count 31 = .ok (.iconst 1, 1) := dk_4 (dk_at dksX8_count_1 9 rfl rfl)
theorem dX8_count_32 : decode cX8_count 32 = .ok (.goto 4, 3) := dk_167 0 4 (dk_at dksX8_count_1 10 rfl rfl)
theorem dX8_count_35 : decode cX8_count 35 = .ok (.iconst 0, 1) := dk_3 (dk_at dksX8_count_1 13 rfl rfl)
theorem dX8_count_36 : decode cX8_count 36 = .ok (.iadd, 1) := dk_96 (dk_at dksX8_count_1 14 rfl rfl)
theorem dX8_count_37 : decode cX8_count 37 = .ok (.istore_n 2, 1) := dk_61 (dk_at dksX8_count_1 15 rfl rfl)
theorem dX8_count_38 : decode cX8_count 38 = .ok (.iinc 3 1, 3) := dk_132 3 1 (dk_at dksX8_count_1 16 rfl rfl)
theorem dX8_count_41 : decode cX8_count 41 = .ok (.goto (-37), 3) := dk_167 255 219 (dk_at dksX8_count_1 19 rfl rfl)
theorem dX8_count_44 : decode cX8_count 44 = .ok (.iload_n 2, 1) := dk_28 (dk_at dksX8_count_1 22 rfl rfl)
theorem dX8_count_45 : decode cX8_count 45 = .ok (.ireturn, 1) := dk_172 (dk_at dksX8_count_1 23 rfl rfl)
abbrev cX8_init : ByteArray := prog_18_method_1_code
def yX8_init : MethodName := ⟨RX8, "<init>", "(LSpectrumAccess$Region;)V"⟩
def dkwX8_init_5 : List UInt8 := [28, 2, 79, 132, 2, 1, 167, 255, 240, 177]
abbrev dktX8_init_5 : List UInt8 := dkwX8_init_5 ++ []
def dkwX8_init_4 : List UInt8 := [197, 0, 45, 2, 181, 0, 50, 42, 43, 181, 0, 53, 3, 61, 28, 16, 16, 162, 0, 16, 42, 180, 0, 27]
abbrev dktX8_init_4 : List UInt8 := dkwX8_init_4 ++ dktX8_init_5
def dkwX8_init_3 : List UInt8 := [42, 16, 16, 188, 10, 181, 0, 42, 42, 7, 17, 1, 44, 197, 0, 45, 2, 181, 0, 47, 42, 6, 16, 80]
abbrev dktX8_init_3 : List UInt8 := dkwX8_init_3 ++ dktX8_init_4
def dkwX8_init_2 : List UInt8 := [42, 16, 16, 188, 10, 181, 0, 33, 42, 16, 16, 188, 10, 181, 0, 36, 42, 16, 16, 188, 10, 181, 0, 39]
abbrev dktX8_init_2 : List UInt8 := dkwX8_init_2 ++ dktX8_init_3
def dkwX8_init_1 : List UInt8 := [42, 16, 16, 188, 10, 181, 0, 24, 42, 16, 16, 188, 10, 181, 0, 27, 42, 16, 16, 188, 10, 181, 0, 30]
abbrev dktX8_init_1 : List UInt8 := dkwX8_init_1 ++ dktX8_init_2
def dkwX8_init_0 : List UInt8 := [42, 183, 0, 3, 42, 187, 0, 9, 89, 7, 183, 0, 11, 181, 0, 14, 42, 16, 10, 188, 10, 181, 0, 20]
abbrev dktX8_init_0 : List UInt8 := dkwX8_init_0 ++ dktX8_init_1
theorem dksX8_init_0 : cX8_init.data.toList.drop 0 = dktX8_init_0 := by decide +kernel
theorem dksX8_init_1 : cX8_init.data.toList.drop 24 = dktX8_init_1 := dk_seg dksX8_init_0 24 rfl rfl
theorem dksX8_init_2 : cX8_init.data.toList.drop 48 = dktX8_init_2 := dk_seg dksX8_init_1 24 rfl rfl
theorem dksX8_init_3 : cX8_init.data.toList.drop 72 = dktX8_init_3 := dk_seg dksX8_init_2 24 rfl rfl
theorem dksX8_init_4 : cX8_init.data.toList.drop 96 = dktX8_init_4 := dk_seg dksX8_init_3 24 rfl rfl
theorem dksX8_init_5 : cX8_init.data.toList.drop 120 = dktX8_init_5 := dk_seg dksX8_init_4 24 rfl rfl
theorem dX8_init_0 : decode cX8_init 0 = .ok (.aload_n 0, 1) := dk_42 (dk_at dksX8_init_0 0 rfl rfl)
theorem dX8_init_1 : decode cX8_init 1 = .ok (.invokespecial 3, 3) := dk_183 0 3 (dk_at dksX8_init_0 1 rfl rfl)
theorem dX8_init_4 : decode cX8_init 4 = .ok (.aload_n 0, 1) := dk_42 (dk_at dksX8_init_0 4 rfl rfl)
theorem dX8_init_5 : decode cX8_init 5 = .ok (.new 9, 3) := dk_187 0 9 (dk_at dksX8_init_0 5 rfl rfl)
theorem dX8_init_8 : decode cX8_init 8 = .ok (.dup, 1) := dk_89 (dk_at dksX8_init_0 8 rfl rfl)
theorem dX8_init_9 : decode cX8_init 9 = .ok (.iconst 4, 1) := dk_7 (dk_at dksX8_init_0 9 rfl rfl)
theorem dX8_init_10 : decode cX8_init 10 = .ok (.invokespecial 11, 3) := dk_183 0 11 (dk_at dksX8_init_0 10 rfl rfl)
theorem dX8_init_13 : decode cX8_init 13 = .ok (.putfield 14, 3) := dk_181 0 14 (dk_at dksX8_init_0 13 rfl rfl)
theorem dX8_init_16 : decode cX8_init 16 = .ok (.aload_n 0, 1) := dk_42 (dk_at dksX8_init_0 16 rfl rfl)
theorem dX8_init_17 : decode cX8_init 17 = .ok (.bipush 10, 2) := dk_16 10 (dk_at dksX8_init_0 17 rfl rfl)
theorem dX8_init_19 : decode cX8_init 19 = .ok (.newarray .int, 2) := dk_188_10 (dk_at dksX8_init_0 19 rfl rfl)
theorem dX8_init_21 : decode cX8_init 21 = .ok (.putfield 20, 3) := dk_181 0 20 (dk_at dksX8_init_0 21 rfl rfl)
theorem dX8_init_24 : decode cX8_init 24 = .ok (.aload_n 0, 1) := dk_42 (dk_at dksX8_init_1 0 rfl rfl)
theorem dX8_init_25 : decode cX8_init 25 = .ok (.bipush 16, 2) := dk_16 16 (dk_at dksX8_init_1 1 rfl rfl)
theorem dX8_init_27 : decode cX8_init 27 = .ok (.newarray .int, 2) := dk_188_10 (dk_at dksX8_init_1 3 rfl rfl)
theorem dX8_init_29 : decode cX8_init 29 = .ok (.putfield 24, 3) := dk_181 0 24 (dk_at dksX8_init_1 5 rfl rfl)
theorem dX8_init_32 : decode cX8_init 32 = .ok (.aload_n 0, 1) := dk_42 (dk_at dksX8_init_1 8 rfl rfl)
theorem dX8_init_33 : decode cX8_init 33 = .ok (.bipush 16, 2) := dk_16 16 (dk_at dksX8_init_1 9 rfl rfl)
theorem dX8_init_35 : decode cX8_init 35 = .ok (.newarray .int, 2) := dk_188_10 (dk_at dksX8_init_1 11 rfl rfl)
theorem dX8_init_37 : decode cX8_init 37 = .ok (.putfield 27, 3) := dk_181 0 27 (dk_at dksX8_init_1 13 rfl rfl)
theorem dX8_init_40 : decode cX8_init 40 = .ok (.aload_n 0, 1) := dk_42 (dk_at dksX8_init_1 16 rfl rfl)
theorem dX8_init_41 : decode cX8_init 41 = .ok (.bipush 16, 2) := dk_16 16 (dk_at dksX8_init_1 17 rfl rfl)
theorem dX8_init_43 : decode cX8_init 43 = .ok (.newarray .int, 2) := dk_188_10 (dk_at dksX8_init_1 19 rfl rfl)
theorem dX8_init_45 : decode cX8_init 45 = .ok (.putfield 30, 3) := dk_181 0 30 (dk_at dksX8_init_1 21 rfl rfl)
theorem dX8_init_48 : decode cX8_init 48 = .ok (.aload_n 0, 1) := dk_42 (dk_at dksX8_init_2 0 rfl rfl)
theorem dX8_init_49 : decode cX8_init 49 = .ok (.bipush 16, 2) := dk_16 16 (dk_at dksX8_init_2 1 rfl rfl)
theorem dX8_init_51 : decode cX8_init 51 = .ok (.newarray .int, 2) := dk_188_10 (dk_at dksX8_init_2 3 rfl rfl)
theorem dX8_init_53 : decode cX8_init 53 = .ok (.putfield 33, 3) := dk_181 0 33 (dk_at dksX8_init_2 5 rfl rfl)
theorem dX8_init_56 : decode cX8_init 56 = .ok (.aload_n 0, 1) := dk_42 (dk_at dksX8_init_2 8 rfl rfl)
theorem dX8_init_57 : decode cX8_init 57 = .ok (.bipush 16, 2) := dk_16 16 (dk_at dksX8_init_2 9 rfl rfl)
theorem dX8_init_59 : decode cX8_init 59 = .ok (.newarray .int, 2) := dk_188_10 (dk_at dksX8_init_2 11 rfl rfl)
theorem dX8_init_61 : decode cX8_init 61 = .ok (.putfield 36, 3) := dk_181 0 36 (dk_at dksX8_init_2 13 rfl rfl)
theorem dX8_init_64 : decode cX8_init 64 = .ok (.aload_n 0, 1) := dk_42 (dk_at dksX8_init_2 16 rfl rfl)
theorem dX8_init_65 : decode cX8_init 65 = .ok (.bipush 16, 2) := dk_16 16 (dk_at dksX8_init_2 17 rfl rfl)
theorem dX8_init_67 : decode cX8_init 67 = .ok (.newarray .int, 2) := dk_188_10 (dk_at dksX8_init_2 19 rfl rfl)
theorem dX8_init_69 : decode cX8_init 69 = .ok (.putfield 39, 3) := dk_181 0 39 (dk_at dksX8_init_2 21 rfl rfl)
theorem dX8_init_72 : decode cX8_init 72 = .ok (.aload_n 0, 1) := dk_42 (dk_at dksX8_init_3 0 rfl rfl)
theorem dX8_init_73 : decode cX8_init 73 = .ok (.bipush 16, 2) := dk_16 16 (dk_at dksX8_init_3 1 rfl rfl)
theorem dX8_init_75 : decode cX8_init 75 = .ok (.newarray .int, 2) := dk_188_10 (dk_at dksX8_init_3 3 rfl rfl)
theorem dX8_init_77 : decode cX8_init 77 = .ok (.putfield 42, 3) := dk_181 0 42 (dk_at dksX8_init_3 5 rfl rfl)
theorem dX8_init_80 : decode cX8_init 80 = .ok (.aload_n 0, 1) := dk_42 (dk_at dksX8_init_3 8 rfl rfl)
theorem dX8_init_81 : decode cX8_init 81 = .ok (.iconst 4, 1) := dk_7 (dk_at dksX8_init_3 9 rfl rfl)
theorem dX8_init_82 : decode cX8_init 82 = .ok (.sipush 300, 3) := dk_17 1 44 (dk_at dksX8_init_3 10 rfl rfl)
theorem dX8_init_85 : decode cX8_init 85 = .ok (.multianewarray 45 2, 4) := by decide +kernel
theorem dX8_init_89 : decode cX8_init 89 = .ok (.putfield 47, 3) := dk_181 0 47 (dk_at dksX8_init_3 17 rfl rfl)
theorem dX8_init_92 : decode cX8_init 92 = .ok (.aload_n 0, 1) := dk_42 (dk_at dksX8_init_3 20 rfl rfl)
theorem dX8_init_93 : decode cX8_init 93 = .ok (.iconst 3, 1) := dk_6 (dk_at dksX8_init_3 21 rfl rfl)
theorem dX8_init_94 : decode cX8_init 94 = .ok (.bipush 80, 2) := dk_16 80 (dk_at dksX8_init_3 22 rfl rfl)
theorem dX8_init_96 : decode cX8_init 96 = .ok (.multianewarray 45 2, 4) := by decide +kernel
theorem dX8_init_100 : decode cX8_init 100 = .ok (.putfield 50, 3) := dk_181 0 50 (dk_at dksX8_init_4 4 rfl rfl)
theorem dX8_init_103 : decode cX8_init 103 = .ok (.aload_n 0, 1) := dk_42 (dk_at dksX8_init_4 7 rfl rfl)
theorem dX8_init_104 : decode cX8_init 104 = .ok (.aload_n 1, 1) := dk_43 (dk_at dksX8_init_4 8 rfl rfl)
theorem dX8_init_105 : decode cX8_init 105 = .ok (.putfield 53, 3) := dk_181 0 53 (dk_at dksX8_init_4 9 rfl rfl)
theorem dX8_init_108 : decode cX8_init 108 = .ok (.iconst 0, 1) := dk_3 (dk_at dksX8_init_4 12 rfl rfl)
theorem dX8_init_109 : decode cX8_init 109 = .ok (.istore_n 2, 1) := dk_61 (dk_at dksX8_init_4 13 rfl rfl)
theorem dX8_init_110 : decode cX8_init 110 = .ok (.iload_n 2, 1) := dk_28 (dk_at dksX8_init_4 14 rfl rfl)
theorem dX8_init_111 : decode cX8_init 111 = .ok (.bipush 16, 2) := dk_16 16 (dk_at dksX8_init_4 15 rfl rfl)
theorem dX8_init_113 : decode cX8_init 113 = .ok (.if_icmp .ge 16, 3) := dk_162 0 16 (dk_at dksX8_init_4 17 rfl rfl)
theorem dX8_init_116 : decode cX8_init 116 = .ok (.aload_n 0, 1) := dk_42 (dk_at dksX8_init_4 20 rfl rfl)
theorem dX8_init_117 : decode cX8_init 117 = .ok (.getfield 27, 3) := dk_180 0 27 (dk_at dksX8_init_4 21 rfl rfl)
theorem dX8_init_120 : decode cX8_init 120 = .ok (.iload_n 2, 1) := dk_28 (dk_at dksX8_init_5 0 rfl rfl)
theorem dX8_init_121 : decode cX8_init 121 = .ok (.iconst (-1), 1) := dk_2 (dk_at dksX8_init_5 1 rfl rfl)
theorem dX8_init_122 : decode cX8_init 122 = .ok (.iastore, 1) := dk_79 (dk_at dksX8_init_5 2 rfl rfl)
theorem dX8_init_123 : decode cX8_init 123 = .ok (.iinc 2 1, 3) := dk_132 2 1 (dk_at dksX8_init_5 3 rfl rfl)
theorem dX8_init_126 : decode cX8_init 126 = .ok (.goto (-16), 3) := dk_167 255 240 (dk_at dksX8_init_5 6 rfl rfl)
theorem dX8_init_129 : decode cX8_init 129 = .ok (.return_, 1) := dk_177 (dk_at dksX8_init_5 9 rfl rfl)
abbrev cX8_add : ByteArray := prog_18_method_5_code
def yX8_add : MethodName := ⟨RX8, "add", "(LSpectrumAccess$Incumbent;I)I"⟩
def dkwX8_add_1 : List UInt8 := [185, 0, 98, 2, 0, 87, 42, 180, 0, 14, 185, 0, 94, 1, 0, 4, 100, 172]
abbrev dktX8_add_1 : List UInt8 := dkwX8_add_1 ++ []
def dkwX8_add_0 : List UInt8 := [42, 180, 0, 20, 42, 180, 0, 14, 185, 0, 94, 1, 0, 28, 79, 42, 180, 0, 14, 43]
abbrev dktX8_add_0 : List UInt8 := dkwX8_add_0 ++ dktX8_add_1
theorem dksX8_add_0 : cX8_add.data.toList.drop 0 = dktX8_add_0 := by decide +kernel
theorem dksX8_add_1 : cX8_add.data.toList.drop 20 = dktX8_add_1 := dk_seg dksX8_add_0 20 rfl rfl
theorem dX8_add_0 : decode cX8_add 0 = .ok (.aload_n 0, 1) := dk_42 (dk_at dksX8_add_0 0 rfl rfl)
theorem dX8_add_1 : decode cX8_add 1 = .ok (.getfield 20, 3) := dk_180 0 20 (dk_at dksX8_add_0 1 rfl rfl)
theorem dX8_add_4 : decode cX8_add 4 = .ok (.aload_n 0, 1) := dk_42 (dk_at dksX8_add_0 4 rfl rfl)
theorem dX8_add_5 : decode cX8_add 5 = .ok (.getfield 14, 3) := dk_180 0 14 (dk_at dksX8_add_0 5 rfl rfl)
theorem dX8_add_8 : decode cX8_add 8 = .ok (.invokeinterface 94 1, 5) := by decide +kernel
theorem dX8_add_13 : decode cX8_add 13 = .ok (.iload_n 2, 1) := dk_28 (dk_at dksX8_add_0 13 rfl rfl)
theorem dX8_add_14 : decode cX8_add 14 = .ok (.iastore, 1) := dk_79 (dk_at dksX8_add_0 14 rfl rfl)
theorem dX8_add_15 : decode cX8_add 15 = .ok (.aload_n 0, 1) := dk_42 (dk_at dksX8_add_0 15 rfl rfl)
theorem dX8_add_16 : decode cX8_add 16 = .ok (.getfield 14, 3) := dk_180 0 14 (dk_at dksX8_add_0 16 rfl rfl)
theorem dX8_add_19 : decode cX8_add 19 = .ok (.aload_n 1, 1) := dk_43 (dk_at dksX8_add_0 19 rfl rfl)
theorem dX8_add_20 : decode cX8_add 20 = .ok (.invokeinterface 98 2, 5) := by decide +kernel
theorem dX8_add_25 : decode cX8_add 25 = .ok (.pop, 1) := dk_87 (dk_at dksX8_add_1 5 rfl rfl)
theorem dX8_add_26 : decode cX8_add 26 = .ok (.aload_n 0, 1) := dk_42 (dk_at dksX8_add_1 6 rfl rfl)
theorem dX8_add_27 : decode cX8_add 27 = .ok (.getfield 14, 3) := dk_180 0 14 (dk_at dksX8_add_1 7 rfl rfl)
theorem dX8_add_30 : decode cX8_add 30 = .ok (.invokeinterface 94 1, 5) := by decide +kernel
theorem dX8_add_35 : decode cX8_add 35 = .ok (.iconst 1, 1) := dk_4 (dk_at dksX8_add_1 15 rfl rfl)
theorem dX8_add_36 : decode cX8_add 36 = .ok (.isub, 1) := dk_100 (dk_at dksX8_add_1 16 rfl rfl)
theorem dX8_add_37 : decode cX8_add 37 = .ok (.ireturn, 1) := dk_172 (dk_at dksX8_add_1 17 rfl rfl)
abbrev cX8_add_2 : ByteArray := prog_18_method_6_code
def yX8_add_2 : MethodName := ⟨RX8, "add", "(LSpectrumAccess$Device;I)V"⟩
def dkwX8_add_2_2 : List UInt8 := [153, 0, 7, 3, 167, 0, 4, 4, 79, 177]
abbrev dktX8_add_2_2 : List UInt8 := dkwX8_add_2_2 ++ []
def dkwX8_add_2_1 : List UInt8 := [185, 0, 98, 2, 0, 87, 42, 180, 0, 33, 29, 28, 79, 42, 180, 0, 24, 29, 43, 180, 0, 107]
abbrev dktX8_add_2_1 : List UInt8 := dkwX8_add_2_1 ++ dktX8_add_2_2
def dkwX8_add_2_0 : List UInt8 := [42, 180, 0, 53, 180, 0, 102, 185, 0, 94, 1, 0, 62, 42, 180, 0, 53, 180, 0, 102, 43]
abbrev dktX8_add_2_0 : List UInt8 := dkwX8_add_2_0 ++ dktX8_add_2_1
theorem dksX8_add_2_0 : cX8_add_2.data.toList.drop 0 = dktX8_add_2_0 := by decide +kernel
theorem dksX8_add_2_1 : cX8_add_2.data.toList.drop 21 = dktX8_add_2_1 := dk_seg dksX8_add_2_0 21 rfl rfl
theorem dksX8_add_2_2 : cX8_add_2.data.toList.drop 43 = dktX8_add_2_2 := dk_seg dksX8_add_2_1 22 rfl rfl
theorem dX8_add_2_0 : decode cX8_add_2 0 = .ok (.aload_n 0, 1) := dk_42 (dk_at dksX8_add_2_0 0 rfl rfl)
theorem dX8_add_2_1 : decode cX8_add_2 1 = .ok (.getfield 53, 3) := dk_180 0 53 (dk_at dksX8_add_2_0 1 rfl rfl)
theorem dX8_add_2_4 : decode cX8_add_2 4 = .ok (.getfield 102, 3) := dk_180 0 102 (dk_at dksX8_add_2_0 4 rfl rfl)
theorem dX8_add_2_7 : decode cX8_add_2 7 = .ok (.invokeinterface 94 1, 5) := by decide +kernel
theorem dX8_add_2_12 : decode cX8_add_2 12 = .ok (.istore_n 3, 1) := dk_62 (dk_at dksX8_add_2_0 12 rfl rfl)
theorem dX8_add_2_13 : decode cX8_add_2 13 = .ok (.aload_n 0, 1) := dk_42 (dk_at dksX8_add_2_0 13 rfl rfl)
theorem dX8_add_2_14 : decode cX8_add_2 14 = .ok (.getfield 53, 3) := dk_180 0 53 (dk_at dksX8_add_2_0 14 rfl rfl)
theorem dX8_add_2_17 : decode cX8_add_2 17 = .ok (.getfield 102, 3) := dk_180 0 102 (dk_at dksX8_add_2_0 17 rfl rfl)
theorem dX8_add_2_20 : decode cX8_add_2 20 = .ok (.aload_n 1, 1) := dk_43 (dk_at dksX8_add_2_0 20 rfl rfl)
theorem dX8_add_2_21 : decode cX8_add_2 21 = .ok (.invokeinterface 98 2, 5) := by decide +kernel
theorem dX8_add_2_26 : decode cX8_add_2 26 = .ok (.pop, 1) := dk_87 (dk_at dksX8_add_2_1 5 rfl rfl)
theorem dX8_add_2_27 : decode cX8_add_2 27 = .ok (.aload_n 0, 1) := dk_42 (dk_at dksX8_add_2_1 6 rfl rfl)
theorem dX8_add_2_28 : decode cX8_add_2 28 = .ok (.getfield 33, 3) := dk_180 0 33 (dk_at dksX8_add_2_1 7 rfl rfl)
theorem dX8_add_2_31 : decode cX8_add_2 31 = .ok (.iload_n 3, 1) := dk_29 (dk_at dksX8_add_2_1 10 rfl rfl)
theorem dX8_add_2_32 : decode cX8_add_2 32 = .ok (.iload_n 2, 1) := dk_28 (dk_at dksX8_add_2_1 11 rfl rfl)
theorem dX8_add_2_33 : decode cX8_add_2 33 = .ok (.iastore, 1) := dk_79 (dk_at dksX8_add_2_1 12 rfl rfl)
theorem dX8_add_2_34 : decode cX8_add_2 34 = .ok (.aload_n 0, 1) := dk_42 (dk_at dksX8_add_2_1 13 rfl rfl)
theorem dX8_add_2_35 : decode cX8_add_2 35 = .ok (.getfield 24, 3) := dk_180 0 24 (dk_at dksX8_add_2_1 14 rfl rfl)
theorem dX8_add_2_38 : decode cX8_add_2 38 = .ok (.iload_n 3, 1) := dk_29 (dk_at dksX8_add_2_1 17 rfl rfl)
theorem dX8_add_2_39 : decode cX8_add_2 39 = .ok (.aload_n 1, 1) := dk_43 (dk_at dksX8_add_2_1 18 rfl rfl)
theorem dX8_add_2_40 : decode cX8_add_2 40 = .ok (.getfield 107, 3) := dk_180 0 107 (dk_at dksX8_add_2_1 19 rfl rfl)
theorem dX8_add_2_43 : decode cX8_add_2 43 = .ok (.ifCond .eq 7, 3) := dk_153 0 7 (dk_at dksX8_add_2_2 0 rfl rfl)
theorem dX8_add_2_46 : decode cX8_add_2 46 = .ok (.iconst 0, 1) := dk_3 (dk_at dksX8_add_2_2 3 rfl rfl)
theorem dX8_add_2_47 : decode cX8_add_2 47 = .ok (.goto 4, 3) := dk_167 0 4 (dk_at dksX8_add_2_2 4 rfl rfl)
theorem dX8_add_2_50 : decode cX8_add_2 50 = .ok (.iconst 1, 1) := dk_4 (dk_at dksX8_add_2_2 7 rfl rfl)
theorem dX8_add_2_51 : decode cX8_add_2 51 = .ok (.iastore, 1) := dk_79 (dk_at dksX8_add_2_2 8 rfl rfl)
theorem dX8_add_2_52 : decode cX8_add_2 52 = .ok (.return_, 1) := dk_177 (dk_at dksX8_add_2_2 9 rfl rfl)
abbrev cX8_isProtected : ByteArray := prog_18_method_12_code
def yX8_isProtected : MethodName := ⟨RX8, "isProtected", "(I)Z"⟩
def dkwX8_isProtected_3 : List UInt8 := [161, 0, 18, 42, 180, 0, 53, 44, 182, 0, 167, 153, 0, 7, 4, 167, 0, 4, 3, 172]
abbrev dktX8_isProtected_3 : List UInt8 := dkwX8_isProtected_3 ++ []
def dkwX8_isProtected_2 : List UInt8 := [167, 0, 42, 3, 167, 0, 38, 42, 180, 0, 81, 44, 180, 0, 161, 42, 180, 0, 53, 180, 0, 164, 96]
abbrev dktX8_isProtected_2 : List UInt8 := dkwX8_isProtected_2 ++ dktX8_isProtected_3
def dkwX8_isProtected_1 : List UInt8 := [161, 0, 5, 3, 172, 44, 180, 0, 158, 153, 0, 22, 42, 180, 0, 81, 44, 180, 0, 161, 161, 0, 7, 4]
abbrev dktX8_isProtected_1 : List UInt8 := dkwX8_isProtected_1 ++ dktX8_isProtected_2
def dkwX8_isProtected_0 : List UInt8 := [42, 180, 0, 14, 27, 185, 0, 113, 2, 0, 192, 0, 156, 77, 42, 180, 0, 81, 42, 180, 0, 20, 27, 46]
abbrev dktX8_isProtected_0 : List UInt8 := dkwX8_isProtected_0 ++ dktX8_isProtected_1
theorem dksX8_isProtected_0 : cX8_isProtected.data.toList.drop 0 = dktX8_isProtected_0 := by decide +kernel
theorem dksX8_isProtected_1 : cX8_isProtected.data.toList.drop 24 = dktX8_isProtected_1 := dk_seg dksX8_isProtected_0 24 rfl rfl
theorem dksX8_isProtected_2 : cX8_isProtected.data.toList.drop 48 = dktX8_isProtected_2 := dk_seg dksX8_isProtected_1 24 rfl rfl
theorem dksX8_isProtected_3 : cX8_isProtected.data.toList.drop 71 = dktX8_isProtected_3 := dk_seg dksX8_isProtected_2 23 rfl rfl
theorem dX8_isProtected_0 : decode cX8_isProtected 0 = .ok (.aload_n 0, 1) := dk_42 (dk_at dksX8_isProtected_0 0 rfl rfl)
theorem dX8_isProtected_1 : decode cX8_isProtected 1 = .ok (.getfield 14, 3) := dk_180 0 14 (dk_at dksX8_isProtected_0 1 rfl rfl)
theorem dX8_isProtected_4 : decode cX8_isProtected 4 = .ok (.iload_n 1, 1) := dk_27 (dk_at dksX8_isProtected_0 4 rfl rfl)
theorem dX8_isProtected_5 : decode cX8_isProtected 5 = .ok (.invokeinterface 113 2, 5) := by decide +kernel
theorem dX8_isProtected_10 : decode cX8_isProtected 10 = .ok (.checkcast 156, 3) := dk_192 0 156 (dk_at dksX8_isProtected_0 10 rfl rfl)
theorem dX8_isProtected_13 : decode cX8_isProtected 13 = .ok (.astore_n 2, 1) := dk_77 (dk_at dksX8_isProtected_0 13 rfl rfl)
theorem dX8_isProtected_14 : decode cX8_isProtected 14 = .ok (.aload_n 0, 1) := dk_42 (dk_at dksX8_isProtected_0 14 rfl rfl)
theorem dX8_isProtected_15 : decode cX8_isProtected 15 = .ok (.getfield 81, 3) := dk_180 0 81 (dk_at dksX8_isProtected_0 15 rfl rfl)
theorem dX8_isProtected_18 : decode cX8_isProtected 18 = .ok (.aload_n 0, 1) := dk_42 (dk_at dksX8_isProtected_0 18 rfl rfl)
theorem dX8_isProtected_19 : decode cX8_isProtected 19 = .ok (.getfield 20, 3) := dk_180 0 20 (dk_at dksX8_isProtected_0 19 rfl rfl)
theorem dX8_isProtected_22 : decode cX8_isProtected 22 = .ok (.iload_n 1, 1) := dk_27 (dk_at dksX8_isProtected_0 22 rfl rfl)
theorem dX8_isProtected_23 : decode cX8_isProtected 23 = .ok (.iaload, 1) := dk_46 (dk_at dksX8_isProtected_0 23 rfl rfl)
theorem dX8_isProtected_24 : decode cX8_isProtected 24 = .ok (.if_icmp .lt 5, 3) := dk_161 0 5 (dk_at dksX8_isProtected_1 0 rfl rfl)
theorem dX8_isProtected_27 : decode cX8_isProtected 27 = .ok (.iconst 0, 1) := dk_3 (dk_at dksX8_isProtected_1 3 rfl rfl)
theorem dX8_isProtected_28 : decode cX8_isProtected 28 = .ok (.ireturn, 1) := dk_172 (dk_at dksX8_isProtected_1 4 rfl rfl)
theorem dX8_isProtected_29 : decode cX8_isProtected 29 = .ok (.aload_n 2, 1) := dk_44 (dk_at dksX8_isProtected_1 5 rfl rfl)
theorem dX8_isProtected_30 : decode cX8_isProtected 30 = .ok (.getfield 158, 3) := dk_180 0 158 (dk_at dksX8_isProtected_1 6 rfl rfl)
theorem dX8_isProtected_33 : decode cX8_isProtected 33 = .ok (.ifCond .eq 22, 3) := dk_153 0 22 (dk_at dksX8_isProtected_1 9 rfl rfl)
theorem dX8_isProtected_36 : decode cX8_isProtected 36 = .ok (.aload_n 0, 1) := dk_42 (dk_at dksX8_isProtected_1 12 rfl rfl)
theorem dX8_isProtected_37 : decode cX8_isProtected 37 = .ok (.getfield 81, 3) := dk_180 0 81 (dk_at dksX8_isProtected_1 13 rfl rfl)
theorem dX8_isProtected_40 : decode cX8_isProtected 40 = .ok (.aload_n 2, 1) := dk_44 (dk_at dksX8_isProtected_1 16 rfl rfl)
theorem dX8_isProtected_41 : decode cX8_isProtected 41 = .ok (.getfield 161, 3) := dk_180 0 161 (dk_at dksX8_isProtected_1 17 rfl rfl)
theorem dX8_isProtected_44 : decode cX8_isProtected 44 = .ok (.if_icmp .lt 7, 3) := dk_161 0 7 (dk_at dksX8_isProtected_1 20 rfl rfl)
theorem dX8_isProtected_47 : decode cX8_isProtected 47 = .ok (.iconst 1, 1) := dk_4 (dk_at dksX8_isProtected_1 23 rfl rfl)
theorem dX8_isProtected_48 : decode cX8_isProtected 48 = .ok (.goto 42, 3) := dk_167 0 42 (dk_at dksX8_isProtected_2 0 rfl rfl)
theorem dX8_isProtected_51 : decode cX8_isProtected 51 = .ok (.iconst 0, 1) := dk_3 (dk_at dksX8_isProtected_2 3 rfl rfl)
theorem dX8_isProtected_52 : decode cX8_isProtected 52 = .ok (.goto 38, 3) := dk_167 0 38 (dk_at dksX8_isProtected_2 4 rfl rfl)
theorem dX8_isProtected_55 : decode cX8_isProtected 55 = .ok (.aload_n 0, 1) := dk_42 (dk_at dksX8_isProtected_2 7 rfl rfl)
theorem dX8_isProtected_56 : decode cX8_isProtected 56 = .ok (.getfield 81, 3) := dk_180 0 81 (dk_at dksX8_isProtected_2 8 rfl rfl)
theorem dX8_isProtected_59 : decode cX8_isProtected 59 = .ok (.aload_n 2, 1) := dk_44 (dk_at dksX8_isProtected_2 11 rfl rfl)
theorem dX8_isProtected_60 : decode cX8_isProtected 60 = .ok (.getfield 161, 3) := dk_180 0 161 (dk_at dksX8_isProtected_2 12 rfl rfl)
theorem dX8_isProtected_63 : decode cX8_isProtected 63 = .ok (.aload_n 0, 1) := dk_42 (dk_at dksX8_isProtected_2 15 rfl rfl)
theorem dX8_isProtected_64 : decode cX8_isProtected 64 = .ok (.getfield 53, 3) := dk_180 0 53 (dk_at dksX8_isProtected_2 16 rfl rfl)
theorem dX8_isProtected_67 : decode cX8_isProtected 67 = .ok (.getfield 164, 3) := dk_180 0 164 (dk_at dksX8_isProtected_2 19 rfl rfl)
theorem dX8_isProtected_70 : decode cX8_isProtected 70 = .ok (.iadd, 1) := dk_96 (dk_at dksX8_isProtected_2 22 rfl rfl)
theorem dX8_isProtected_71 : decode cX8_isProtected 71 = .ok (.if_icmp .lt 18, 3) := dk_161 0 18 (dk_at dksX8_isProtected_3 0 rfl rfl)
theorem dX8_isProtected_74 : decode cX8_isProtected 74 = .ok (.aload_n 0, 1) := dk_42 (dk_at dksX8_isProtected_3 3 rfl rfl)
theorem dX8_isProtected_75 : decode cX8_isProtected 75 = .ok (.getfield 53, 3) := dk_180 0 53 (dk_at dksX8_isProtected_3 4 rfl rfl)
theorem dX8_isProtected_78 : decode cX8_isProtected 78 = .ok (.aload_n 2, 1) := dk_44 (dk_at dksX8_isProtected_3 7 rfl rfl)
theorem dX8_isProtected_79 : decode cX8_isProtected 79 = .ok (.invokevirtual 167, 3) := dk_182 0 167 (dk_at dksX8_isProtected_3 8 rfl rfl)
theorem dX8_isProtected_82 : decode cX8_isProtected 82 = .ok (.ifCond .eq 7, 3) := dk_153 0 7 (dk_at dksX8_isProtected_3 11 rfl rfl)
theorem dX8_isProtected_85 : decode cX8_isProtected 85 = .ok (.iconst 1, 1) := dk_4 (dk_at dksX8_isProtected_3 14 rfl rfl)
theorem dX8_isProtected_86 : decode cX8_isProtected 86 = .ok (.goto 4, 3) := dk_167 0 4 (dk_at dksX8_isProtected_3 15 rfl rfl)
theorem dX8_isProtected_89 : decode cX8_isProtected 89 = .ok (.iconst 0, 1) := dk_3 (dk_at dksX8_isProtected_3 18 rfl rfl)
theorem dX8_isProtected_90 : decode cX8_isProtected 90 = .ok (.ireturn, 1) := dk_172 (dk_at dksX8_isProtected_3 19 rfl rfl)
abbrev cX8_headroom : ByteArray := prog_18_method_13_code
def yX8_headroom : MethodName := ⟨RX8, "headroom", "(I)I"⟩
def dkwX8_headroom_2 : List UInt8 := [184, 0, 184, 62, 132, 4, 1, 167, 255, 225, 44, 180, 0, 187, 29, 100, 172]
abbrev dktX8_headroom_2 : List UInt8 := dkwX8_headroom_2 ++ []
def dkwX8_headroom_1 : List UInt8 := [44, 180, 0, 174, 163, 0, 28, 29, 42, 44, 21, 4, 42, 180, 0, 53, 180, 0, 177, 182, 0, 181]
abbrev dktX8_headroom_1 : List UInt8 := dkwX8_headroom_1 ++ dktX8_headroom_2
def dkwX8_headroom_0 : List UInt8 := [42, 180, 0, 14, 27, 185, 0, 113, 2, 0, 192, 0, 156, 77, 3, 62, 44, 180, 0, 171, 54, 4, 21, 4]
abbrev dktX8_headroom_0 : List UInt8 := dkwX8_headroom_0 ++ dktX8_headroom_1
theorem dksX8_headroom_0 : cX8_headroom.data.toList.drop 0 = dktX8_headroom_0 := by decide +kernel
theorem dksX8_headroom_1 : cX8_headroom.data.toList.drop 24 = dktX8_headroom_1 := dk_seg dksX8_headroom_0 24 rfl rfl
theorem dksX8_headroom_2 : cX8_headroom.data.toList.drop 46 = dktX8_headroom_2 := dk_seg dksX8_headroom_1 22 rfl rfl
theorem dX8_headroom_0 : decode cX8_headroom 0 = .ok (.aload_n 0, 1) := dk_42 (dk_at dksX8_headroom_0 0 rfl rfl)
theorem dX8_headroom_1 : decode cX8_headroom 1 = .ok (.getfield 14, 3) := dk_180 0 14 (dk_at dksX8_headroom_0 1 rfl rfl)
theorem dX8_headroom_4 : decode cX8_headroom 4 = .ok (.iload_n 1, 1) := dk_27 (dk_at dksX8_headroom_0 4 rfl rfl)
theorem dX8_headroom_5 : decode cX8_headroom 5 = .ok (.invokeinterface 113 2, 5) := by decide +kernel
theorem dX8_headroom_10 : decode cX8_headroom 10 = .ok (.checkcast 156, 3) := dk_192 0 156 (dk_at dksX8_headroom_0 10 rfl rfl)
theorem dX8_headroom_13 : decode cX8_headroom 13 = .ok (.astore_n 2, 1) := dk_77 (dk_at dksX8_headroom_0 13 rfl rfl)
theorem dX8_headroom_14 : decode cX8_headroom 14 = .ok (.iconst 0, 1) := dk_3 (dk_at dksX8_headroom_0 14 rfl rfl)
theorem dX8_headroom_15 : decode cX8_headroom 15 = .ok (.istore_n 3, 1) := dk_62 (dk_at dksX8_headroom_0 15 rfl rfl)
theorem dX8_headroom_16 : decode cX8_headroom 16 = .ok (.aload_n 2, 1) := dk_44 (dk_at dksX8_headroom_0 16 rfl rfl)
theorem dX8_headroom_17 : decode cX8_headroom 17 = .ok (.getfield 171, 3) := dk_180 0 171 (dk_at dksX8_headroom_0 17 rfl rfl)
theorem dX8_headroom_20 : decode cX8_headroom 20 = .ok (.istore 4, 2) := dk_54 4 (dk_at dksX8_headroom_0 20 rfl rfl)
theorem dX8_headroom_22 : decode cX8_headroom 22 = .ok (.iload 4, 2) := dk_21 4 (dk_at dksX8_headroom_0 22 rfl rfl)
theorem dX8_headroom_24 : decode cX8_headroom 24 = .ok (.aload_n 2, 1) := dk_44 (dk_at dksX8_headroom_1 0 rfl rfl)
theorem dX8_headroom_25 : decode cX8_headroom 25 = .ok (.getfield 174, 3) := dk_180 0 174 (dk_at dksX8_headroom_1 1 rfl rfl)
theorem dX8_headroom_28 : decode cX8_headroom 28 = .ok (.if_icmp .gt 28, 3) := dk_163 0 28 (dk_at dksX8_headroom_1 4 rfl rfl)
theorem dX8_headroom_31 : decode cX8_headroom 31 = .ok (.iload_n 3, 1) := dk_29 (dk_at dksX8_headroom_1 7 rfl rfl)
theorem dX8_headroom_32 : decode cX8_headroom 32 = .ok (.aload_n 0, 1) := dk_42 (dk_at dksX8_headroom_1 8 rfl rfl)
theorem dX8_headroom_33 : decode cX8_headroom 33 = .ok (.aload_n 2, 1) := dk_44 (dk_at dksX8_headroom_1 9 rfl rfl)
theorem dX8_headroom_34 : decode cX8_headroom 34 = .ok (.iload 4, 2) := dk_21 4 (dk_at dksX8_headroom_1 10 rfl rfl)
theorem dX8_headroom_36 : decode cX8_headroom 36 = .ok (.aload_n 0, 1) := dk_42 (dk_at dksX8_headroom_1 12 rfl rfl)
theorem dX8_headroom_37 : decode cX8_headroom 37 = .ok (.getfield 53, 3) := dk_180 0 53 (dk_at dksX8_headroom_1 13 rfl rfl)
theorem dX8_headroom_40 : decode cX8_headroom 40 = .ok (.getfield 177, 3) := dk_180 0 177 (dk_at dksX8_headroom_1 16 rfl rfl)
theorem dX8_headroom_43 : decode cX8_headroom 43 = .ok (.invokevirtual 181, 3) := dk_182 0 181 (dk_at dksX8_headroom_1 19 rfl rfl)
theorem dX8_headroom_46 : decode cX8_headroom 46 = .ok (.invokestatic 184, 3) := dk_184 0 184 (dk_at dksX8_headroom_2 0 rfl rfl)
theorem dX8_headroom_49 : decode cX8_headroom 49 = .ok (.istore_n 3, 1) := dk_62 (dk_at dksX8_headroom_2 3 rfl rfl)
theorem dX8_headroom_50 : decode cX8_headroom 50 = .ok (.iinc 4 1, 3) := dk_132 4 1 (dk_at dksX8_headroom_2 4 rfl rfl)
theorem dX8_headroom_53 : decode cX8_headroom 53 = .ok (.goto (-31), 3) := dk_167 255 225 (dk_at dksX8_headroom_2 7 rfl rfl)
theorem dX8_headroom_56 : decode cX8_headroom 56 = .ok (.aload_n 2, 1) := dk_44 (dk_at dksX8_headroom_2 10 rfl rfl)
theorem dX8_headroom_57 : decode cX8_headroom 57 = .ok (.getfield 187, 3) := dk_180 0 187 (dk_at dksX8_headroom_2 11 rfl rfl)
theorem dX8_headroom_60 : decode cX8_headroom 60 = .ok (.iload_n 3, 1) := dk_29 (dk_at dksX8_headroom_2 14 rfl rfl)
theorem dX8_headroom_61 : decode cX8_headroom 61 = .ok (.isub, 1) := dk_100 (dk_at dksX8_headroom_2 15 rfl rfl)
theorem dX8_headroom_62 : decode cX8_headroom 62 = .ok (.ireturn, 1) := dk_172 (dk_at dksX8_headroom_2 16 rfl rfl)
abbrev cX8_interference : ByteArray := prog_18_method_10_code
def yX8_interference : MethodName := ⟨RX8, "interference", "(LSpectrumAccess$Point;ILSpectrumAccess$Some;)I"⟩
def dkwX8_interference_0 : List UInt8 := [42, 43, 180, 0, 144, 43, 180, 0, 149, 28, 45, 182, 0, 152, 172]
abbrev dktX8_interference_0 : List UInt8 := dkwX8_interference_0 ++ []
theorem dksX8_interference_0 : cX8_interference.data.toList.drop 0 = dktX8_interference_0 := by decide +kernel
theorem dX8_interference_0 : decode cX8_interference 0 = .ok (.aload_n 0, 1) := dk_42 (dk_at dksX8_interference_0 0 rfl rfl)
theorem dX8_interference_1 : decode cX8_interference 1 = .ok (.aload_n 1, 1) := dk_43 (dk_at dksX8_interference_0 1 rfl rfl)
theorem dX8_interference_2 : decode cX8_interference 2 = .ok (.getfield 144, 3) := dk_180 0 144 (dk_at dksX8_interference_0 2 rfl rfl)
theorem dX8_interference_5 : decode cX8_interference 5 = .ok (.aload_n 1, 1) := dk_43 (dk_at dksX8_interference_0 5 rfl rfl)
theorem dX8_interference_6 : decode cX8_interference 6 = .ok (.getfield 149, 3) := dk_180 0 149 (dk_at dksX8_interference_0 6 rfl rfl)
theorem dX8_interference_9 : decode cX8_interference 9 = .ok (.iload_n 2, 1) := dk_28 (dk_at dksX8_interference_0 9 rfl rfl)
theorem dX8_interference_10 : decode cX8_interference 10 = .ok (.aload_n 3, 1) := dk_45 (dk_at dksX8_interference_0 10 rfl rfl)
theorem dX8_interference_11 : decode cX8_interference 11 = .ok (.invokevirtual 152, 3) := dk_182 0 152 (dk_at dksX8_interference_0 11 rfl rfl)
theorem dX8_interference_14 : decode cX8_interference 14 = .ok (.ireturn, 1) := dk_172 (dk_at dksX8_interference_0 14 rfl rfl)
abbrev cX8_interference_2 : ByteArray := prog_18_method_9_code
def yX8_interference_2 : MethodName := ⟨RX8, "interference", "(IIILSpectrumAccess$Some;)I"⟩
def dkwX8_interference_2_2 : List UInt8 := [167, 0, 4, 3, 96, 54, 5, 132, 6, 1, 167, 255, 206, 21, 5, 172]
abbrev dktX8_interference_2_2 : List UInt8 := dkwX8_interference_2_2 ++ []
def dkwX8_interference_2_1 : List UInt8 := [21, 5, 25, 4, 21, 6, 185, 0, 134, 2, 0, 153, 0, 15, 42, 21, 6, 27, 28, 29, 182, 0, 140]
abbrev dktX8_interference_2_1 : List UInt8 := dkwX8_interference_2_1 ++ dktX8_interference_2_2
def dkwX8_interference_2_0 : List UInt8 := [3, 54, 5, 3, 54, 6, 21, 6, 42, 180, 0, 53, 180, 0, 102, 185, 0, 94, 1, 0, 162, 0, 39]
abbrev dktX8_interference_2_0 : List UInt8 := dkwX8_interference_2_0 ++ dktX8_interference_2_1
theorem dksX8_interference_2_0 : cX8_interference_2.data.toList.drop 0 = dktX8_interference_2_0 := by decide +kernel
theorem dksX8_interference_2_1 : cX8_interference_2.data.toList.drop 23 = dktX8_interference_2_1 := dk_seg dksX8_interference_2_0 23 rfl rfl
theorem dksX8_interference_2_2 : cX8_interference_2.data.toList.drop 46 = dktX8_interference_2_2 := dk_seg dksX8_interference_2_1 23 rfl rfl
theorem dX8_interference_2_0 : decode cX8_interference_2 0 = .ok (.iconst 0, 1) := dk_3 (dk_at dksX8_interference_2_0 0 rfl rfl)
theorem dX8_interference_2_1 : decode cX8_interference_2 1 = .ok (.istore 5, 2) := dk_54 5 (dk_at dksX8_interference_2_0 1 rfl rfl)
theorem dX8_interference_2_3 : decode cX8_interference_2 3 = .ok (.iconst 0, 1) := dk_3 (dk_at dksX8_interference_2_0 3 rfl rfl)
theorem dX8_interference_2_4 : decode cX8_interference_2 4 = .ok (.istore 6, 2) := dk_54 6 (dk_at dksX8_interference_2_0 4 rfl rfl)
theorem dX8_interference_2_6 : decode cX8_interference_2 6 = .ok (.iload 6, 2) := dk_21 6 (dk_at dksX8_interference_2_0 6 rfl rfl)
theorem dX8_interference_2_8 : decode cX8_interference_2 8 = .ok (.aload_n 0, 1) := dk_42 (dk_at dksX8_interference_2_0 8 rfl rfl)
theorem dX8_interference_2_9 : decode cX8_interference_2 9 = .ok (.getfield 53, 3) := dk_180 0 53 (dk_at dksX8_interference_2_0 9 rfl rfl)
theorem dX8_interference_2_12 : decode cX8_interference_2 12 = .ok (.getfield 102, 3) := dk_180 0 102 (dk_at dksX8_interference_2_0 12 rfl rfl)
theorem dX8_interference_2_15 : decode cX8_interference_2 15 = .ok (.invokeinterface 94 1, 5) := by decide +kernel
theorem dX8_interference_2_20 : decode cX8_interference_2 20 = .ok (.if_icmp .ge 39, 3) := dk_162 0 39 (dk_at dksX8_interference_2_0 20 rfl rfl)
theorem dX8_interference_2_23 : decode cX8_interference_2 23 = .ok (.iload 5, 2) := dk_21 5 (dk_at dksX8_interference_2_1 0 rfl rfl)
theorem dX8_interference_2_25 : decode cX8_interference_2 25 = .ok (.aload 4, 2) := dk_25 4 (dk_at dksX8_interference_2_1 2 rfl rfl)
theorem dX8_interference_2_27 : decode cX8_interference_2 27 = .ok (.iload 6, 2) := dk_21 6 (dk_at dksX8_interference_2_1 4 rfl rfl)
theorem dX8_interference_2_29 : decode cX8_interference_2 29 = .ok (.invokeinterface 134 2, 5) := by decide +kernel
theorem dX8_interference_2_34 : decode cX8_interference_2 34 = .ok (.ifCond .eq 15, 3) := dk_153 0 15 (dk_at dksX8_interference_2_1 11 rfl rfl)
theorem dX8_interference_2_37 : decode cX8_interference_2 37 = .ok (.aload_n 0, 1) := dk_42 (dk_at dksX8_interference_2_1 14 rfl rfl)
theorem dX8_interference_2_38 : decode cX8_interference_2 38 = .ok (.iload 6, 2) := dk_21 6 (dk_at dksX8_interference_2_1 15 rfl rfl)
theorem dX8_interference_2_40 : decode cX8_interference_2 40 = .ok (.iload_n 1, 1) := dk_27 (dk_at dksX8_interference_2_1 17 rfl rfl)
theorem dX8_interference_2_41 : decode cX8_interference_2 41 = .ok (.iload_n 2, 1) := dk_28 (dk_at dksX8_interference_2_1 18 rfl rfl)
theorem dX8_interference_2_42 : decode cX8_interference_2 42 = .ok (.iload_n 3, 1) := dk_29 (dk_at dksX8_interference_2_1 19 rfl rfl)
theorem dX8_interference_2_43 : decode cX8_interference_2 43 = .ok (.invokevirtual 140, 3) := dk_182 0 140 (dk_at dksX8_interference_2_1 20 rfl rfl)
theorem dX8_interference_2_46 : decode cX8_interference_2 46 = .ok (.goto 4, 3) := dk_167 0 4 (dk_at dksX8_interference_2_2 0 rfl rfl)
theorem dX8_interference_2_49 : decode cX8_interference_2 49 = .ok (.iconst 0, 1) := dk_3 (dk_at dksX8_interference_2_2 3 rfl rfl)
theorem dX8_interference_2_50 : decode cX8_interference_2 50 = .ok (.iadd, 1) := dk_96 (dk_at dksX8_interference_2_2 4 rfl rfl)
theorem dX8_interference_2_51 : decode cX8_interference_2 51 = .ok (.istore 5, 2) := dk_54 5 (dk_at dksX8_interference_2_2 5 rfl rfl)
theorem dX8_interference_2_53 : decode cX8_interference_2 53 = .ok (.iinc 6 1, 3) := dk_132 6 1 (dk_at dksX8_interference_2_2 7 rfl rfl)
theorem dX8_interference_2_56 : decode cX8_interference_2 56 = .ok (.goto (-50), 3) := dk_167 255 206 (dk_at dksX8_interference_2_2 10 rfl rfl)
theorem dX8_interference_2_59 : decode cX8_interference_2 59 = .ok (.iload 5, 2) := dk_21 5 (dk_at dksX8_interference_2_2 13 rfl rfl)
theorem dX8_interference_2_61 : decode cX8_interference_2 61 = .ok (.ireturn, 1) := dk_172 (dk_at dksX8_interference_2_2 15 rfl rfl)
abbrev cX8_counted : ByteArray := prog_18_method_8_code
def yX8_counted : MethodName := ⟨RX8, "counted", "(IIII)I"⟩
def dkwX8_counted_2 : List UInt8 := [27, 28, 29, 182, 0, 127, 42, 180, 0, 53, 180, 0, 131, 108, 172]
abbrev dktX8_counted_2 : List UInt8 := dkwX8_counted_2 ++ []
def dkwX8_counted_1 : List UInt8 := [21, 5, 4, 164, 0, 5, 3, 172, 21, 5, 154, 0, 13, 42, 27, 28, 29, 182, 0, 127, 167, 0, 18, 42]
abbrev dktX8_counted_1 : List UInt8 := dkwX8_counted_1 ++ dktX8_counted_2
def dkwX8_counted_0 : List UInt8 := [42, 180, 0, 27, 27, 46, 21, 4, 100, 184, 0, 121, 54, 5, 42, 180, 0, 24, 27, 46, 5, 160, 0, 9]
abbrev dktX8_counted_0 : List UInt8 := dkwX8_counted_0 ++ dktX8_counted_1
theorem dksX8_counted_0 : cX8_counted.data.toList.drop 0 = dktX8_counted_0 := by decide +kernel
theorem dksX8_counted_1 : cX8_counted.data.toList.drop 24 = dktX8_counted_1 := dk_seg dksX8_counted_0 24 rfl rfl
theorem dksX8_counted_2 : cX8_counted.data.toList.drop 48 = dktX8_counted_2 := dk_seg dksX8_counted_1 24 rfl rfl
theorem dX8_counted_0 : decode cX8_counted 0 = .ok (.aload_n 0, 1) := dk_42 (dk_at dksX8_counted_0 0 rfl rfl)
theorem dX8_counted_1 : decode cX8_counted 1 = .ok (.getfield 27, 3) := dk_180 0 27 (dk_at dksX8_counted_0 1 rfl rfl)
theorem dX8_counted_4 : decode cX8_counted 4 = .ok (.iload_n 1, 1) := dk_27 (dk_at dksX8_counted_0 4 rfl rfl)
theorem dX8_counted_5 : decode cX8_counted 5 = .ok (.iaload, 1) := dk_46 (dk_at dksX8_counted_0 5 rfl rfl)
theorem dX8_counted_6 : decode cX8_counted 6 = .ok (.iload 4, 2) := dk_21 4 (dk_at dksX8_counted_0 6 rfl rfl)
theorem dX8_counted_8 : decode cX8_counted 8 = .ok (.isub, 1) := dk_100 (dk_at dksX8_counted_0 8 rfl rfl)
theorem dX8_counted_9 : decode cX8_counted 9 = .ok (.invokestatic 121, 3) := dk_184 0 121 (dk_at dksX8_counted_0 9 rfl rfl)
theorem dX8_counted_12 : decode cX8_counted 12 = .ok (.istore 5, 2) := dk_54 5 (dk_at dksX8_counted_0 12 rfl rfl)
theorem dX8_counted_14 : decode cX8_counted 14 = .ok (.aload_n 0, 1) := dk_42 (dk_at dksX8_counted_0 14 rfl rfl)
theorem dX8_counted_15 : decode cX8_counted 15 = .ok (.getfield 24, 3) := dk_180 0 24 (dk_at dksX8_counted_0 15 rfl rfl)
theorem dX8_counted_18 : decode cX8_counted 18 = .ok (.iload_n 1, 1) := dk_27 (dk_at dksX8_counted_0 18 rfl rfl)
theorem dX8_counted_19 : decode cX8_counted 19 = .ok (.iaload, 1) := dk_46 (dk_at dksX8_counted_0 19 rfl rfl)
theorem dX8_counted_20 : decode cX8_counted 20 = .ok (.iconst 2, 1) := dk_5 (dk_at dksX8_counted_0 20 rfl rfl)
theorem dX8_counted_21 : decode cX8_counted 21 = .ok (.if_icmp .ne 9, 3) := dk_160 0 9 (dk_at dksX8_counted_0 21 rfl rfl)
theorem dX8_counted_24 : decode cX8_counted 24 = .ok (.iload 5, 2) := dk_21 5 (dk_at dksX8_counted_1 0 rfl rfl)
theorem dX8_counted_26 : decode cX8_counted 26 = .ok (.iconst 1, 1) := dk_4 (dk_at dksX8_counted_1 2 rfl rfl)
theorem dX8_counted_27 : decode cX8_counted 27 = .ok (.if_icmp .le 5, 3) := dk_164 0 5 (dk_at dksX8_counted_1 3 rfl rfl)
theorem dX8_counted_30 : decode cX8_counted 30 = .ok (.iconst 0, 1) := dk_3 (dk_at dksX8_counted_1 6 rfl rfl)
theorem dX8_counted_31 : decode cX8_counted 31 = .ok (.ireturn, 1) := dk_172 (dk_at dksX8_counted_1 7 rfl rfl)
theorem dX8_counted_32 : decode cX8_counted 32 = .ok (.iload 5, 2) := dk_21 5 (dk_at dksX8_counted_1 8 rfl rfl)
theorem dX8_counted_34 : decode cX8_counted 34 = .ok (.ifCond .ne 13, 3) := dk_154 0 13 (dk_at dksX8_counted_1 10 rfl rfl)
theorem dX8_counted_37 : decode cX8_counted 37 = .ok (.aload_n 0, 1) := dk_42 (dk_at dksX8_counted_1 13 rfl rfl)
theorem dX8_counted_38 : decode cX8_counted 38 = .ok (.iload_n 1, 1) := dk_27 (dk_at dksX8_counted_1 14 rfl rfl)
theorem dX8_counted_39 : decode cX8_counted 39 = .ok (.iload_n 2, 1) := dk_28 (dk_at dksX8_counted_1 15 rfl rfl)
theorem dX8_counted_40 : decode cX8_counted 40 = .ok (.iload_n 3, 1) := dk_29 (dk_at dksX8_counted_1 16 rfl rfl)
theorem dX8_counted_41 : decode cX8_counted 41 = .ok (.invokevirtual 127, 3) := dk_182 0 127 (dk_at dksX8_counted_1 17 rfl rfl)
theorem dX8_counted_44 : decode cX8_counted 44 = .ok (.goto 18, 3) := dk_167 0 18 (dk_at dksX8_counted_1 20 rfl rfl)
theorem dX8_counted_47 : decode cX8_counted 47 = .ok (.aload_n 0, 1) := dk_42 (dk_at dksX8_counted_1 23 rfl rfl)
theorem dX8_counted_48 : decode cX8_counted 48 = .ok (.iload_n 1, 1) := dk_27 (dk_at dksX8_counted_2 0 rfl rfl)
theorem dX8_counted_49 : decode cX8_counted 49 = .ok (.iload_n 2, 1) := dk_28 (dk_at dksX8_counted_2 1 rfl rfl)
theorem dX8_counted_50 : decode cX8_counted 50 = .ok (.iload_n 3, 1) := dk_29 (dk_at dksX8_counted_2 2 rfl rfl)
theorem dX8_counted_51 : decode cX8_counted 51 = .ok (.invokevirtual 127, 3) := dk_182 0 127 (dk_at dksX8_counted_2 3 rfl rfl)
theorem dX8_counted_54 : decode cX8_counted 54 = .ok (.aload_n 0, 1) := dk_42 (dk_at dksX8_counted_2 6 rfl rfl)
theorem dX8_counted_55 : decode cX8_counted 55 = .ok (.getfield 53, 3) := dk_180 0 53 (dk_at dksX8_counted_2 7 rfl rfl)
theorem dX8_counted_58 : decode cX8_counted 58 = .ok (.getfield 131, 3) := dk_180 0 131 (dk_at dksX8_counted_2 10 rfl rfl)
theorem dX8_counted_61 : decode cX8_counted 61 = .ok (.idiv, 1) := dk_108 (dk_at dksX8_counted_2 13 rfl rfl)
theorem dX8_counted_62 : decode cX8_counted 62 = .ok (.ireturn, 1) := dk_172 (dk_at dksX8_counted_2 14 rfl rfl)
abbrev cX8_strength : ByteArray := prog_18_method_7_code
def yX8_strength : MethodName := ⟨RX8, "strength", "(III)I"⟩
def dkwX8_strength_2 : List UInt8 := [167, 0, 4, 3, 172]
abbrev dktX8_strength_2 : List UInt8 := dkwX8_strength_2 ++ []
def dkwX8_strength_1 : List UInt8 := [180, 0, 53, 180, 0, 102, 27, 185, 0, 113, 2, 0, 192, 0, 108, 28, 29, 182, 0, 117, 96, 108]
abbrev dktX8_strength_1 : List UInt8 := dkwX8_strength_1 ++ dktX8_strength_2
def dkwX8_strength_0 : List UInt8 := [42, 180, 0, 24, 27, 46, 5, 160, 0, 40, 17, 3, 232, 42, 180, 0, 30, 27, 46, 104, 4, 42]
abbrev dktX8_strength_0 : List UInt8 := dkwX8_strength_0 ++ dktX8_strength_1
theorem dksX8_strength_0 : cX8_strength.data.toList.drop 0 = dktX8_strength_0 := by decide +kernel
theorem dksX8_strength_1 : cX8_strength.data.toList.drop 22 = dktX8_strength_1 := dk_seg dksX8_strength_0 22 rfl rfl
theorem dksX8_strength_2 : cX8_strength.data.toList.drop 44 = dktX8_strength_2 := dk_seg dksX8_strength_1 22 rfl rfl
theorem dX8_strength_0 : decode cX8_strength 0 = .ok (.aload_n 0, 1) := dk_42 (dk_at dksX8_strength_0 0 rfl rfl)
theorem dX8_strength_1 : decode cX8_strength 1 = .ok (.getfield 24, 3) := dk_180 0 24 (dk_at dksX8_strength_0 1 rfl rfl)
theorem dX8_strength_4 : decode cX8_strength 4 = .ok (.iload_n 1, 1) := dk_27 (dk_at dksX8_strength_0 4 rfl rfl)
theorem dX8_strength_5 : decode cX8_strength 5 = .ok (.iaload, 1) := dk_46 (dk_at dksX8_strength_0 5 rfl rfl)
theorem dX8_strength_6 : decode cX8_strength 6 = .ok (.iconst 2, 1) := dk_5 (dk_at dksX8_strength_0 6 rfl rfl)
theorem dX8_strength_7 : decode cX8_strength 7 = .ok (.if_icmp .ne 40, 3) := dk_160 0 40 (dk_at dksX8_strength_0 7 rfl rfl)
theorem dX8_strength_10 : decode cX8_strength 10 = .ok (.sipush 1000, 3) := dk_17 3 232 (dk_at dksX8_strength_0 10 rfl rfl)
theorem dX8_strength_13 : decode cX8_strength 13 = .ok (.aload_n 0, 1) := dk_42 (dk_at dksX8_strength_0 13 rfl rfl)
theorem dX8_strength_14 : decode cX8_strength 14 = .ok (.getfield 30, 3) := dk_180 0 30 (dk_at dksX8_strength_0 14 rfl rfl)
theorem dX8_strength_17 : decode cX8_strength 17 = .ok (.iload_n 1, 1) := dk_27 (dk_at dksX8_strength_0 17 rfl rfl)
theorem dX8_strength_18 : decode cX8_strength 18 = .ok (.iaload, 1) := dk_46 (dk_at dksX8_strength_0 18 rfl rfl)
theorem dX8_strength_19 : decode cX8_strength 19 = .ok (.imul, 1) := dk_104 (dk_at dksX8_strength_0 19 rfl rfl)
theorem dX8_strength_20 : decode cX8_strength 20 = .ok (.iconst 1, 1) := dk_4 (dk_at dksX8_strength_0 20 rfl rfl)
theorem dX8_strength_21 : decode cX8_strength 21 = .ok (.aload_n 0, 1) := dk_42 (dk_at dksX8_strength_0 21 rfl rfl)
theorem dX8_strength_22 : decode cX8_strength 22 = .ok (.getfield 53, 3) := dk_180 0 53 (dk_at dksX8_strength_1 0 rfl rfl)
theorem dX8_strength_25 : decode cX8_strength 25 = .ok (.getfield 102, 3) := dk_180 0 102 (dk_at dksX8_strength_1 3 rfl rfl)
theorem dX8_strength_28 : decode cX8_strength 28 = .ok (.iload_n 1, 1) := dk_27 (dk_at dksX8_strength_1 6 rfl rfl)
theorem dX8_strength_29 : decode cX8_strength 29 = .ok (.invokeinterface 113 2, 5) := by decide +kernel
theorem dX8_strength_34 : decode cX8_strength 34 = .ok (.checkcast 108, 3) := dk_192 0 108 (dk_at dksX8_strength_1 12 rfl rfl)
theorem dX8_strength_37 : decode cX8_strength 37 = .ok (.iload_n 2, 1) := dk_28 (dk_at dksX8_strength_1 15 rfl rfl)
theorem dX8_strength_38 : decode cX8_strength 38 = .ok (.iload_n 3, 1) := dk_29 (dk_at dksX8_strength_1 16 rfl rfl)
theorem dX8_strength_39 : decode cX8_strength 39 = .ok (.invokevirtual 117, 3) := dk_182 0 117 (dk_at dksX8_strength_1 17 rfl rfl)
theorem dX8_strength_42 : decode cX8_strength 42 = .ok (.iadd, 1) := dk_96 (dk_at dksX8_strength_1 20 rfl rfl)
theorem dX8_strength_43 : decode cX8_strength 43 = .ok (.idiv, 1) := dk_108 (dk_at dksX8_strength_1 21 rfl rfl)
theorem dX8_strength_44 : decode cX8_strength 44 = .ok (.goto 4, 3) := dk_167 0 4 (dk_at dksX8_strength_2 0 rfl rfl)
theorem dX8_strength_47 : decode cX8_strength 47 = .ok (.iconst 0, 1) := dk_3 (dk_at dksX8_strength_2 3 rfl rfl)
theorem dX8_strength_48 : decode cX8_strength 48 = .ok (.ireturn, 1) := dk_172 (dk_at dksX8_strength_2 4 rfl rfl)
abbrev cX8_copy : ByteArray := prog_18_method_4_code
def yX8_copy : MethodName := ⟨RX8, "copy", "()LSpectrumAccess$State;"⟩
def dkwX8_copy_3 : List UInt8 := [180, 0, 88, 181, 0, 88, 43, 42, 180, 0, 91, 181, 0, 91, 43, 176]
abbrev dktX8_copy_3 : List UInt8 := dkwX8_copy_3 ++ []
def dkwX8_copy_2 : List UInt8 := [180, 0, 47, 184, 0, 77, 43, 42, 180, 0, 81, 181, 0, 81, 43, 42, 180, 0, 85, 181, 0, 85, 43, 42]
abbrev dktX8_copy_2 : List UInt8 := dkwX8_copy_2 ++ dktX8_copy_3
def dkwX8_copy_1 : List UInt8 := [185, 0, 67, 2, 0, 87, 42, 182, 0, 73, 43, 182, 0, 73, 184, 0, 77, 42, 180, 0, 47, 43]
abbrev dktX8_copy_1 : List UInt8 := dkwX8_copy_1 ++ dktX8_copy_2
def dkwX8_copy_0 : List UInt8 := [187, 0, 15, 89, 42, 180, 0, 53, 183, 0, 64, 76, 43, 180, 0, 14, 42, 180, 0, 14]
abbrev dktX8_copy_0 : List UInt8 := dkwX8_copy_0 ++ dktX8_copy_1
theorem dksX8_copy_0 : cX8_copy.data.toList.drop 0 = dktX8_copy_0 := by decide +kernel
theorem dksX8_copy_1 : cX8_copy.data.toList.drop 20 = dktX8_copy_1 := dk_seg dksX8_copy_0 20 rfl rfl
theorem dksX8_copy_2 : cX8_copy.data.toList.drop 42 = dktX8_copy_2 := dk_seg dksX8_copy_1 22 rfl rfl
theorem dksX8_copy_3 : cX8_copy.data.toList.drop 66 = dktX8_copy_3 := dk_seg dksX8_copy_2 24 rfl rfl
theorem dX8_copy_0 : decode cX8_copy 0 = .ok (.new 15, 3) := dk_187 0 15 (dk_at dksX8_copy_0 0 rfl rfl)
theorem dX8_copy_3 : decode cX8_copy 3 = .ok (.dup, 1) := dk_89 (dk_at dksX8_copy_0 3 rfl rfl)
theorem dX8_copy_4 : decode cX8_copy 4 = .ok (.aload_n 0, 1) := dk_42 (dk_at dksX8_copy_0 4 rfl rfl)
theorem dX8_copy_5 : decode cX8_copy 5 = .ok (.getfield 53, 3) := dk_180 0 53 (dk_at dksX8_copy_0 5 rfl rfl)
theorem dX8_copy_8 : decode cX8_copy 8 = .ok (.invokespecial 64, 3) := dk_183 0 64 (dk_at dksX8_copy_0 8 rfl rfl)
theorem dX8_copy_11 : decode cX8_copy 11 = .ok (.astore_n 1, 1) := dk_76 (dk_at dksX8_copy_0 11 rfl rfl)
theorem dX8_copy_12 : decode cX8_copy 12 = .ok (.aload_n 1, 1) := dk_43 (dk_at dksX8_copy_0 12 rfl rfl)
theorem dX8_copy_13 : decode cX8_copy 13 = .ok (.getfield 14, 3) := dk_180 0 14 (dk_at dksX8_copy_0 13 rfl rfl)
theorem dX8_copy_16 : decode cX8_copy 16 = .ok (.aload_n 0, 1) := dk_42 (dk_at dksX8_copy_0 16 rfl rfl)
theorem dX8_copy_17 : decode cX8_copy 17 = .ok (.getfield 14, 3) := dk_180 0 14 (dk_at dksX8_copy_0 17 rfl rfl)
theorem dX8_copy_20 : decode cX8_copy 20 = .ok (.invokeinterface 67 2, 5) := by decide +kernel
theorem dX8_copy_25 : decode cX8_copy 25 = .ok (.pop, 1) := dk_87 (dk_at dksX8_copy_1 5 rfl rfl)
theorem dX8_copy_26 : decode cX8_copy 26 = .ok (.aload_n 0, 1) := dk_42 (dk_at dksX8_copy_1 6 rfl rfl)
theorem dX8_copy_27 : decode cX8_copy 27 = .ok (.invokevirtual 73, 3) := dk_182 0 73 (dk_at dksX8_copy_1 7 rfl rfl)
theorem dX8_copy_30 : decode cX8_copy 30 = .ok (.aload_n 1, 1) := dk_43 (dk_at dksX8_copy_1 10 rfl rfl)
theorem dX8_copy_31 : decode cX8_copy 31 = .ok (.invokevirtual 73, 3) := dk_182 0 73 (dk_at dksX8_copy_1 11 rfl rfl)
theorem dX8_copy_34 : decode cX8_copy 34 = .ok (.invokestatic 77, 3) := dk_184 0 77 (dk_at dksX8_copy_1 14 rfl rfl)
theorem dX8_copy_37 : decode cX8_copy 37 = .ok (.aload_n 0, 1) := dk_42 (dk_at dksX8_copy_1 17 rfl rfl)
theorem dX8_copy_38 : decode cX8_copy 38 = .ok (.getfield 47, 3) := dk_180 0 47 (dk_at dksX8_copy_1 18 rfl rfl)
theorem dX8_copy_41 : decode cX8_copy 41 = .ok (.aload_n 1, 1) := dk_43 (dk_at dksX8_copy_1 21 rfl rfl)
theorem dX8_copy_42 : decode cX8_copy 42 = .ok (.getfield 47, 3) := dk_180 0 47 (dk_at dksX8_copy_2 0 rfl rfl)
theorem dX8_copy_45 : decode cX8_copy 45 = .ok (.invokestatic 77, 3) := dk_184 0 77 (dk_at dksX8_copy_2 3 rfl rfl)
theorem dX8_copy_48 : decode cX8_copy 48 = .ok (.aload_n 1, 1) := dk_43 (dk_at dksX8_copy_2 6 rfl rfl)
theorem dX8_copy_49 : decode cX8_copy 49 = .ok (.aload_n 0, 1) := dk_42 (dk_at dksX8_copy_2 7 rfl rfl)
theorem dX8_copy_50 : decode cX8_copy 50 = .ok (.getfield 81, 3) := dk_180 0 81 (dk_at dksX8_copy_2 8 rfl rfl)
theorem dX8_copy_53 : decode cX8_copy 53 = .ok (.putfield 81, 3) := dk_181 0 81 (dk_at dksX8_copy_2 11 rfl rfl)
theorem dX8_copy_56 : decode cX8_copy 56 = .ok (.aload_n 1, 1) := dk_43 (dk_at dksX8_copy_2 14 rfl rfl)
theorem dX8_copy_57 : decode cX8_copy 57 = .ok (.aload_n 0, 1) := dk_42 (dk_at dksX8_copy_2 15 rfl rfl)
theorem dX8_copy_58 : decode cX8_copy 58 = .ok (.getfield 85, 3) := dk_180 0 85 (dk_at dksX8_copy_2 16 rfl rfl)
theorem dX8_copy_61 : decode cX8_copy 61 = .ok (.putfield 85, 3) := dk_181 0 85 (dk_at dksX8_copy_2 19 rfl rfl)
theorem dX8_copy_64 : decode cX8_copy 64 = .ok (.aload_n 1, 1) := dk_43 (dk_at dksX8_copy_2 22 rfl rfl)
theorem dX8_copy_65 : decode cX8_copy 65 = .ok (.aload_n 0, 1) := dk_42 (dk_at dksX8_copy_2 23 rfl rfl)
theorem dX8_copy_66 : decode cX8_copy 66 = .ok (.getfield 88, 3) := dk_180 0 88 (dk_at dksX8_copy_3 0 rfl rfl)
theorem dX8_copy_69 : decode cX8_copy 69 = .ok (.putfield 88, 3) := dk_181 0 88 (dk_at dksX8_copy_3 3 rfl rfl)
theorem dX8_copy_72 : decode cX8_copy 72 = .ok (.aload_n 1, 1) := dk_43 (dk_at dksX8_copy_3 6 rfl rfl)
theorem dX8_copy_73 : decode cX8_copy 73 = .ok (.aload_n 0, 1) := dk_42 (dk_at dksX8_copy_3 7 rfl rfl)
theorem dX8_copy_74 : decode cX8_copy 74 = .ok (.getfield 91, 3) := dk_180 0 91 (dk_at dksX8_copy_3 8 rfl rfl)
theorem dX8_copy_77 : decode cX8_copy 77 = .ok (.putfield 91, 3) := dk_181 0 91 (dk_at dksX8_copy_3 11 rfl rfl)
theorem dX8_copy_80 : decode cX8_copy 80 = .ok (.aload_n 1, 1) := dk_43 (dk_at dksX8_copy_3 14 rfl rfl)
theorem dX8_copy_81 : decode cX8_copy 81 = .ok (.areturn, 1) := dk_176 (dk_at dksX8_copy_3 15 rfl rfl)
abbrev cX8_rows : ByteArray := prog_18_method_3_code
def yX8_rows : MethodName := ⟨RX8, "rows", "()[[I"⟩
def dkwX8_rows_2 : List UInt8 := [83, 89, 16, 6, 42, 180, 0, 39, 83, 89, 16, 7, 42, 180, 0, 42, 83, 176]
abbrev dktX8_rows_2 : List UInt8 := dkwX8_rows_2 ++ []
def dkwX8_rows_1 : List UInt8 := [180, 0, 27, 83, 89, 6, 42, 180, 0, 30, 83, 89, 7, 42, 180, 0, 33, 83, 89, 8, 42, 180, 0, 36]
abbrev dktX8_rows_1 : List UInt8 := dkwX8_rows_1 ++ dktX8_rows_2
def dkwX8_rows_0 : List UInt8 := [16, 8, 189, 0, 63, 89, 3, 42, 180, 0, 20, 83, 89, 4, 42, 180, 0, 24, 83, 89, 5, 42]
abbrev dktX8_rows_0 : List UInt8 := dkwX8_rows_0 ++ dktX8_rows_1
theorem dksX8_rows_0 : cX8_rows.data.toList.drop 0 = dktX8_rows_0 := by decide +kernel
theorem dksX8_rows_1 : cX8_rows.data.toList.drop 22 = dktX8_rows_1 := dk_seg dksX8_rows_0 22 rfl rfl
theorem dksX8_rows_2 : cX8_rows.data.toList.drop 46 = dktX8_rows_2 := dk_seg dksX8_rows_1 24 rfl rfl
theorem dX8_rows_0 : decode cX8_rows 0 = .ok (.bipush 8, 2) := dk_16 8 (dk_at dksX8_rows_0 0 rfl rfl)
theorem dX8_rows_2 : decode cX8_rows 2 = .ok (.anewarray 63, 3) := dk_189 0 63 (dk_at dksX8_rows_0 2 rfl rfl)
theorem dX8_rows_5 : decode cX8_rows 5 = .ok (.dup, 1) := dk_89 (dk_at dksX8_rows_0 5 rfl rfl)
theorem dX8_rows_6 : decode cX8_rows 6 = .ok (.iconst 0, 1) := dk_3 (dk_at dksX8_rows_0 6 rfl rfl)
theorem dX8_rows_7 : decode cX8_rows 7 = .ok (.aload_n 0, 1) := dk_42 (dk_at dksX8_rows_0 7 rfl rfl)
theorem dX8_rows_8 : decode cX8_rows 8 = .ok (.getfield 20, 3) := dk_180 0 20 (dk_at dksX8_rows_0 8 rfl rfl)
theorem dX8_rows_11 : decode cX8_rows 11 = .ok (.aastore, 1) := dk_83 (dk_at dksX8_rows_0 11 rfl rfl)
theorem dX8_rows_12 : decode cX8_rows 12 = .ok (.dup, 1) := dk_89 (dk_at dksX8_rows_0 12 rfl rfl)
theorem dX8_rows_13 : decode cX8_rows 13 = .ok (.iconst 1, 1) := dk_4 (dk_at dksX8_rows_0 13 rfl rfl)
theorem dX8_rows_14 : decode cX8_rows 14 = .ok (.aload_n 0, 1) := dk_42 (dk_at dksX8_rows_0 14 rfl rfl)
theorem dX8_rows_15 : decode cX8_rows 15 = .ok (.getfield 24, 3) := dk_180 0 24 (dk_at dksX8_rows_0 15 rfl rfl)
theorem dX8_rows_18 : decode cX8_rows 18 = .ok (.aastore, 1) := dk_83 (dk_at dksX8_rows_0 18 rfl rfl)
theorem dX8_rows_19 : decode cX8_rows 19 = .ok (.dup, 1) := dk_89 (dk_at dksX8_rows_0 19 rfl rfl)
theorem dX8_rows_20 : decode cX8_rows 20 = .ok (.iconst 2, 1) := dk_5 (dk_at dksX8_rows_0 20 rfl rfl)
theorem dX8_rows_21 : decode cX8_rows 21 = .ok (.aload_n 0, 1) := dk_42 (dk_at dksX8_rows_0 21 rfl rfl)
theorem dX8_rows_22 : decode cX8_rows 22 = .ok (.getfield 27, 3) := dk_180 0 27 (dk_at dksX8_rows_1 0 rfl rfl)
theorem dX8_rows_25 : decode cX8_rows 25 = .ok (.aastore, 1) := dk_83 (dk_at dksX8_rows_1 3 rfl rfl)
theorem dX8_rows_26 : decode cX8_rows 26 = .ok (.dup, 1) := dk_89 (dk_at dksX8_rows_1 4 rfl rfl)
theorem dX8_rows_27 : decode cX8_rows 27 = .ok (.iconst 3, 1) := dk_6 (dk_at dksX8_rows_1 5 rfl rfl)
theorem dX8_rows_28 : decode cX8_rows 28 = .ok (.aload_n 0, 1) := dk_42 (dk_at dksX8_rows_1 6 rfl rfl)
theorem dX8_rows_29 : decode cX8_rows 29 = .ok (.getfield 30, 3) := dk_180 0 30 (dk_at dksX8_rows_1 7 rfl rfl)
theorem dX8_rows_32 : decode cX8_rows 32 = .ok (.aastore, 1) := dk_83 (dk_at dksX8_rows_1 10 rfl rfl)
theorem dX8_rows_33 : decode cX8_rows 33 = .ok (.dup, 1) := dk_89 (dk_at dksX8_rows_1 11 rfl rfl)
theorem dX8_rows_34 : decode cX8_rows 34 = .ok (.iconst 4, 1) := dk_7 (dk_at dksX8_rows_1 12 rfl rfl)
theorem dX8_rows_35 : decode cX8_rows 35 = .ok (.aload_n 0, 1) := dk_42 (dk_at dksX8_rows_1 13 rfl rfl)
theorem dX8_rows_36 : decode cX8_rows 36 = .ok (.getfield 33, 3) := dk_180 0 33 (dk_at dksX8_rows_1 14 rfl rfl)
theorem dX8_rows_39 : decode cX8_rows 39 = .ok (.aastore, 1) := dk_83 (dk_at dksX8_rows_1 17 rfl rfl)
theorem dX8_rows_40 : decode cX8_rows 40 = .ok (.dup, 1) := dk_89 (dk_at dksX8_rows_1 18 rfl rfl)
theorem dX8_rows_41 : decode cX8_rows 41 = .ok (.iconst 5, 1) := dk_8 (dk_at dksX8_rows_1 19 rfl rfl)
theorem dX8_rows_42 : decode cX8_rows 42 = .ok (.aload_n 0, 1) := dk_42 (dk_at dksX8_rows_1 20 rfl rfl)
theorem dX8_rows_43 : decode cX8_rows 43 = .ok (.getfield 36, 3) := dk_180 0 36 (dk_at dksX8_rows_1 21 rfl rfl)
theorem dX8_rows_46 : decode cX8_rows 46 = .ok (.aastore, 1) := dk_83 (dk_at dksX8_rows_2 0 rfl rfl)
theorem dX8_rows_47 : decode cX8_rows 47 = .ok (.dup, 1) := dk_89 (dk_at dksX8_rows_2 1 rfl rfl)
theorem dX8_rows_48 : decode cX8_rows 48 = .ok (.bipush 6, 2) := dk_16 6 (dk_at dksX8_rows_2 2 rfl rfl)
theorem dX8_rows_50 : decode cX8_rows 50 = .ok (.aload_n 0, 1) := dk_42 (dk_at dksX8_rows_2 4 rfl rfl)
theorem dX8_rows_51 : decode cX8_rows 51 = .ok (.getfield 39, 3) := dk_180 0 39 (dk_at dksX8_rows_2 5 rfl rfl)
theorem dX8_rows_54 : decode cX8_rows 54 = .ok (.aastore, 1) := dk_83 (dk_at dksX8_rows_2 8 rfl rfl)
theorem dX8_rows_55 : decode cX8_rows 55 = .ok (.dup, 1) := dk_89 (dk_at dksX8_rows_2 9 rfl rfl)
theorem dX8_rows_56 : decode cX8_rows 56 = .ok (.bipush 7, 2) := dk_16 7 (dk_at dksX8_rows_2 10 rfl rfl)
theorem dX8_rows_58 : decode cX8_rows 58 = .ok (.aload_n 0, 1) := dk_42 (dk_at dksX8_rows_2 12 rfl rfl)
theorem dX8_rows_59 : decode cX8_rows 59 = .ok (.getfield 42, 3) := dk_180 0 42 (dk_at dksX8_rows_2 13 rfl rfl)
theorem dX8_rows_62 : decode cX8_rows 62 = .ok (.aastore, 1) := dk_83 (dk_at dksX8_rows_2 16 rfl rfl)
theorem dX8_rows_63 : decode cX8_rows 63 = .ok (.areturn, 1) := dk_176 (dk_at dksX8_rows_2 17 rfl rfl)
abbrev cX8_copyRows : ByteArray := prog_18_method_2_code
def yX8_copyRows : MethodName := ⟨RX8, "copyRows", "([[I[[I)V"⟩
def dkwX8_copyRows_1 : List UInt8 := [132, 2, 1, 167, 255, 232, 177]
abbrev dktX8_copyRows_1 : List UInt8 := dkwX8_copyRows_1 ++ []
def dkwX8_copyRows_0 : List UInt8 := [3, 61, 28, 42, 190, 162, 0, 24, 42, 28, 50, 3, 43, 28, 50, 3, 42, 28, 50, 190, 184, 0, 57]
abbrev dktX8_copyRows_0 : List UInt8 := dkwX8_copyRows_0 ++ dktX8_copyRows_1
theorem dksX8_copyRows_0 : cX8_copyRows.data.toList.drop 0 = dktX8_copyRows_0 := by decide +kernel
theorem dksX8_copyRows_1 : cX8_copyRows.data.toList.drop 23 = dktX8_copyRows_1 := dk_seg dksX8_copyRows_0 23 rfl rfl
theorem dX8_copyRows_0 : decode cX8_copyRows 0 = .ok (.iconst 0, 1) := dk_3 (dk_at dksX8_copyRows_0 0 rfl rfl)
theorem dX8_copyRows_1 : decode cX8_copyRows 1 = .ok (.istore_n 2, 1) := dk_61 (dk_at dksX8_copyRows_0 1 rfl rfl)
theorem dX8_copyRows_2 : decode cX8_copyRows 2 = .ok (.iload_n 2, 1) := dk_28 (dk_at dksX8_copyRows_0 2 rfl rfl)
theorem dX8_copyRows_3 : decode cX8_copyRows 3 = .ok (.aload_n 0, 1) := dk_42 (dk_at dksX8_copyRows_0 3 rfl rfl)
theorem dX8_copyRows_4 : decode cX8_copyRows 4 = .ok (.arraylength, 1) := dk_190 (dk_at dksX8_copyRows_0 4 rfl rfl)
theorem dX8_copyRows_5 : decode cX8_copyRows 5 = .ok (.if_icmp .ge 24, 3) := dk_162 0 24 (dk_at dksX8_copyRows_0 5 rfl rfl)
theorem dX8_copyRows_8 : decode cX8_copyRows 8 = .ok (.aload_n 0, 1) := dk_42 (dk_at dksX8_copyRows_0 8 rfl rfl)
theorem dX8_copyRows_9 : decode cX8_copyRows 9 = .ok (.iload_n 2, 1) := dk_28 (dk_at dksX8_copyRows_0 9 rfl rfl)
theorem dX8_copyRows_10 : decode cX8_copyRows 10 = .ok (.aaload, 1) := dk_50 (dk_at dksX8_copyRows_0 10 rfl rfl)
theorem dX8_copyRows_11 : decode cX8_copyRows 11 = .ok (.iconst 0, 1) := dk_3 (dk_at dksX8_copyRows_0 11 rfl rfl)
theorem dX8_copyRows_12 : decode cX8_copyRows 12 = .ok (.aload_n 1, 1) := dk_43 (dk_at dksX8_copyRows_0 12 rfl rfl)
theorem dX8_copyRows_13 : decode cX8_copyRows 13 = .ok (.iload_n 2, 1) := dk_28 (dk_at dksX8_copyRows_0 13 rfl rfl)
theorem dX8_copyRows_14 : decode cX8_copyRows 14 = .ok (.aaload, 1) := dk_50 (dk_at dksX8_copyRows_0 14 rfl rfl)
theorem dX8_copyRows_15 : decode cX8_copyRows 15 = .ok (.iconst 0, 1) := dk_3 (dk_at dksX8_copyRows_0 15 rfl rfl)
theorem dX8_copyRows_16 : decode cX8_copyRows 16 = .ok (.aload_n 0, 1) := dk_42 (dk_at dksX8_copyRows_0 16 rfl rfl)
theorem dX8_copyRows_17 : decode cX8_copyRows 17 = .ok (.iload_n 2, 1) := dk_28 (dk_at dksX8_copyRows_0 17 rfl rfl)
theorem dX8_copyRows_18 : decode cX8_copyRows 18 = .ok (.aaload, 1) := dk_50 (dk_at dksX8_copyRows_0 18 rfl rfl)
theorem dX8_copyRows_19 : decode cX8_copyRows 19 = .ok (.arraylength, 1) := dk_190 (dk_at dksX8_copyRows_0 19 rfl rfl)
theorem dX8_copyRows_20 : decode cX8_copyRows 20 = .ok (.invokestatic 57, 3) := dk_184 0 57 (dk_at dksX8_copyRows_0 20 rfl rfl)
theorem dX8_copyRows_23 : decode cX8_copyRows 23 = .ok (.iinc 2 1, 3) := dk_132 2 1 (dk_at dksX8_copyRows_1 0 rfl rfl)
theorem dX8_copyRows_26 : decode cX8_copyRows 26 = .ok (.goto (-24), 3) := dk_167 255 232 (dk_at dksX8_copyRows_1 3 rfl rfl)
theorem dX8_copyRows_29 : decode cX8_copyRows 29 = .ok (.return_, 1) := dk_177 (dk_at dksX8_copyRows_1 6 rfl rfl)
abbrev cX8_become : ByteArray := prog_18_method_27_code
def yX8_become : MethodName := ⟨RX8, "become", "(II)V"⟩
def dkwX8_become_1 : List UInt8 := [79, 42, 180, 0, 36, 27, 42, 180, 0, 81, 79, 177]
abbrev dktX8_become_1 : List UInt8 := dkwX8_become_1 ++ []
def dkwX8_become_0 : List UInt8 := [42, 182, 1, 28, 42, 180, 0, 24, 27, 28, 79, 42, 180, 0, 27, 27, 2, 79, 42, 180, 0, 30, 27, 3]
abbrev dktX8_become_0 : List UInt8 := dkwX8_become_0 ++ dktX8_become_1
theorem dksX8_become_0 : cX8_become.data.toList.drop 0 = dktX8_become_0 := by decide +kernel
theorem dksX8_become_1 : cX8_become.data.toList.drop 24 = dktX8_become_1 := dk_seg dksX8_become_0 24 rfl rfl
theorem dX8_become_0 : decode cX8_become 0 = .ok (.aload_n 0, 1) := dk_42 (dk_at dksX8_become_0 0 rfl rfl)
theorem dX8_become_1 : decode cX8_become 1 = .ok (.invokevirtual 284, 3) := dk_182 1 28 (dk_at dksX8_become_0 1 rfl rfl)
theorem dX8_become_4 : decode cX8_become 4 = .ok (.aload_n 0, 1) := dk_42 (dk_at dksX8_become_0 4 rfl rfl)
theorem dX8_become_5 : decode cX8_become 5 = .ok (.getfield 24, 3) := dk_180 0 24 (dk_at dksX8_become_0 5 rfl rfl)
theorem dX8_become_8 : decode cX8_become 8 = .ok (.iload_n 1, 1) := dk_27 (dk_at dksX8_become_0 8 rfl rfl)
theorem dX8_become_9 : decode cX8_become 9 = .ok (.iload_n 2, 1) := dk_28 (dk_at dksX8_become_0 9 rfl rfl)
theorem dX8_become_10 : decode cX8_become 10 = .ok (.iastore, 1) := dk_79 (dk_at dksX8_become_0 10 rfl rfl)
theorem dX8_become_11 : decode cX8_become 11 = .ok (.aload_n 0, 1) := dk_42 (dk_at dksX8_become_0 11 rfl rfl)
theorem dX8_become_12 : decode cX8_become 12 = .ok (.getfield 27, 3) := dk_180 0 27 (dk_at dksX8_become_0 12 rfl rfl)
theorem dX8_become_15 : decode cX8_become 15 = .ok (.iload_n 1, 1) := dk_27 (dk_at dksX8_become_0 15 rfl rfl)
theorem dX8_become_16 : decode cX8_become 16 = .ok (.iconst (-1), 1) := dk_2 (dk_at dksX8_become_0 16 rfl rfl)
theorem dX8_become_17 : decode cX8_become 17 = .ok (.iastore, 1) := dk_79 (dk_at dksX8_become_0 17 rfl rfl)
theorem dX8_become_18 : decode cX8_become 18 = .ok (.aload_n 0, 1) := dk_42 (dk_at dksX8_become_0 18 rfl rfl)
theorem dX8_become_19 : decode cX8_become 19 = .ok (.getfield 30, 3) := dk_180 0 30 (dk_at dksX8_become_0 19 rfl rfl)
theorem dX8_become_22 : decode cX8_become 22 = .ok (.iload_n 1, 1) := dk_27 (dk_at dksX8_become_0 22 rfl rfl)
theorem dX8_become_23 : decode cX8_become 23 = .ok (.iconst 0, 1) := dk_3 (dk_at dksX8_become_0 23 rfl rfl)
theorem dX8_become_24 : decode cX8_become 24 = .ok (.iastore, 1) := dk_79 (dk_at dksX8_become_1 0 rfl rfl)
theorem dX8_become_25 : decode cX8_become 25 = .ok (.aload_n 0, 1) := dk_42 (dk_at dksX8_become_1 1 rfl rfl)
theorem dX8_become_26 : decode cX8_become 26 = .ok (.getfield 36, 3) := dk_180 0 36 (dk_at dksX8_become_1 2 rfl rfl)
theorem dX8_become_29 : decode cX8_become 29 = .ok (.iload_n 1, 1) := dk_27 (dk_at dksX8_become_1 5 rfl rfl)
theorem dX8_become_30 : decode cX8_become 30 = .ok (.aload_n 0, 1) := dk_42 (dk_at dksX8_become_1 6 rfl rfl)
theorem dX8_become_31 : decode cX8_become 31 = .ok (.getfield 81, 3) := dk_180 0 81 (dk_at dksX8_become_1 7 rfl rfl)
theorem dX8_become_34 : decode cX8_become 34 = .ok (.iastore, 1) := dk_79 (dk_at dksX8_become_1 10 rfl rfl)
theorem dX8_become_35 : decode cX8_become 35 = .ok (.return_, 1) := dk_177 (dk_at dksX8_become_1 11 rfl rfl)
abbrev cX8_forgetLeft : ByteArray := prog_18_method_15_code
def yX8_forgetLeft : MethodName := ⟨RX8, "forgetLeft", "()V"⟩
def dkwX8_forgetLeft_0 : List UInt8 := [42, 3, 181, 0, 196, 177]
abbrev dktX8_forgetLeft_0 : List UInt8 := dkwX8_forgetLeft_0 ++ []
theorem dksX8_forgetLeft_0 : cX8_forgetLeft.data.toList.drop 0 = dktX8_forgetLeft_0 := by decide +kernel
theorem dX8_forgetLeft_0 : decode cX8_forgetLeft 0 = .ok (.aload_n 0, 1) := dk_42 (dk_at dksX8_forgetLeft_0 0 rfl rfl)
theorem dX8_forgetLeft_1 : decode cX8_forgetLeft 1 = .ok (.iconst 0, 1) := dk_3 (dk_at dksX8_forgetLeft_0 1 rfl rfl)
theorem dX8_forgetLeft_2 : decode cX8_forgetLeft 2 = .ok (.putfield 196, 3) := dk_181 0 196 (dk_at dksX8_forgetLeft_0 2 rfl rfl)
theorem dX8_forgetLeft_5 : decode cX8_forgetLeft 5 = .ok (.return_, 1) := dk_177 (dk_at dksX8_forgetLeft_0 5 rfl rfl)
abbrev cX8_granted : ByteArray := prog_18_method_23_code
def yX8_granted : MethodName := ⟨RX8, "granted", "(I)I"⟩
def dkwX8_granted_0 : List UInt8 := [42, 182, 1, 28, 42, 27, 182, 1, 31, 172]
abbrev dktX8_granted_0 : List UInt8 := dkwX8_granted_0 ++ []
theorem dksX8_granted_0 : cX8_granted.data.toList.drop 0 = dktX8_granted_0 := by decide +kernel
theorem dX8_granted_0 : decode cX8_granted 0 = .ok (.aload_n 0, 1) := dk_42 (dk_at dksX8_granted_0 0 rfl rfl)
theorem dX8_granted_1 : decode cX8_granted 1 = .ok (.invokevirtual 284, 3) := dk_182 1 28 (dk_at dksX8_granted_0 1 rfl rfl)
theorem dX8_granted_4 : decode cX8_granted 4 = .ok (.aload_n 0, 1) := dk_42 (dk_at dksX8_granted_0 4 rfl rfl)
theorem dX8_granted_5 : decode cX8_granted 5 = .ok (.iload_n 1, 1) := dk_27 (dk_at dksX8_granted_0 5 rfl rfl)
theorem dX8_granted_6 : decode cX8_granted 6 = .ok (.invokevirtual 287, 3) := dk_182 1 31 (dk_at dksX8_granted_0 6 rfl rfl)
theorem dX8_granted_9 : decode cX8_granted 9 = .ok (.ireturn, 1) := dk_172 (dk_at dksX8_granted_0 9 rfl rfl)
abbrev cX8_searched : ByteArray := prog_18_method_24_code
def yX8_searched : MethodName := ⟨RX8, "searched", "(I)I"⟩
def dkwX8_searched_3 : List UInt8 := [132, 3, 1, 167, 255, 193, 28, 172]
abbrev dktX8_searched_3 : List UInt8 := dkwX8_searched_3 ++ []
def dkwX8_searched_2 : List UInt8 := [161, 0, 23, 21, 4, 42, 180, 1, 34, 163, 0, 6, 167, 0, 11, 29, 61, 42, 21, 4, 181, 1, 34]
abbrev dktX8_searched_2 : List UInt8 := dkwX8_searched_2 ++ dktX8_searched_3
def dkwX8_searched_1 : List UInt8 := [27, 46, 42, 27, 29, 182, 1, 40, 184, 1, 42, 54, 4, 21, 4, 42, 180, 0, 53, 180, 1, 44]
abbrev dktX8_searched_1 : List UInt8 := dkwX8_searched_1 ++ dktX8_searched_2
def dkwX8_searched_0 : List UInt8 := [2, 61, 42, 3, 181, 1, 34, 3, 62, 29, 42, 180, 0, 53, 180, 1, 37, 162, 0, 58, 42, 180, 0, 33]
abbrev dktX8_searched_0 : List UInt8 := dkwX8_searched_0 ++ dktX8_searched_1
theorem dksX8_searched_0 : cX8_searched.data.toList.drop 0 = dktX8_searched_0 := by decide +kernel
theorem dksX8_searched_1 : cX8_searched.data.toList.drop 24 = dktX8_searched_1 := dk_seg dksX8_searched_0 24 rfl rfl
theorem dksX8_searched_2 : cX8_searched.data.toList.drop 46 = dktX8_searched_2 := dk_seg dksX8_searched_1 22 rfl rfl
theorem dksX8_searched_3 : cX8_searched.data.toList.drop 69 = dktX8_searched_3 := dk_seg dksX8_searched_2 23 rfl rfl
theorem dX8_searched_0 : decode cX8_searched 0 = .ok (.iconst (-1), 1) := dk_2 (dk_at dksX8_searched_0 0 rfl rfl)
theorem dX8_searched_1 : decode cX8_searched 1 = .ok (.istore_n 2, 1) := dk_61 (dk_at dksX8_searched_0 1 rfl rfl)
theorem dX8_searched_2 : decode cX8_searched 2 = .ok (.aload_n 0, 1) := dk_42 (dk_at dksX8_searched_0 2 rfl rfl)
theorem dX8_searched_3 : decode cX8_searched 3 = .ok (.iconst 0, 1) := dk_3 (dk_at dksX8_searched_0 3 rfl rfl)
theorem dX8_searched_4 : decode cX8_searched 4 = .ok (.putfield 290, 3) := dk_181 1 34 (dk_at dksX8_searched_0 4 rfl rfl)
theorem dX8_searched_7 : decode cX8_searched 7 = .ok (.iconst 0, 1) := dk_3 (dk_at dksX8_searched_0 7 rfl rfl)
theorem dX8_searched_8 : decode cX8_searched 8 = .ok (.istore_n 3, 1) := dk_62 (dk_at dksX8_searched_0 8 rfl rfl)
theorem dX8_searched_9 : decode cX8_searched 9 = .ok (.iload_n 3, 1) := dk_29 (dk_at dksX8_searched_0 9 rfl rfl)
theorem dX8_searched_10 : decode cX8_searched 10 = .ok (.aload_n 0, 1) := dk_42 (dk_at dksX8_searched_0 10 rfl rfl)
theorem dX8_searched_11 : decode cX8_searched 11 = .ok (.getfield 53, 3) := dk_180 0 53 (dk_at dksX8_searched_0 11 rfl rfl)
theorem dX8_searched_14 : decode cX8_searched 14 = .ok (.getfield 293, 3) := dk_180 1 37 (dk_at dksX8_searched_0 14 rfl rfl)
theorem dX8_searched_17 : decode cX8_searched 17 = .ok (.if_icmp .ge 58, 3) := dk_162 0 58 (dk_at dksX8_searched_0 17 rfl rfl)
theorem dX8_searched_20 : decode cX8_searched 20 = .ok (.aload_n 0, 1) := dk_42 (dk_at dksX8_searched_0 20 rfl rfl)
theorem dX8_searched_21 : decode cX8_searched 21 = .ok (.getfield 33, 3) := dk_180 0 33 (dk_at dksX8_searched_0 21 rfl rfl)
theorem dX8_searched_24 : decode cX8_searched 24 = .ok (.iload_n 1, 1) := dk_27 (dk_at dksX8_searched_1 0 rfl rfl)
theorem dX8_searched_25 : decode cX8_searched 25 = .ok (.iaload, 1) := dk_46 (dk_at dksX8_searched_1 1 rfl rfl)
theorem dX8_searched_26 : decode cX8_searched 26 = .ok (.aload_n 0, 1) := dk_42 (dk_at dksX8_searched_1 2 rfl rfl)
theorem dX8_searched_27 : decode cX8_searched 27 = .ok (.iload_n 1, 1) := dk_27 (dk_at dksX8_searched_1 3 rfl rfl)
theorem dX8_searched_28 : decode cX8_searched 28 = .ok (.iload_n 3, 1) := dk_29 (dk_at dksX8_searched_1 4 rfl rfl)
theorem dX8_searched_29 : decode cX8_searched 29 = .ok (.invokevirtual 296, 3) := dk_182 1 40 (dk_at dksX8_searched_1 5 rfl rfl)
theorem dX8_searched_32 : decode cX8_searched 32 = .ok (.invokestatic 298, 3) := dk_184 1 42 (dk_at dksX8_searched_1 8 rfl rfl)
theorem dX8_searched_35 : decode cX8_searched 35 = .ok (.istore 4, 2) := dk_54 4 (dk_at dksX8_searched_1 11 rfl rfl)
theorem dX8_searched_37 : decode cX8_searched 37 = .ok (.iload 4, 2) := dk_21 4 (dk_at dksX8_searched_1 13 rfl rfl)
theorem dX8_searched_39 : decode cX8_searched 39 = .ok (.aload_n 0, 1) := dk_42 (dk_at dksX8_searched_1 15 rfl rfl)
theorem dX8_searched_40 : decode cX8_searched 40 = .ok (.getfield 53, 3) := dk_180 0 53 (dk_at dksX8_searched_1 16 rfl rfl)
theorem dX8_searched_43 : decode cX8_searched 43 = .ok (.getfield 300, 3) := dk_180 1 44 (dk_at dksX8_searched_1 19 rfl rfl)
theorem dX8_searched_46 : decode cX8_searched 46 = .ok (.if_icmp .lt 23, 3) := dk_161 0 23 (dk_at dksX8_searched_2 0 rfl rfl)
theorem dX8_searched_49 : decode cX8_searched 49 = .ok (.iload 4, 2) := dk_21 4 (dk_at dksX8_searched_2 3 rfl rfl)
theorem dX8_searched_51 : decode cX8_searched 51 = .ok (.aload_n 0, 1) := dk_42 (dk_at dksX8_searched_2 5 rfl rfl)
theorem dX8_searched_52 : decode cX8_searched 52 = .ok (.getfield 290, 3) := dk_180 1 34 (dk_at dksX8_searched_2 6 rfl rfl)
theorem dX8_searched_55 : decode cX8_searched 55 = .ok (.if_icmp .gt 6, 3) := dk_163 0 6 (dk_at dksX8_searched_2 9 rfl rfl)
theorem dX8_searched_58 : decode cX8_searched 58 = .ok (.goto 11, 3) := dk_167 0 11 (dk_at dksX8_searched_2 12 rfl rfl)
theorem dX8_searched_61 : decode cX8_searched 61 = .ok (.iload_n 3, 1) := dk_29 (dk_at dksX8_searched_2 15 rfl rfl)
theorem dX8_searched_62 : decode cX8_searched 62 = .ok (.istore_n 2, 1) := dk_61 (dk_at dksX8_searched_2 16 rfl rfl)
theorem dX8_searched_63 : decode cX8_searched 63 = .ok (.aload_n 0, 1) := dk_42 (dk_at dksX8_searched_2 17 rfl rfl)
theorem dX8_searched_64 : decode cX8_searched 64 = .ok (.iload 4, 2) := dk_21 4 (dk_at dksX8_searched_2 18 rfl rfl)
theorem dX8_searched_66 : decode cX8_searched 66 = .ok (.putfield 290, 3) := dk_181 1 34 (dk_at dksX8_searched_2 20 rfl rfl)
theorem dX8_searched_69 : decode cX8_searched 69 = .ok (.iinc 3 1, 3) := dk_132 3 1 (dk_at dksX8_searched_3 0 rfl rfl)
theorem dX8_searched_72 : decode cX8_searched 72 = .ok (.goto (-63), 3) := dk_167 255 193 (dk_at dksX8_searched_3 3 rfl rfl)
theorem dX8_searched_75 : decode cX8_searched 75 = .ok (.iload_n 2, 1) := dk_28 (dk_at dksX8_searched_3 6 rfl rfl)
theorem dX8_searched_76 : decode cX8_searched 76 = .ok (.ireturn, 1) := dk_172 (dk_at dksX8_searched_3 7 rfl rfl)
abbrev cX8_allowedPower : ByteArray := prog_18_method_22_code
def yX8_allowedPower : MethodName := ⟨RX8, "allowedPower", "(II)I"⟩
def dkwX8_allowedPower_3 : List UInt8 := [184, 1, 21, 136, 167, 0, 4, 3, 172]
abbrev dktX8_allowedPower_3 : List UInt8 := dkwX8_allowedPower_3 ++ []
def dkwX8_allowedPower_2 : List UInt8 := [185, 0, 113, 2, 0, 192, 0, 237, 28, 182, 1, 27, 153, 0, 18, 9, 42, 45, 28, 4, 182, 1, 13]
abbrev dktX8_allowedPower_2 : List UInt8 := dkwX8_allowedPower_2 ++ dktX8_allowedPower_3
def dkwX8_allowedPower_1 : List UInt8 := [42, 45, 28, 42, 180, 0, 39, 27, 46, 182, 1, 23, 172, 42, 180, 0, 53, 180, 0, 231, 45, 180, 0, 234]
abbrev dktX8_allowedPower_1 : List UInt8 := dkwX8_allowedPower_1 ++ dktX8_allowedPower_2
def dkwX8_allowedPower_0 : List UInt8 := [42, 180, 0, 53, 180, 0, 102, 27, 185, 0, 113, 2, 0, 192, 0, 108, 78, 45, 182, 0, 228, 154, 0, 16]
abbrev dktX8_allowedPower_0 : List UInt8 := dkwX8_allowedPower_0 ++ dktX8_allowedPower_1
theorem dksX8_allowedPower_0 : cX8_allowedPower.data.toList.drop 0 = dktX8_allowedPower_0 := by decide +kernel
theorem dksX8_allowedPower_1 : cX8_allowedPower.data.toList.drop 24 = dktX8_allowedPower_1 := dk_seg dksX8_allowedPower_0 24 rfl rfl
theorem dksX8_allowedPower_2 : cX8_allowedPower.data.toList.drop 48 = dktX8_allowedPower_2 := dk_seg dksX8_allowedPower_1 24 rfl rfl
theorem dksX8_allowedPower_3 : cX8_allowedPower.data.toList.drop 71 = dktX8_allowedPower_3 := dk_seg dksX8_allowedPower_2 23 rfl rfl
theorem dX8_allowedPower_0 : decode cX8_allowedPower 0 = .ok (.aload_n 0, 1) := dk_42 (dk_at dksX8_allowedPower_0 0 rfl rfl)
theorem dX8_allowedPower_1 : decode cX8_allowedPower 1 = .ok (.getfield 53, 3) := dk_180 0 53 (dk_at dksX8_allowedPower_0 1 rfl rfl)
theorem dX8_allowedPower_4 : decode cX8_allowedPower 4 = .ok (.getfield 102, 3) := dk_180 0 102 (dk_at dksX8_allowedPower_0 4 rfl rfl)
theorem dX8_allowedPower_7 : decode cX8_allowedPower 7 = .ok (.iload_n 1, 1) := dk_27 (dk_at dksX8_allowedPower_0 7 rfl rfl)
theorem dX8_allowedPower_8 : decode cX8_allowedPower 8 = .ok (.invokeinterface 113 2, 5) := by decide +kernel
theorem dX8_allowedPower_13 : decode cX8_allowedPower 13 = .ok (.checkcast 108, 3) := dk_192 0 108 (dk_at dksX8_allowedPower_0 13 rfl rfl)
theorem dX8_allowedPower_16 : decode cX8_allowedPower 16 = .ok (.astore_n 3, 1) := dk_78 (dk_at dksX8_allowedPower_0 16 rfl rfl)
theorem dX8_allowedPower_17 : decode cX8_allowedPower 17 = .ok (.aload_n 3, 1) := dk_45 (dk_at dksX8_allowedPower_0 17 rfl rfl)
theorem dX8_allowedPower_18 : decode cX8_allowedPower 18 = .ok (.invokevirtual 228, 3) := dk_182 0 228 (dk_at dksX8_allowedPower_0 18 rfl rfl)
theorem dX8_allowedPower_21 : decode cX8_allowedPower 21 = .ok (.ifCond .ne 16, 3) := dk_154 0 16 (dk_at dksX8_allowedPower_0 21 rfl rfl)
theorem dX8_allowedPower_24 : decode cX8_allowedPower 24 = .ok (.aload_n 0, 1) := dk_42 (dk_at dksX8_allowedPower_1 0 rfl rfl)
theorem dX8_allowedPower_25 : decode cX8_allowedPower 25 = .ok (.aload_n 3, 1) := dk_45 (dk_at dksX8_allowedPower_1 1 rfl rfl)
theorem dX8_allowedPower_26 : decode cX8_allowedPower 26 = .ok (.iload_n 2, 1) := dk_28 (dk_at dksX8_allowedPower_1 2 rfl rfl)
theorem dX8_allowedPower_27 : decode cX8_allowedPower 27 = .ok (.aload_n 0, 1) := dk_42 (dk_at dksX8_allowedPower_1 3 rfl rfl)
theorem dX8_allowedPower_28 : decode cX8_allowedPower 28 = .ok (.getfield 39, 3) := dk_180 0 39 (dk_at dksX8_allowedPower_1 4 rfl rfl)
theorem dX8_allowedPower_31 : decode cX8_allowedPower 31 = .ok (.iload_n 1, 1) := dk_27 (dk_at dksX8_allowedPower_1 7 rfl rfl)
theorem dX8_allowedPower_32 : decode cX8_allowedPower 32 = .ok (.iaload, 1) := dk_46 (dk_at dksX8_allowedPower_1 8 rfl rfl)
theorem dX8_allowedPower_33 : decode cX8_allowedPower 33 = .ok (.invokevirtual 279, 3) := dk_182 1 23 (dk_at dksX8_allowedPower_1 9 rfl rfl)
theorem dX8_allowedPower_36 : decode cX8_allowedPower 36 = .ok (.ireturn, 1) := dk_172 (dk_at dksX8_allowedPower_1 12 rfl rfl)
theorem dX8_allowedPower_37 : decode cX8_allowedPower 37 = .ok (.aload_n 0, 1) := dk_42 (dk_at dksX8_allowedPower_1 13 rfl rfl)
theorem dX8_allowedPower_38 : decode cX8_allowedPower 38 = .ok (.getfield 53, 3) := dk_180 0 53 (dk_at dksX8_allowedPower_1 14 rfl rfl)
theorem dX8_allowedPower_41 : decode cX8_allowedPower 41 = .ok (.getfield 231, 3) := dk_180 0 231 (dk_at dksX8_allowedPower_1 17 rfl rfl)
theorem dX8_allowedPower_44 : decode cX8_allowedPower 44 = .ok (.aload_n 3, 1) := dk_45 (dk_at dksX8_allowedPower_1 20 rfl rfl)
theorem dX8_allowedPower_45 : decode cX8_allowedPower 45 = .ok (.getfield 234, 3) := dk_180 0 234 (dk_at dksX8_allowedPower_1 21 rfl rfl)
theorem dX8_allowedPower_48 : decode cX8_allowedPower 48 = .ok (.invokeinterface 113 2, 5) := by decide +kernel
theorem dX8_allowedPower_53 : decode cX8_allowedPower 53 = .ok (.checkcast 237, 3) := dk_192 0 237 (dk_at dksX8_allowedPower_2 5 rfl rfl)
theorem dX8_allowedPower_56 : decode cX8_allowedPower 56 = .ok (.iload_n 2, 1) := dk_28 (dk_at dksX8_allowedPower_2 8 rfl rfl)
theorem dX8_allowedPower_57 : decode cX8_allowedPower 57 = .ok (.invokevirtual 283, 3) := dk_182 1 27 (dk_at dksX8_allowedPower_2 9 rfl rfl)
theorem dX8_allowedPower_60 : decode cX8_allowedPower 60 = .ok (.ifCond .eq 18, 3) := dk_153 0 18 (dk_at dksX8_allowedPower_2 12 rfl rfl)
theorem dX8_allowedPower_63 : decode cX8_allowedPower 63 = .ok (.lconst 0, 1) := dk_9 (dk_at dksX8_allowedPower_2 15 rfl rfl)
theorem dX8_allowedPower_64 : decode cX8_allowedPower 64 = .ok (.aload_n 0, 1) := dk_42 (dk_at dksX8_allowedPower_2 16 rfl rfl)
theorem dX8_allowedPower_65 : decode cX8_allowedPower 65 = .ok (.aload_n 3, 1) := dk_45 (dk_at dksX8_allowedPower_2 17 rfl rfl)
theorem dX8_allowedPower_66 : decode cX8_allowedPower 66 = .ok (.iload_n 2, 1) := dk_28 (dk_at dksX8_allowedPower_2 18 rfl rfl)
theorem dX8_allowedPower_67 : decode cX8_allowedPower 67 = .ok (.iconst 1, 1) := dk_4 (dk_at dksX8_allowedPower_2 19 rfl rfl)
theorem dX8_allowedPower_68 : decode cX8_allowedPower 68 = .ok (.invokevirtual 269, 3) := dk_182 1 13 (dk_at dksX8_allowedPower_2 20 rfl rfl)
theorem dX8_allowedPower_71 : decode cX8_allowedPower 71 = .ok (.invokestatic 277, 3) := dk_184 1 21 (dk_at dksX8_allowedPower_3 0 rfl rfl)
theorem dX8_allowedPower_74 : decode cX8_allowedPower 74 = .ok (.l2i, 1) := dk_136 (dk_at dksX8_allowedPower_3 3 rfl rfl)
theorem dX8_allowedPower_75 : decode cX8_allowedPower 75 = .ok (.goto 4, 3) := dk_167 0 4 (dk_at dksX8_allowedPower_3 4 rfl rfl)
theorem dX8_allowedPower_78 : decode cX8_allowedPower 78 = .ok (.iconst 0, 1) := dk_3 (dk_at dksX8_allowedPower_3 7 rfl rfl)
theorem dX8_allowedPower_79 : decode cX8_allowedPower 79 = .ok (.ireturn, 1) := dk_172 (dk_at dksX8_allowedPower_3 8 rfl rfl)
abbrev cX8_allowedPower_2 : ByteArray := prog_18_method_21_code
def yX8_allowedPower_2 : MethodName := ⟨RX8, "allowedPower", "(LSpectrumAccess$Point;II)I"⟩
def dkwX8_allowedPower_2_1 : List UInt8 := [182, 1, 17, 184, 0, 224, 184, 1, 21, 136, 172]
abbrev dktX8_allowedPower_2_1 : List UInt8 := dkwX8_allowedPower_2_1 ++ []
def dkwX8_allowedPower_2_0 : List UInt8 := [42, 43, 28, 29, 182, 1, 9, 153, 0, 5, 3, 172, 9, 42, 43, 28, 3, 182, 1, 13, 42, 43, 28]
abbrev dktX8_allowedPower_2_0 : List UInt8 := dkwX8_allowedPower_2_0 ++ dktX8_allowedPower_2_1
theorem dksX8_allowedPower_2_0 : cX8_allowedPower_2.data.toList.drop 0 = dktX8_allowedPower_2_0 := by decide +kernel
theorem dksX8_allowedPower_2_1 : cX8_allowedPower_2.data.toList.drop 23 = dktX8_allowedPower_2_1 := dk_seg dksX8_allowedPower_2_0 23 rfl rfl
theorem dX8_allowedPower_2_0 : decode cX8_allowedPower_2 0 = .ok (.aload_n 0, 1) := dk_42 (dk_at dksX8_allowedPower_2_0 0 rfl rfl)
theorem dX8_allowedPower_2_1 : decode cX8_allowedPower_2 1 = .ok (.aload_n 1, 1) := dk_43 (dk_at dksX8_allowedPower_2_0 1 rfl rfl)
theorem dX8_allowedPower_2_2 : decode cX8_allowedPower_2 2 = .ok (.iload_n 2, 1) := dk_28 (dk_at dksX8_allowedPower_2_0 2 rfl rfl)
theorem dX8_allowedPower_2_3 : decode cX8_allowedPower_2 3 = .ok (.iload_n 3, 1) := dk_29 (dk_at dksX8_allowedPower_2_0 3 rfl rfl)
theorem dX8_allowedPower_2_4 : decode cX8_allowedPower_2 4 = .ok (.invokevirtual 265, 3) := dk_182 1 9 (dk_at dksX8_allowedPower_2_0 4 rfl rfl)
theorem dX8_allowedPower_2_7 : decode cX8_allowedPower_2 7 = .ok (.ifCond .eq 5, 3) := dk_153 0 5 (dk_at dksX8_allowedPower_2_0 7 rfl rfl)
theorem dX8_allowedPower_2_10 : decode cX8_allowedPower_2 10 = .ok (.iconst 0, 1) := dk_3 (dk_at dksX8_allowedPower_2_0 10 rfl rfl)
theorem dX8_allowedPower_2_11 : decode cX8_allowedPower_2 11 = .ok (.ireturn, 1) := dk_172 (dk_at dksX8_allowedPower_2_0 11 rfl rfl)
theorem dX8_allowedPower_2_12 : decode cX8_allowedPower_2 12 = .ok (.lconst 0, 1) := dk_9 (dk_at dksX8_allowedPower_2_0 12 rfl rfl)
theorem dX8_allowedPower_2_13 : decode cX8_allowedPower_2 13 = .ok (.aload_n 0, 1) := dk_42 (dk_at dksX8_allowedPower_2_0 13 rfl rfl)
theorem dX8_allowedPower_2_14 : decode cX8_allowedPower_2 14 = .ok (.aload_n 1, 1) := dk_43 (dk_at dksX8_allowedPower_2_0 14 rfl rfl)
theorem dX8_allowedPower_2_15 : decode cX8_allowedPower_2 15 = .ok (.iload_n 2, 1) := dk_28 (dk_at dksX8_allowedPower_2_0 15 rfl rfl)
theorem dX8_allowedPower_2_16 : decode cX8_allowedPower_2 16 = .ok (.iconst 0, 1) := dk_3 (dk_at dksX8_allowedPower_2_0 16 rfl rfl)
theorem dX8_allowedPower_2_17 : decode cX8_allowedPower_2 17 = .ok (.invokevirtual 269, 3) := dk_182 1 13 (dk_at dksX8_allowedPower_2_0 17 rfl rfl)
theorem dX8_allowedPower_2_20 : decode cX8_allowedPower_2 20 = .ok (.aload_n 0, 1) := dk_42 (dk_at dksX8_allowedPower_2_0 20 rfl rfl)
theorem dX8_allowedPower_2_21 : decode cX8_allowedPower_2 21 = .ok (.aload_n 1, 1) := dk_43 (dk_at dksX8_allowedPower_2_0 21 rfl rfl)
theorem dX8_allowedPower_2_22 : decode cX8_allowedPower_2 22 = .ok (.iload_n 2, 1) := dk_28 (dk_at dksX8_allowedPower_2_0 22 rfl rfl)
theorem dX8_allowedPower_2_23 : decode cX8_allowedPower_2 23 = .ok (.invokevirtual 273, 3) := dk_182 1 17 (dk_at dksX8_allowedPower_2_1 0 rfl rfl)
theorem dX8_allowedPower_2_26 : decode cX8_allowedPower_2 26 = .ok (.invokestatic 224, 3) := dk_184 0 224 (dk_at dksX8_allowedPower_2_1 3 rfl rfl)
theorem dX8_allowedPower_2_29 : decode cX8_allowedPower_2 29 = .ok (.invokestatic 277, 3) := dk_184 1 21 (dk_at dksX8_allowedPower_2_1 6 rfl rfl)
theorem dX8_allowedPower_2_32 : decode cX8_allowedPower_2 32 = .ok (.l2i, 1) := dk_136 (dk_at dksX8_allowedPower_2_1 9 rfl rfl)
theorem dX8_allowedPower_2_33 : decode cX8_allowedPower_2 33 = .ok (.ireturn, 1) := dk_172 (dk_at dksX8_allowedPower_2_1 10 rfl rfl)
abbrev cX8_isDenied : ByteArray := prog_18_method_19_code
def yX8_isDenied : MethodName := ⟨RX8, "isDenied", "(LSpectrumAccess$Point;II)Z"⟩
def dkwX8_isDenied_4 : List UInt8 := [132, 5, 1, 167, 255, 209, 3, 172]
abbrev dktX8_isDenied_4 : List UInt8 := dkwX8_isDenied_4 ++ []
def dkwX8_isDenied_3 : List UInt8 := [180, 1, 0, 21, 5, 185, 0, 113, 2, 0, 192, 1, 3, 25, 4, 182, 1, 5, 153, 0, 5, 4, 172]
abbrev dktX8_isDenied_3 : List UInt8 := dkwX8_isDenied_3 ++ dktX8_isDenied_4
def dkwX8_isDenied_2 : List UInt8 := [3, 54, 5, 21, 5, 42, 180, 0, 53, 180, 1, 0, 185, 0, 94, 1, 0, 162, 0, 36, 42, 180, 0, 53]
abbrev dktX8_isDenied_2 : List UInt8 := dkwX8_isDenied_2 ++ dktX8_isDenied_3
def dkwX8_isDenied_1 : List UInt8 := [181, 0, 250, 25, 4, 28, 181, 0, 251, 25, 4, 42, 180, 0, 81, 181, 0, 253, 25, 4, 29, 181, 0, 254]
abbrev dktX8_isDenied_1 : List UInt8 := dkwX8_isDenied_1 ++ dktX8_isDenied_2
def dkwX8_isDenied_0 : List UInt8 := [42, 180, 0, 53, 180, 0, 243, 58, 4, 25, 4, 43, 180, 0, 144, 181, 0, 247, 25, 4, 43, 180, 0, 149]
abbrev dktX8_isDenied_0 : List UInt8 := dkwX8_isDenied_0 ++ dktX8_isDenied_1
theorem dksX8_isDenied_0 : cX8_isDenied.data.toList.drop 0 = dktX8_isDenied_0 := by decide +kernel
theorem dksX8_isDenied_1 : cX8_isDenied.data.toList.drop 24 = dktX8_isDenied_1 := dk_seg dksX8_isDenied_0 24 rfl rfl
theorem dksX8_isDenied_2 : cX8_isDenied.data.toList.drop 48 = dktX8_isDenied_2 := dk_seg dksX8_isDenied_1 24 rfl rfl
theorem dksX8_isDenied_3 : cX8_isDenied.data.toList.drop 72 = dktX8_isDenied_3 := dk_seg dksX8_isDenied_2 24 rfl rfl
theorem dksX8_isDenied_4 : cX8_isDenied.data.toList.drop 95 = dktX8_isDenied_4 := dk_seg dksX8_isDenied_3 23 rfl rfl
theorem dX8_isDenied_0 : decode cX8_isDenied 0 = .ok (.aload_n 0, 1) := dk_42 (dk_at dksX8_isDenied_0 0 rfl rfl)
theorem dX8_isDenied_1 : decode cX8_isDenied 1 = .ok (.getfield 53, 3) := dk_180 0 53 (dk_at dksX8_isDenied_0 1 rfl rfl)
theorem dX8_isDenied_4 : decode cX8_isDenied 4 = .ok (.getfield 243, 3) := dk_180 0 243 (dk_at dksX8_isDenied_0 4 rfl rfl)
theorem dX8_isDenied_7 : decode cX8_isDenied 7 = .ok (.astore 4, 2) := dk_58 4 (dk_at dksX8_isDenied_0 7 rfl rfl)
theorem dX8_isDenied_9 : decode cX8_isDenied 9 = .ok (.aload 4, 2) := dk_25 4 (dk_at dksX8_isDenied_0 9 rfl rfl)
theorem dX8_isDenied_11 : decode cX8_isDenied 11 = .ok (.aload_n 1, 1) := dk_43 (dk_at dksX8_isDenied_0 11 rfl rfl)
theorem dX8_isDenied_12 : decode cX8_isDenied 12 = .ok (.getfield 144, 3) := dk_180 0 144 (dk_at dksX8_isDenied_0 12 rfl rfl)
theorem dX8_isDenied_15 : decode cX8_isDenied 15 = .ok (.putfield 247, 3) := dk_181 0 247 (dk_at dksX8_isDenied_0 15 rfl rfl)
theorem dX8_isDenied_18 : decode cX8_isDenied 18 = .ok (.aload 4, 2) := dk_25 4 (dk_at dksX8_isDenied_0 18 rfl rfl)
theorem dX8_isDenied_20 : decode cX8_isDenied 20 = .ok (.aload_n 1, 1) := dk_43 (dk_at dksX8_isDenied_0 20 rfl rfl)
theorem dX8_isDenied_21 : decode cX8_isDenied 21 = .ok (.getfield 149, 3) := dk_180 0 149 (dk_at dksX8_isDenied_0 21 rfl rfl)
theorem dX8_isDenied_24 : decode cX8_isDenied 24 = .ok (.putfield 250, 3) := dk_181 0 250 (dk_at dksX8_isDenied_1 0 rfl rfl)
theorem dX8_isDenied_27 : decode cX8_isDenied 27 = .ok (.aload 4, 2) := dk_25 4 (dk_at dksX8_isDenied_1 3 rfl rfl)
theorem dX8_isDenied_29 : decode cX8_isDenied 29 = .ok (.iload_n 2, 1) := dk_28 (dk_at dksX8_isDenied_1 5 rfl rfl)
theorem dX8_isDenied_30 : decode cX8_isDenied 30 = .ok (.putfield 251, 3) := dk_181 0 251 (dk_at dksX8_isDenied_1 6 rfl rfl)
theorem dX8_isDenied_33 : decode cX8_isDenied 33 = .ok (.aload 4, 2) := dk_25 4 (dk_at dksX8_isDenied_1 9 rfl rfl)
theorem dX8_isDenied_35 : decode cX8_isDenied 35 = .ok (.aload_n 0, 1) := dk_42 (dk_at dksX8_isDenied_1 11 rfl rfl)
theorem dX8_isDenied_36 : decode cX8_isDenied 36 = .ok (.getfield 81, 3) := dk_180 0 81 (dk_at dksX8_isDenied_1 12 rfl rfl)
theorem dX8_isDenied_39 : decode cX8_isDenied 39 = .ok (.putfield 253, 3) := dk_181 0 253 (dk_at dksX8_isDenied_1 15 rfl rfl)
theorem dX8_isDenied_42 : decode cX8_isDenied 42 = .ok (.aload 4, 2) := dk_25 4 (dk_at dksX8_isDenied_1 18 rfl rfl)
theorem dX8_isDenied_44 : decode cX8_isDenied 44 = .ok (.iload_n 3, 1) := dk_29 (dk_at dksX8_isDenied_1 20 rfl rfl)
theorem dX8_isDenied_45 : decode cX8_isDenied 45 = .ok (.putfield 254, 3) := dk_181 0 254 (dk_at dksX8_isDenied_1 21 rfl rfl)
theorem dX8_isDenied_48 : decode cX8_isDenied 48 = .ok (.iconst 0, 1) := dk_3 (dk_at dksX8_isDenied_2 0 rfl rfl)
theorem dX8_isDenied_49 : decode cX8_isDenied 49 = .ok (.istore 5, 2) := dk_54 5 (dk_at dksX8_isDenied_2 1 rfl rfl)
theorem dX8_isDenied_51 : decode cX8_isDenied 51 = .ok (.iload 5, 2) := dk_21 5 (dk_at dksX8_isDenied_2 3 rfl rfl)
theorem dX8_isDenied_53 : decode cX8_isDenied 53 = .ok (.aload_n 0, 1) := dk_42 (dk_at dksX8_isDenied_2 5 rfl rfl)
theorem dX8_isDenied_54 : decode cX8_isDenied 54 = .ok (.getfield 53, 3) := dk_180 0 53 (dk_at dksX8_isDenied_2 6 rfl rfl)
theorem dX8_isDenied_57 : decode cX8_isDenied 57 = .ok (.getfield 256, 3) := dk_180 1 0 (dk_at dksX8_isDenied_2 9 rfl rfl)
theorem dX8_isDenied_60 : decode cX8_isDenied 60 = .ok (.invokeinterface 94 1, 5) := by decide +kernel
theorem dX8_isDenied_65 : decode cX8_isDenied 65 = .ok (.if_icmp .ge 36, 3) := dk_162 0 36 (dk_at dksX8_isDenied_2 17 rfl rfl)
theorem dX8_isDenied_68 : decode cX8_isDenied 68 = .ok (.aload_n 0, 1) := dk_42 (dk_at dksX8_isDenied_2 20 rfl rfl)
theorem dX8_isDenied_69 : decode cX8_isDenied 69 = .ok (.getfield 53, 3) := dk_180 0 53 (dk_at dksX8_isDenied_2 21 rfl rfl)
theorem dX8_isDenied_72 : decode cX8_isDenied 72 = .ok (.getfield 256, 3) := dk_180 1 0 (dk_at dksX8_isDenied_3 0 rfl rfl)
theorem dX8_isDenied_75 : decode cX8_isDenied 75 = .ok (.iload 5, 2) := dk_21 5 (dk_at dksX8_isDenied_3 3 rfl rfl)
theorem dX8_isDenied_77 : decode cX8_isDenied 77 = .ok (.invokeinterface 113 2, 5) := by decide +kernel
theorem dX8_isDenied_82 : decode cX8_isDenied 82 = .ok (.checkcast 259, 3) := dk_192 1 3 (dk_at dksX8_isDenied_3 10 rfl rfl)
theorem dX8_isDenied_85 : decode cX8_isDenied 85 = .ok (.aload 4, 2) := dk_25 4 (dk_at dksX8_isDenied_3 13 rfl rfl)
theorem dX8_isDenied_87 : decode cX8_isDenied 87 = .ok (.invokevirtual 261, 3) := dk_182 1 5 (dk_at dksX8_isDenied_3 15 rfl rfl)
theorem dX8_isDenied_90 : decode cX8_isDenied 90 = .ok (.ifCond .eq 5, 3) := dk_153 0 5 (dk_at dksX8_isDenied_3 18 rfl rfl)
theorem dX8_isDenied_93 : decode cX8_isDenied 93 = .ok (.iconst 1, 1) := dk_4 (dk_at dksX8_isDenied_3 21 rfl rfl)
theorem dX8_isDenied_94 : decode cX8_isDenied 94 = .ok (.ireturn, 1) := dk_172 (dk_at dksX8_isDenied_3 22 rfl rfl)
theorem dX8_isDenied_95 : decode cX8_isDenied 95 = .ok (.iinc 5 1, 3) := dk_132 5 1 (dk_at dksX8_isDenied_4 0 rfl rfl)
theorem dX8_isDenied_98 : decode cX8_isDenied 98 = .ok (.goto (-47), 3) := dk_167 255 209 (dk_at dksX8_isDenied_4 3 rfl rfl)
theorem dX8_isDenied_101 : decode cX8_isDenied 101 = .ok (.iconst 0, 1) := dk_3 (dk_at dksX8_isDenied_4 6 rfl rfl)
theorem dX8_isDenied_102 : decode cX8_isDenied 102 = .ok (.ireturn, 1) := dk_172 (dk_at dksX8_isDenied_4 7 rfl rfl)
abbrev cX8_allowedByIncumbents : ByteArray := prog_18_method_17_code
def yX8_allowedByIncumbents : MethodName := ⟨RX8, "allowedByIncumbents", "(LSpectrumAccess$Point;II)J"⟩
def dkwX8_allowedByIncumbents_5 : List UInt8 := [132, 6, 1, 167, 255, 149, 22, 4, 173]
abbrev dktX8_allowedByIncumbents_5 : List UInt8 := dkwX8_allowedByIncumbents_5 ++ []
def dkwX8_allowedByIncumbents_4 : List UInt8 := [182, 0, 217, 21, 8, 28, 100, 184, 0, 121, 182, 0, 220, 184, 0, 224, 55, 4, 132, 8, 1, 167, 255, 204]
abbrev dktX8_allowedByIncumbents_4 : List UInt8 := dkwX8_allowedByIncumbents_4 ++ dktX8_allowedByIncumbents_5
def dkwX8_allowedByIncumbents_3 : List UInt8 := [163, 0, 48, 22, 4, 42, 42, 180, 0, 50, 29, 50, 16, 8, 21, 6, 104, 21, 8, 96, 46, 43, 25, 7]
abbrev dktX8_allowedByIncumbents_3 : List UInt8 := dkwX8_allowedByIncumbents_3 ++ dktX8_allowedByIncumbents_4
def dkwX8_allowedByIncumbents_2 : List UInt8 := [185, 0, 113, 2, 0, 192, 0, 156, 58, 7, 25, 7, 180, 0, 171, 54, 8, 21, 8, 25, 7, 180, 0, 174]
abbrev dktX8_allowedByIncumbents_2 : List UInt8 := dkwX8_allowedByIncumbents_2 ++ dktX8_allowedByIncumbents_3
def dkwX8_allowedByIncumbents_1 : List UInt8 := [162, 0, 99, 42, 21, 6, 182, 0, 199, 154, 0, 6, 167, 0, 81, 42, 180, 0, 14, 21, 6]
abbrev dktX8_allowedByIncumbents_1 : List UInt8 := dkwX8_allowedByIncumbents_1 ++ dktX8_allowedByIncumbents_2
def dkwX8_allowedByIncumbents_0 : List UInt8 := [42, 182, 0, 214, 20, 0, 192, 55, 4, 3, 54, 6, 21, 6, 42, 180, 0, 14, 185, 0, 94, 1, 0]
abbrev dktX8_allowedByIncumbents_0 : List UInt8 := dkwX8_allowedByIncumbents_0 ++ dktX8_allowedByIncumbents_1
theorem dksX8_allowedByIncumbents_0 : cX8_allowedByIncumbents.data.toList.drop 0 = dktX8_allowedByIncumbents_0 := by decide +kernel
theorem dksX8_allowedByIncumbents_1 : cX8_allowedByIncumbents.data.toList.drop 23 = dktX8_allowedByIncumbents_1 := dk_seg dksX8_allowedByIncumbents_0 23 rfl rfl
theorem dksX8_allowedByIncumbents_2 : cX8_allowedByIncumbents.data.toList.drop 44 = dktX8_allowedByIncumbents_2 := dk_seg dksX8_allowedByIncumbents_1 21 rfl rfl
theorem dksX8_allowedByIncumbents_3 : cX8_allowedByIncumbents.data.toList.drop 68 = dktX8_allowedByIncumbents_3 := dk_seg dksX8_allowedByIncumbents_2 24 rfl rfl
theorem dksX8_allowedByIncumbents_4 : cX8_allowedByIncumbents.data.toList.drop 92 = dktX8_allowedByIncumbents_4 := dk_seg dksX8_allowedByIncumbents_3 24 rfl rfl
theorem dksX8_allowedByIncumbents_5 : cX8_allowedByIncumbents.data.toList.drop 116 = dktX8_allowedByIncumbents_5 := dk_seg dksX8_allowedByIncumbents_4 24 rfl rfl
theorem dX8_allowedByIncumbents_0 : decode cX8_allowedByIncumbents 0 = .ok (.aload_n 0, 1) := dk_42 (dk_at dksX8_allowedByIncumbents_0 0 rfl rfl)
theorem dX8_allowedByIncumbents_1 : decode cX8_allowedByIncumbents 1 = .ok (.invokevirtual 214, 3) := dk_182 0 214 (dk_at dksX8_allowedByIncumbents_0 1 rfl rfl)
theorem dX8_allowedByIncumbents_4 : decode cX8_allowedByIncumbents 4 = .ok (.ldc2_w 192, 3) := dk_20 0 192 (dk_at dksX8_allowedByIncumbents_0 4 rfl rfl)
theorem dX8_allowedByIncumbents_7 : decode cX8_allowedByIncumbents 7 = .ok (.lstore 4, 2) := dk_55 4 (dk_at dksX8_allowedByIncumbents_0 7 rfl rfl)
theorem dX8_allowedByIncumbents_9 : decode cX8_allowedByIncumbents 9 = .ok (.iconst 0, 1) := dk_3 (dk_at dksX8_allowedByIncumbents_0 9 rfl rfl)
theorem dX8_allowedByIncumbents_10 : decode cX8_allowedByIncumbents 10 = .ok (.istore 6, 2) := dk_54 6 (dk_at dksX8_allowedByIncumbents_0 10 rfl rfl)
theorem dX8_allowedByIncumbents_12 : decode cX8_allowedByIncumbents 12 = .ok (.iload 6, 2) := dk_21 6 (dk_at dksX8_allowedByIncumbents_0 12 rfl rfl)
theorem dX8_allowedByIncumbents_14 : decode cX8_allowedByIncumbents 14 = .ok (.aload_n 0, 1) := dk_42 (dk_at dksX8_allowedByIncumbents_0 14 rfl rfl)
theorem dX8_allowedByIncumbents_15 : decode cX8_allowedByIncumbents 15 = .ok (.getfield 14, 3) := dk_180 0 14 (dk_at dksX8_allowedByIncumbents_0 15 rfl rfl)
theorem dX8_allowedByIncumbents_18 : decode cX8_allowedByIncumbents 18 = .ok (.invokeinterface 94 1, 5) := by decide +kernel
theorem dX8_allowedByIncumbents_23 : decode cX8_allowedByIncumbents 23 = .ok (.if_icmp .ge 99, 3) := dk_162 0 99 (dk_at dksX8_allowedByIncumbents_1 0 rfl rfl)
theorem dX8_allowedByIncumbents_26 : decode cX8_allowedByIncumbents 26 = .ok (.aload_n 0, 1) := dk_42 (dk_at dksX8_allowedByIncumbents_1 3 rfl rfl)
theorem dX8_allowedByIncumbents_27 : decode cX8_allowedByIncumbents 27 = .ok (.iload 6, 2) := dk_21 6 (dk_at dksX8_allowedByIncumbents_1 4 rfl rfl)
theorem dX8_allowedByIncumbents_29 : decode cX8_allowedByIncumbents 29 = .ok (.invokevirtual 199, 3) := dk_182 0 199 (dk_at dksX8_allowedByIncumbents_1 6 rfl rfl)
theorem dX8_allowedByIncumbents_32 : decode cX8_allowedByIncumbents 32 = .ok (.ifCond .ne 6, 3) := dk_154 0 6 (dk_at dksX8_allowedByIncumbents_1 9 rfl rfl)
theorem dX8_allowedByIncumbents_35 : decode cX8_allowedByIncumbents 35 = .ok (.goto 81, 3) := dk_167 0 81 (dk_at dksX8_allowedByIncumbents_1 12 rfl rfl)
theorem dX8_allowedByIncumbents_38 : decode cX8_allowedByIncumbents 38 = .ok (.aload_n 0, 1) := dk_42 (dk_at dksX8_allowedByIncumbents_1 15 rfl rfl)
theorem dX8_allowedByIncumbents_39 : decode cX8_allowedByIncumbents 39 = .ok (.getfield 14, 3) := dk_180 0 14 (dk_at dksX8_allowedByIncumbents_1 16 rfl rfl)
theorem dX8_allowedByIncumbents_42 : decode cX8_allowedByIncumbents 42 = .ok (.iload 6, 2) := dk_21 6 (dk_at dksX8_allowedByIncumbents_1 19 rfl rfl)
theorem dX8_allowedByIncumbents_44 : decode cX8_allowedByIncumbents 44 = .ok (.invokeinterface 113 2, 5) := by decide +kernel
theorem dX8_allowedByIncumbents_49 : decode cX8_allowedByIncumbents 49 = .ok (.checkcast 156, 3) := dk_192 0 156 (dk_at dksX8_allowedByIncumbents_2 5 rfl rfl)
theorem dX8_allowedByIncumbents_52 : decode cX8_allowedByIncumbents 52 = .ok (.astore 7, 2) := dk_58 7 (dk_at dksX8_allowedByIncumbents_2 8 rfl rfl)
theorem dX8_allowedByIncumbents_54 : decode cX8_allowedByIncumbents 54 = .ok (.aload 7, 2) := dk_25 7 (dk_at dksX8_allowedByIncumbents_2 10 rfl rfl)
theorem dX8_allowedByIncumbents_56 : decode cX8_allowedByIncumbents 56 = .ok (.getfield 171, 3) := dk_180 0 171 (dk_at dksX8_allowedByIncumbents_2 12 rfl rfl)
theorem dX8_allowedByIncumbents_59 : decode cX8_allowedByIncumbents 59 = .ok (.istore 8, 2) := dk_54 8 (dk_at dksX8_allowedByIncumbents_2 15 rfl rfl)
theorem dX8_allowedByIncumbents_61 : decode cX8_allowedByIncumbents 61 = .ok (.iload 8, 2) := dk_21 8 (dk_at dksX8_allowedByIncumbents_2 17 rfl rfl)
theorem dX8_allowedByIncumbents_63 : decode cX8_allowedByIncumbents 63 = .ok (.aload 7, 2) := dk_25 7 (dk_at dksX8_allowedByIncumbents_2 19 rfl rfl)
theorem dX8_allowedByIncumbents_65 : decode cX8_allowedByIncumbents 65 = .ok (.getfield 174, 3) := dk_180 0 174 (dk_at dksX8_allowedByIncumbents_2 21 rfl rfl)
theorem dX8_allowedByIncumbents_68 : decode cX8_allowedByIncumbents 68 = .ok (.if_icmp .gt 48, 3) := dk_163 0 48 (dk_at dksX8_allowedByIncumbents_3 0 rfl rfl)
theorem dX8_allowedByIncumbents_71 : decode cX8_allowedByIncumbents 71 = .ok (.lload 4, 2) := dk_22 4 (dk_at dksX8_allowedByIncumbents_3 3 rfl rfl)
theorem dX8_allowedByIncumbents_73 : decode cX8_allowedByIncumbents 73 = .ok (.aload_n 0, 1) := dk_42 (dk_at dksX8_allowedByIncumbents_3 5 rfl rfl)
theorem dX8_allowedByIncumbents_74 : decode cX8_allowedByIncumbents 74 = .ok (.aload_n 0, 1) := dk_42 (dk_at dksX8_allowedByIncumbents_3 6 rfl rfl)
theorem dX8_allowedByIncumbents_75 : decode cX8_allowedByIncumbents 75 = .ok (.getfield 50, 3) := dk_180 0 50 (dk_at dksX8_allowedByIncumbents_3 7 rfl rfl)
theorem dX8_allowedByIncumbents_78 : decode cX8_allowedByIncumbents 78 = .ok (.iload_n 3, 1) := dk_29 (dk_at dksX8_allowedByIncumbents_3 10 rfl rfl)
theorem dX8_allowedByIncumbents_79 : decode cX8_allowedByIncumbents 79 = .ok (.aaload, 1) := dk_50 (dk_at dksX8_allowedByIncumbents_3 11 rfl rfl)
theorem dX8_allowedByIncumbents_80 : decode cX8_allowedByIncumbents 80 = .ok (.bipush 8, 2) := dk_16 8 (dk_at dksX8_allowedByIncumbents_3 12 rfl rfl)
theorem dX8_allowedByIncumbents_82 : decode cX8_allowedByIncumbents 82 = .ok (.iload 6, 2) := dk_21 6 (dk_at dksX8_allowedByIncumbents_3 14 rfl rfl)
theorem dX8_allowedByIncumbents_84 : decode cX8_allowedByIncumbents 84 = .ok (.imul, 1) := dk_104 (dk_at dksX8_allowedByIncumbents_3 16 rfl rfl)
theorem dX8_allowedByIncumbents_85 : decode cX8_allowedByIncumbents 85 = .ok (.iload 8, 2) := dk_21 8 (dk_at dksX8_allowedByIncumbents_3 17 rfl rfl)
theorem dX8_allowedByIncumbents_87 : decode cX8_allowedByIncumbents 87 = .ok (.iadd, 1) := dk_96 (dk_at dksX8_allowedByIncumbents_3 19 rfl rfl)
theorem dX8_allowedByIncumbents_88 : decode cX8_allowedByIncumbents 88 = .ok (.iaload, 1) := dk_46 (dk_at dksX8_allowedByIncumbents_3 20 rfl rfl)
theorem dX8_allowedByIncumbents_89 : decode cX8_allowedByIncumbents 89 = .ok (.aload_n 1, 1) := dk_43 (dk_at dksX8_allowedByIncumbents_3 21 rfl rfl)
theorem dX8_allowedByIncumbents_90 : decode cX8_allowedByIncumbents 90 = .ok (.aload 7, 2) := dk_25 7 (dk_at dksX8_allowedByIncumbents_3 22 rfl rfl)
theorem dX8_allowedByIncumbents_92 : decode cX8_allowedByIncumbents 92 = .ok (.invokevirtual 217, 3) := dk_182 0 217 (dk_at dksX8_allowedByIncumbents_4 0 rfl rfl)
theorem dX8_allowedByIncumbents_95 : decode cX8_allowedByIncumbents 95 = .ok (.iload 8, 2) := dk_21 8 (dk_at dksX8_allowedByIncumbents_4 3 rfl rfl)
theorem dX8_allowedByIncumbents_97 : decode cX8_allowedByIncumbents 97 = .ok (.iload_n 2, 1) := dk_28 (dk_at dksX8_allowedByIncumbents_4 5 rfl rfl)
theorem dX8_allowedByIncumbents_98 : decode cX8_allowedByIncumbents 98 = .ok (.isub, 1) := dk_100 (dk_at dksX8_allowedByIncumbents_4 6 rfl rfl)
theorem dX8_allowedByIncumbents_99 : decode cX8_allowedByIncumbents 99 = .ok (.invokestatic 121, 3) := dk_184 0 121 (dk_at dksX8_allowedByIncumbents_4 7 rfl rfl)
theorem dX8_allowedByIncumbents_102 : decode cX8_allowedByIncumbents 102 = .ok (.invokevirtual 220, 3) := dk_182 0 220 (dk_at dksX8_allowedByIncumbents_4 10 rfl rfl)
theorem dX8_allowedByIncumbents_105 : decode cX8_allowedByIncumbents 105 = .ok (.invokestatic 224, 3) := dk_184 0 224 (dk_at dksX8_allowedByIncumbents_4 13 rfl rfl)
theorem dX8_allowedByIncumbents_108 : decode cX8_allowedByIncumbents 108 = .ok (.lstore 4, 2) := dk_55 4 (dk_at dksX8_allowedByIncumbents_4 16 rfl rfl)
theorem dX8_allowedByIncumbents_110 : decode cX8_allowedByIncumbents 110 = .ok (.iinc 8 1, 3) := dk_132 8 1 (dk_at dksX8_allowedByIncumbents_4 18 rfl rfl)
theorem dX8_allowedByIncumbents_113 : decode cX8_allowedByIncumbents 113 = .ok (.goto (-52), 3) := dk_167 255 204 (dk_at dksX8_allowedByIncumbents_4 21 rfl rfl)
theorem dX8_allowedByIncumbents_116 : decode cX8_allowedByIncumbents 116 = .ok (.iinc 6 1, 3) := dk_132 6 1 (dk_at dksX8_allowedByIncumbents_5 0 rfl rfl)
theorem dX8_allowedByIncumbents_119 : decode cX8_allowedByIncumbents 119 = .ok (.goto (-107), 3) := dk_167 255 149 (dk_at dksX8_allowedByIncumbents_5 3 rfl rfl)
theorem dX8_allowedByIncumbents_122 : decode cX8_allowedByIncumbents 122 = .ok (.lload 4, 2) := dk_22 4 (dk_at dksX8_allowedByIncumbents_5 6 rfl rfl)
theorem dX8_allowedByIncumbents_124 : decode cX8_allowedByIncumbents 124 = .ok (.lreturn, 1) := dk_173 (dk_at dksX8_allowedByIncumbents_5 8 rfl rfl)
