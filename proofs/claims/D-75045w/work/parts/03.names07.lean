set_option maxRecDepth 100000
abbrev cX8_layLeft : ByteArray := prog_18_method_16_code
def yX8_layLeft : MethodName := ⟨RX8, "layLeft", "()V"⟩
def dkwX8_layLeft_10 : List UInt8 := [100, 79, 132, 1, 1, 167, 255, 164, 177]
abbrev dktX8_layLeft_10 : List UInt8 := dkwX8_layLeft_10 ++ []
def dkwX8_layLeft_9 : List UInt8 := [185, 0, 113, 2, 0, 192, 0, 145, 42, 180, 0, 27, 27, 46, 42, 180, 0, 53, 180, 0, 211, 182, 0, 181]
abbrev dktX8_layLeft_9 : List UInt8 := dkwX8_layLeft_9 ++ dktX8_layLeft_10
def dkwX8_layLeft_8 : List UInt8 := [180, 0, 50, 5, 50, 27, 42, 180, 0, 53, 180, 0, 208, 42, 42, 180, 0, 53, 180, 0, 102, 27]
abbrev dktX8_layLeft_8 : List UInt8 := dkwX8_layLeft_8 ++ dktX8_layLeft_9
def dkwX8_layLeft_7 : List UInt8 := [180, 0, 53, 27, 182, 0, 205, 153, 0, 65, 42, 180, 0, 24, 27, 46, 5, 159, 0, 6, 167, 0, 52, 42]
abbrev dktX8_layLeft_7 : List UInt8 := dkwX8_layLeft_7 ++ dktX8_layLeft_8
def dkwX8_layLeft_6 : List UInt8 := [167, 255, 134, 3, 60, 27, 42, 180, 0, 53, 180, 0, 102, 185, 0, 94, 1, 0, 162, 0, 82, 42]
abbrev dktX8_layLeft_6 : List UInt8 := dkwX8_layLeft_6 ++ dktX8_layLeft_7
def dkwX8_layLeft_5 : List UInt8 := [42, 44, 29, 42, 180, 0, 53, 180, 0, 202, 182, 0, 181, 100, 79, 132, 3, 1, 167, 255, 183, 132, 1, 1]
abbrev dktX8_layLeft_5 : List UInt8 := dkwX8_layLeft_5 ++ dktX8_layLeft_6
def dkwX8_layLeft_4 : List UInt8 := [180, 0, 177, 182, 0, 181, 100, 79, 42, 180, 0, 50, 4, 50, 16, 8, 27, 104, 29, 96, 44, 180, 0, 187]
abbrev dktX8_layLeft_4 : List UInt8 := dkwX8_layLeft_4 ++ dktX8_layLeft_5
def dkwX8_layLeft_3 : List UInt8 := [180, 0, 50, 3, 50, 16, 8, 27, 104, 29, 96, 44, 180, 0, 187, 42, 44, 29, 42, 180, 0, 53]
abbrev dktX8_layLeft_3 : List UInt8 := dkwX8_layLeft_3 ++ dktX8_layLeft_4
def dkwX8_layLeft_2 : List UInt8 := [185, 0, 113, 2, 0, 192, 0, 156, 77, 44, 180, 0, 171, 62, 29, 44, 180, 0, 174, 163, 0, 71, 42]
abbrev dktX8_layLeft_2 : List UInt8 := dkwX8_layLeft_2 ++ dktX8_layLeft_3
def dkwX8_layLeft_1 : List UInt8 := [185, 0, 94, 1, 0, 162, 0, 115, 42, 27, 182, 0, 199, 154, 0, 6, 167, 0, 98, 42, 180, 0, 14, 27]
abbrev dktX8_layLeft_1 : List UInt8 := dkwX8_layLeft_1 ++ dktX8_layLeft_2
def dkwX8_layLeft_0 : List UInt8 := [42, 180, 0, 196, 153, 0, 4, 177, 42, 4, 181, 0, 196, 3, 60, 27, 42, 180, 0, 14]
abbrev dktX8_layLeft_0 : List UInt8 := dkwX8_layLeft_0 ++ dktX8_layLeft_1
theorem dksX8_layLeft_0 : cX8_layLeft.data.toList.drop 0 = dktX8_layLeft_0 := by decide +kernel
theorem dksX8_layLeft_1 : cX8_layLeft.data.toList.drop 20 = dktX8_layLeft_1 := dk_seg dksX8_layLeft_0 20 rfl rfl
theorem dksX8_layLeft_2 : cX8_layLeft.data.toList.drop 44 = dktX8_layLeft_2 := dk_seg dksX8_layLeft_1 24 rfl rfl
theorem dksX8_layLeft_3 : cX8_layLeft.data.toList.drop 67 = dktX8_layLeft_3 := dk_seg dksX8_layLeft_2 23 rfl rfl
theorem dksX8_layLeft_4 : cX8_layLeft.data.toList.drop 89 = dktX8_layLeft_4 := dk_seg dksX8_layLeft_3 22 rfl rfl
theorem dksX8_layLeft_5 : cX8_layLeft.data.toList.drop 113 = dktX8_layLeft_5 := dk_seg dksX8_layLeft_4 24 rfl rfl
theorem dksX8_layLeft_6 : cX8_layLeft.data.toList.drop 137 = dktX8_layLeft_6 := dk_seg dksX8_layLeft_5 24 rfl rfl
theorem dksX8_layLeft_7 : cX8_layLeft.data.toList.drop 159 = dktX8_layLeft_7 := dk_seg dksX8_layLeft_6 22 rfl rfl
theorem dksX8_layLeft_8 : cX8_layLeft.data.toList.drop 183 = dktX8_layLeft_8 := dk_seg dksX8_layLeft_7 24 rfl rfl
theorem dksX8_layLeft_9 : cX8_layLeft.data.toList.drop 205 = dktX8_layLeft_9 := dk_seg dksX8_layLeft_8 22 rfl rfl
theorem dksX8_layLeft_10 : cX8_layLeft.data.toList.drop 229 = dktX8_layLeft_10 := dk_seg dksX8_layLeft_9 24 rfl rfl
theorem dX8_layLeft_0 : decode cX8_layLeft 0 = .ok (.aload_n 0, 1) := dk_42 (dk_at dksX8_layLeft_0 0 rfl rfl)
theorem dX8_layLeft_1 : decode cX8_layLeft 1 = .ok (.getfield 196, 3) := dk_180 0 196 (dk_at dksX8_layLeft_0 1 rfl rfl)
theorem dX8_layLeft_4 : decode cX8_layLeft 4 = .ok (.ifCond .eq 4, 3) := dk_153 0 4 (dk_at dksX8_layLeft_0 4 rfl rfl)
theorem dX8_layLeft_7 : decode cX8_layLeft 7 = .ok (.return_, 1) := dk_177 (dk_at dksX8_layLeft_0 7 rfl rfl)
theorem dX8_layLeft_8 : decode cX8_layLeft 8 = .ok (.aload_n 0, 1) := dk_42 (dk_at dksX8_layLeft_0 8 rfl rfl)
theorem dX8_layLeft_9 : decode cX8_layLeft 9 = .ok (.iconst 1, 1) := dk_4 (dk_at dksX8_layLeft_0 9 rfl rfl)
theorem dX8_layLeft_10 : decode cX8_layLeft 10 = .ok (.putfield 196, 3) := dk_181 0 196 (dk_at dksX8_layLeft_0 10 rfl rfl)
theorem dX8_layLeft_13 : decode cX8_layLeft 13 = .ok (.iconst 0, 1) := dk_3 (dk_at dksX8_layLeft_0 13 rfl rfl)
theorem dX8_layLeft_14 : decode cX8_layLeft 14 = .ok (.istore_n 1, 1) := dk_60 (dk_at dksX8_layLeft_0 14 rfl rfl)
theorem dX8_layLeft_15 : decode cX8_layLeft 15 = .ok (.iload_n 1, 1) := dk_27 (dk_at dksX8_layLeft_0 15 rfl rfl)
theorem dX8_layLeft_16 : decode cX8_layLeft 16 = .ok (.aload_n 0, 1) := dk_42 (dk_at dksX8_layLeft_0 16 rfl rfl)
theorem dX8_layLeft_17 : decode cX8_layLeft 17 = .ok (.getfield 14, 3) := dk_180 0 14 (dk_at dksX8_layLeft_0 17 rfl rfl)
theorem dX8_layLeft_20 : decode cX8_layLeft 20 = .ok (.invokeinterface 94 1, 5) := by decide +kernel
theorem dX8_layLeft_25 : decode cX8_layLeft 25 = .ok (.if_icmp .ge 115, 3) := dk_162 0 115 (dk_at dksX8_layLeft_1 5 rfl rfl)
theorem dX8_layLeft_28 : decode cX8_layLeft 28 = .ok (.aload_n 0, 1) := dk_42 (dk_at dksX8_layLeft_1 8 rfl rfl)
theorem dX8_layLeft_29 : decode cX8_layLeft 29 = .ok (.iload_n 1, 1) := dk_27 (dk_at dksX8_layLeft_1 9 rfl rfl)
theorem dX8_layLeft_30 : decode cX8_layLeft 30 = .ok (.invokevirtual 199, 3) := dk_182 0 199 (dk_at dksX8_layLeft_1 10 rfl rfl)
theorem dX8_layLeft_33 : decode cX8_layLeft 33 = .ok (.ifCond .ne 6, 3) := dk_154 0 6 (dk_at dksX8_layLeft_1 13 rfl rfl)
theorem dX8_layLeft_36 : decode cX8_layLeft 36 = .ok (.goto 98, 3) := dk_167 0 98 (dk_at dksX8_layLeft_1 16 rfl rfl)
theorem dX8_layLeft_39 : decode cX8_layLeft 39 = .ok (.aload_n 0, 1) := dk_42 (dk_at dksX8_layLeft_1 19 rfl rfl)
theorem dX8_layLeft_40 : decode cX8_layLeft 40 = .ok (.getfield 14, 3) := dk_180 0 14 (dk_at dksX8_layLeft_1 20 rfl rfl)
theorem dX8_layLeft_43 : decode cX8_layLeft 43 = .ok (.iload_n 1, 1) := dk_27 (dk_at dksX8_layLeft_1 23 rfl rfl)
theorem dX8_layLeft_44 : decode cX8_layLeft 44 = .ok (.invokeinterface 113 2, 5) := by decide +kernel
theorem dX8_layLeft_49 : decode cX8_layLeft 49 = .ok (.checkcast 156, 3) := dk_192 0 156 (dk_at dksX8_layLeft_2 5 rfl rfl)
theorem dX8_layLeft_52 : decode cX8_layLeft 52 = .ok (.astore_n 2, 1) := dk_77 (dk_at dksX8_layLeft_2 8 rfl rfl)
theorem dX8_layLeft_53 : decode cX8_layLeft 53 = .ok (.aload_n 2, 1) := dk_44 (dk_at dksX8_layLeft_2 9 rfl rfl)
theorem dX8_layLeft_54 : decode cX8_layLeft 54 = .ok (.getfield 171, 3) := dk_180 0 171 (dk_at dksX8_layLeft_2 10 rfl rfl)
theorem dX8_layLeft_57 : decode cX8_layLeft 57 = .ok (.istore_n 3, 1) := dk_62 (dk_at dksX8_layLeft_2 13 rfl rfl)
theorem dX8_layLeft_58 : decode cX8_layLeft 58 = .ok (.iload_n 3, 1) := dk_29 (dk_at dksX8_layLeft_2 14 rfl rfl)
theorem dX8_layLeft_59 : decode cX8_layLeft 59 = .ok (.aload_n 2, 1) := dk_44 (dk_at dksX8_layLeft_2 15 rfl rfl)
theorem dX8_layLeft_60 : decode cX8_layLeft 60 = .ok (.getfield 174, 3) := dk_180 0 174 (dk_at dksX8_layLeft_2 16 rfl rfl)
theorem dX8_layLeft_63 : decode cX8_layLeft 63 = .ok (.if_icmp .gt 71, 3) := dk_163 0 71 (dk_at dksX8_layLeft_2 19 rfl rfl)
theorem dX8_layLeft_66 : decode cX8_layLeft 66 = .ok (.aload_n 0, 1) := dk_42 (dk_at dksX8_layLeft_2 22 rfl rfl)
theorem dX8_layLeft_67 : decode cX8_layLeft 67 = .ok (.getfield 50, 3) := dk_180 0 50 (dk_at dksX8_layLeft_3 0 rfl rfl)
theorem dX8_layLeft_70 : decode cX8_layLeft 70 = .ok (.iconst 0, 1) := dk_3 (dk_at dksX8_layLeft_3 3 rfl rfl)
theorem dX8_layLeft_71 : decode cX8_layLeft 71 = .ok (.aaload, 1) := dk_50 (dk_at dksX8_layLeft_3 4 rfl rfl)
theorem dX8_layLeft_72 : decode cX8_layLeft 72 = .ok (.bipush 8, 2) := dk_16 8 (dk_at dksX8_layLeft_3 5 rfl rfl)
theorem dX8_layLeft_74 : decode cX8_layLeft 74 = .ok (.iload_n 1, 1) := dk_27 (dk_at dksX8_layLeft_3 7 rfl rfl)
theorem dX8_layLeft_75 : decode cX8_layLeft 75 = .ok (.imul, 1) := dk_104 (dk_at dksX8_layLeft_3 8 rfl rfl)
theorem dX8_layLeft_76 : decode cX8_layLeft 76 = .ok (.iload_n 3, 1) := dk_29 (dk_at dksX8_layLeft_3 9 rfl rfl)
theorem dX8_layLeft_77 : decode cX8_layLeft 77 = .ok (.iadd, 1) := dk_96 (dk_at dksX8_layLeft_3 10 rfl rfl)
theorem dX8_layLeft_78 : decode cX8_layLeft 78 = .ok (.aload_n 2, 1) := dk_44 (dk_at dksX8_layLeft_3 11 rfl rfl)
theorem dX8_layLeft_79 : decode cX8_layLeft 79 = .ok (.getfield 187, 3) := dk_180 0 187 (dk_at dksX8_layLeft_3 12 rfl rfl)
theorem dX8_layLeft_82 : decode cX8_layLeft 82 = .ok (.aload_n 0, 1) := dk_42 (dk_at dksX8_layLeft_3 15 rfl rfl)
theorem dX8_layLeft_83 : decode cX8_layLeft 83 = .ok (.aload_n 2, 1) := dk_44 (dk_at dksX8_layLeft_3 16 rfl rfl)
theorem dX8_layLeft_84 : decode cX8_layLeft 84 = .ok (.iload_n 3, 1) := dk_29 (dk_at dksX8_layLeft_3 17 rfl rfl)
theorem dX8_layLeft_85 : decode cX8_layLeft 85 = .ok (.aload_n 0, 1) := dk_42 (dk_at dksX8_layLeft_3 18 rfl rfl)
theorem dX8_layLeft_86 : decode cX8_layLeft 86 = .ok (.getfield 53, 3) := dk_180 0 53 (dk_at dksX8_layLeft_3 19 rfl rfl)
theorem dX8_layLeft_89 : decode cX8_layLeft 89 = .ok (.getfield 177, 3) := dk_180 0 177 (dk_at dksX8_layLeft_4 0 rfl rfl)
theorem dX8_layLeft_92 : decode cX8_layLeft 92 = .ok (.invokevirtual 181, 3) := dk_182 0 181 (dk_at dksX8_layLeft_4 3 rfl rfl)
theorem dX8_layLeft_95 : decode cX8_layLeft 95 = .ok (.isub, 1) := dk_100 (dk_at dksX8_layLeft_4 6 rfl rfl)
theorem dX8_layLeft_96 : decode cX8_layLeft 96 = .ok (.iastore, 1) := dk_79 (dk_at dksX8_layLeft_4 7 rfl rfl)
theorem dX8_layLeft_97 : decode cX8_layLeft 97 = .ok (.aload_n 0, 1) := dk_42 (dk_at dksX8_layLeft_4 8 rfl rfl)
theorem dX8_layLeft_98 : decode cX8_layLeft 98 = .ok (.getfield 50, 3) := dk_180 0 50 (dk_at dksX8_layLeft_4 9 rfl rfl)
theorem dX8_layLeft_101 : decode cX8_layLeft 101 = .ok (.iconst 1, 1) := dk_4 (dk_at dksX8_layLeft_4 12 rfl rfl)
theorem dX8_layLeft_102 : decode cX8_layLeft 102 = .ok (.aaload, 1) := dk_50 (dk_at dksX8_layLeft_4 13 rfl rfl)
theorem dX8_layLeft_103 : decode cX8_layLeft 103 = .ok (.bipush 8, 2) := dk_16 8 (dk_at dksX8_layLeft_4 14 rfl rfl)
theorem dX8_layLeft_105 : decode cX8_layLeft 105 = .ok (.iload_n 1, 1) := dk_27 (dk_at dksX8_layLeft_4 16 rfl rfl)
theorem dX8_layLeft_106 : decode cX8_layLeft 106 = .ok (.imul, 1) := dk_104 (dk_at dksX8_layLeft_4 17 rfl rfl)
theorem dX8_layLeft_107 : decode cX8_layLeft 107 = .ok (.iload_n 3, 1) := dk_29 (dk_at dksX8_layLeft_4 18 rfl rfl)
theorem dX8_layLeft_108 : decode cX8_layLeft 108 = .ok (.iadd, 1) := dk_96 (dk_at dksX8_layLeft_4 19 rfl rfl)
theorem dX8_layLeft_109 : decode cX8_layLeft 109 = .ok (.aload_n 2, 1) := dk_44 (dk_at dksX8_layLeft_4 20 rfl rfl)
theorem dX8_layLeft_110 : decode cX8_layLeft 110 = .ok (.getfield 187, 3) := dk_180 0 187 (dk_at dksX8_layLeft_4 21 rfl rfl)
theorem dX8_layLeft_113 : decode cX8_layLeft 113 = .ok (.aload_n 0, 1) := dk_42 (dk_at dksX8_layLeft_5 0 rfl rfl)
theorem dX8_layLeft_114 : decode cX8_layLeft 114 = .ok (.aload_n 2, 1) := dk_44 (dk_at dksX8_layLeft_5 1 rfl rfl)
theorem dX8_layLeft_115 : decode cX8_layLeft 115 = .ok (.iload_n 3, 1) := dk_29 (dk_at dksX8_layLeft_5 2 rfl rfl)
theorem dX8_layLeft_116 : decode cX8_layLeft 116 = .ok (.aload_n 0, 1) := dk_42 (dk_at dksX8_layLeft_5 3 rfl rfl)
theorem dX8_layLeft_117 : decode cX8_layLeft 117 = .ok (.getfield 53, 3) := dk_180 0 53 (dk_at dksX8_layLeft_5 4 rfl rfl)
theorem dX8_layLeft_120 : decode cX8_layLeft 120 = .ok (.getfield 202, 3) := dk_180 0 202 (dk_at dksX8_layLeft_5 7 rfl rfl)
theorem dX8_layLeft_123 : decode cX8_layLeft 123 = .ok (.invokevirtual 181, 3) := dk_182 0 181 (dk_at dksX8_layLeft_5 10 rfl rfl)
theorem dX8_layLeft_126 : decode cX8_layLeft 126 = .ok (.isub, 1) := dk_100 (dk_at dksX8_layLeft_5 13 rfl rfl)
theorem dX8_layLeft_127 : decode cX8_layLeft 127 = .ok (.iastore, 1) := dk_79 (dk_at dksX8_layLeft_5 14 rfl rfl)
theorem dX8_layLeft_128 : decode cX8_layLeft 128 = .ok (.iinc 3 1, 3) := dk_132 3 1 (dk_at dksX8_layLeft_5 15 rfl rfl)
theorem dX8_layLeft_131 : decode cX8_layLeft 131 = .ok (.goto (-73), 3) := dk_167 255 183 (dk_at dksX8_layLeft_5 18 rfl rfl)
theorem dX8_layLeft_134 : decode cX8_layLeft 134 = .ok (.iinc 1 1, 3) := dk_132 1 1 (dk_at dksX8_layLeft_5 21 rfl rfl)
theorem dX8_layLeft_137 : decode cX8_layLeft 137 = .ok (.goto (-122), 3) := dk_167 255 134 (dk_at dksX8_layLeft_6 0 rfl rfl)
theorem dX8_layLeft_140 : decode cX8_layLeft 140 = .ok (.iconst 0, 1) := dk_3 (dk_at dksX8_layLeft_6 3 rfl rfl)
theorem dX8_layLeft_141 : decode cX8_layLeft 141 = .ok (.istore_n 1, 1) := dk_60 (dk_at dksX8_layLeft_6 4 rfl rfl)
theorem dX8_layLeft_142 : decode cX8_layLeft 142 = .ok (.iload_n 1, 1) := dk_27 (dk_at dksX8_layLeft_6 5 rfl rfl)
theorem dX8_layLeft_143 : decode cX8_layLeft 143 = .ok (.aload_n 0, 1) := dk_42 (dk_at dksX8_layLeft_6 6 rfl rfl)
theorem dX8_layLeft_144 : decode cX8_layLeft 144 = .ok (.getfield 53, 3) := dk_180 0 53 (dk_at dksX8_layLeft_6 7 rfl rfl)
theorem dX8_layLeft_147 : decode cX8_layLeft 147 = .ok (.getfield 102, 3) := dk_180 0 102 (dk_at dksX8_layLeft_6 10 rfl rfl)
theorem dX8_layLeft_150 : decode cX8_layLeft 150 = .ok (.invokeinterface 94 1, 5) := by decide +kernel
theorem dX8_layLeft_155 : decode cX8_layLeft 155 = .ok (.if_icmp .ge 82, 3) := dk_162 0 82 (dk_at dksX8_layLeft_6 18 rfl rfl)
theorem dX8_layLeft_158 : decode cX8_layLeft 158 = .ok (.aload_n 0, 1) := dk_42 (dk_at dksX8_layLeft_6 21 rfl rfl)
theorem dX8_layLeft_159 : decode cX8_layLeft 159 = .ok (.getfield 53, 3) := dk_180 0 53 (dk_at dksX8_layLeft_7 0 rfl rfl)
theorem dX8_layLeft_162 : decode cX8_layLeft 162 = .ok (.iload_n 1, 1) := dk_27 (dk_at dksX8_layLeft_7 3 rfl rfl)
theorem dX8_layLeft_163 : decode cX8_layLeft 163 = .ok (.invokevirtual 205, 3) := dk_182 0 205 (dk_at dksX8_layLeft_7 4 rfl rfl)
theorem dX8_layLeft_166 : decode cX8_layLeft 166 = .ok (.ifCond .eq 65, 3) := dk_153 0 65 (dk_at dksX8_layLeft_7 7 rfl rfl)
theorem dX8_layLeft_169 : decode cX8_layLeft 169 = .ok (.aload_n 0, 1) := dk_42 (dk_at dksX8_layLeft_7 10 rfl rfl)
theorem dX8_layLeft_170 : decode cX8_layLeft 170 = .ok (.getfield 24, 3) := dk_180 0 24 (dk_at dksX8_layLeft_7 11 rfl rfl)
theorem dX8_layLeft_173 : decode cX8_layLeft 173 = .ok (.iload_n 1, 1) := dk_27 (dk_at dksX8_layLeft_7 14 rfl rfl)
theorem dX8_layLeft_174 : decode cX8_layLeft 174 = .ok (.iaload, 1) := dk_46 (dk_at dksX8_layLeft_7 15 rfl rfl)
theorem dX8_layLeft_175 : decode cX8_layLeft 175 = .ok (.iconst 2, 1) := dk_5 (dk_at dksX8_layLeft_7 16 rfl rfl)
theorem dX8_layLeft_176 : decode cX8_layLeft 176 = .ok (.if_icmp .eq 6, 3) := dk_159 0 6 (dk_at dksX8_layLeft_7 17 rfl rfl)
theorem dX8_layLeft_179 : decode cX8_layLeft 179 = .ok (.goto 52, 3) := dk_167 0 52 (dk_at dksX8_layLeft_7 20 rfl rfl)
theorem dX8_layLeft_182 : decode cX8_layLeft 182 = .ok (.aload_n 0, 1) := dk_42 (dk_at dksX8_layLeft_7 23 rfl rfl)
theorem dX8_layLeft_183 : decode cX8_layLeft 183 = .ok (.getfield 50, 3) := dk_180 0 50 (dk_at dksX8_layLeft_8 0 rfl rfl)
theorem dX8_layLeft_186 : decode cX8_layLeft 186 = .ok (.iconst 2, 1) := dk_5 (dk_at dksX8_layLeft_8 3 rfl rfl)
theorem dX8_layLeft_187 : decode cX8_layLeft 187 = .ok (.aaload, 1) := dk_50 (dk_at dksX8_layLeft_8 4 rfl rfl)
theorem dX8_layLeft_188 : decode cX8_layLeft 188 = .ok (.iload_n 1, 1) := dk_27 (dk_at dksX8_layLeft_8 5 rfl rfl)
theorem dX8_layLeft_189 : decode cX8_layLeft 189 = .ok (.aload_n 0, 1) := dk_42 (dk_at dksX8_layLeft_8 6 rfl rfl)
theorem dX8_layLeft_190 : decode cX8_layLeft 190 = .ok (.getfield 53, 3) := dk_180 0 53 (dk_at dksX8_layLeft_8 7 rfl rfl)
theorem dX8_layLeft_193 : decode cX8_layLeft 193 = .ok (.getfield 208, 3) := dk_180 0 208 (dk_at dksX8_layLeft_8 10 rfl rfl)
theorem dX8_layLeft_196 : decode cX8_layLeft 196 = .ok (.aload_n 0, 1) := dk_42 (dk_at dksX8_layLeft_8 13 rfl rfl)
theorem dX8_layLeft_197 : decode cX8_layLeft 197 = .ok (.aload_n 0, 1) := dk_42 (dk_at dksX8_layLeft_8 14 rfl rfl)
theorem dX8_layLeft_198 : decode cX8_layLeft 198 = .ok (.getfield 53, 3) := dk_180 0 53 (dk_at dksX8_layLeft_8 15 rfl rfl)
theorem dX8_layLeft_201 : decode cX8_layLeft 201 = .ok (.getfield 102, 3) := dk_180 0 102 (dk_at dksX8_layLeft_8 18 rfl rfl)
theorem dX8_layLeft_204 : decode cX8_layLeft 204 = .ok (.iload_n 1, 1) := dk_27 (dk_at dksX8_layLeft_8 21 rfl rfl)
theorem dX8_layLeft_205 : decode cX8_layLeft 205 = .ok (.invokeinterface 113 2, 5) := by decide +kernel
theorem dX8_layLeft_210 : decode cX8_layLeft 210 = .ok (.checkcast 145, 3) := dk_192 0 145 (dk_at dksX8_layLeft_9 5 rfl rfl)
theorem dX8_layLeft_213 : decode cX8_layLeft 213 = .ok (.aload_n 0, 1) := dk_42 (dk_at dksX8_layLeft_9 8 rfl rfl)
theorem dX8_layLeft_214 : decode cX8_layLeft 214 = .ok (.getfield 27, 3) := dk_180 0 27 (dk_at dksX8_layLeft_9 9 rfl rfl)
theorem dX8_layLeft_217 : decode cX8_layLeft 217 = .ok (.iload_n 1, 1) := dk_27 (dk_at dksX8_layLeft_9 12 rfl rfl)
theorem dX8_layLeft_218 : decode cX8_layLeft 218 = .ok (.iaload, 1) := dk_46 (dk_at dksX8_layLeft_9 13 rfl rfl)
theorem dX8_layLeft_219 : decode cX8_layLeft 219 = .ok (.aload_n 0, 1) := dk_42 (dk_at dksX8_layLeft_9 14 rfl rfl)
theorem dX8_layLeft_220 : decode cX8_layLeft 220 = .ok (.getfield 53, 3) := dk_180 0 53 (dk_at dksX8_layLeft_9 15 rfl rfl)
theorem dX8_layLeft_223 : decode cX8_layLeft 223 = .ok (.getfield 211, 3) := dk_180 0 211 (dk_at dksX8_layLeft_9 18 rfl rfl)
theorem dX8_layLeft_226 : decode cX8_layLeft 226 = .ok (.invokevirtual 181, 3) := dk_182 0 181 (dk_at dksX8_layLeft_9 21 rfl rfl)
theorem dX8_layLeft_229 : decode cX8_layLeft 229 = .ok (.isub, 1) := dk_100 (dk_at dksX8_layLeft_10 0 rfl rfl)
theorem dX8_layLeft_230 : decode cX8_layLeft 230 = .ok (.iastore, 1) := dk_79 (dk_at dksX8_layLeft_10 1 rfl rfl)
theorem dX8_layLeft_231 : decode cX8_layLeft 231 = .ok (.iinc 1 1, 3) := dk_132 1 1 (dk_at dksX8_layLeft_10 2 rfl rfl)
theorem dX8_layLeft_234 : decode cX8_layLeft 234 = .ok (.goto (-92), 3) := dk_167 255 164 (dk_at dksX8_layLeft_10 5 rfl rfl)
theorem dX8_layLeft_237 : decode cX8_layLeft 237 = .ok (.return_, 1) := dk_177 (dk_at dksX8_layLeft_10 8 rfl rfl)
abbrev cX8_allowed : ByteArray := prog_18_method_14_code
def yX8_allowed : MethodName := ⟨RX8, "allowed", "(III)J"⟩
def dkwX8_allowed_2 : List UInt8 := [20, 0, 194, 109, 173]
abbrev dktX8_allowed_2 : List UInt8 := dkwX8_allowed_2 ++ []
def dkwX8_allowed_1 : List UInt8 := [154, 0, 7, 4, 167, 0, 10, 42, 180, 0, 53, 180, 0, 131, 133, 105, 4, 28, 96, 133, 105, 10, 101]
abbrev dktX8_allowed_1 : List UInt8 := dkwX8_allowed_1 ++ dktX8_allowed_2
def dkwX8_allowed_0 : List UInt8 := [27, 156, 0, 7, 20, 0, 190, 173, 29, 4, 164, 0, 7, 20, 0, 192, 173, 27, 133, 10, 97, 29]
abbrev dktX8_allowed_0 : List UInt8 := dkwX8_allowed_0 ++ dktX8_allowed_1
theorem dksX8_allowed_0 : cX8_allowed.data.toList.drop 0 = dktX8_allowed_0 := by decide +kernel
theorem dksX8_allowed_1 : cX8_allowed.data.toList.drop 22 = dktX8_allowed_1 := dk_seg dksX8_allowed_0 22 rfl rfl
theorem dksX8_allowed_2 : cX8_allowed.data.toList.drop 45 = dktX8_allowed_2 := dk_seg dksX8_allowed_1 23 rfl rfl
theorem dX8_allowed_0 : decode cX8_allowed 0 = .ok (.iload_n 1, 1) := dk_27 (dk_at dksX8_allowed_0 0 rfl rfl)
theorem dX8_allowed_1 : decode cX8_allowed 1 = .ok (.ifCond .ge 7, 3) := dk_156 0 7 (dk_at dksX8_allowed_0 1 rfl rfl)
theorem dX8_allowed_4 : decode cX8_allowed 4 = .ok (.ldc2_w 190, 3) := dk_20 0 190 (dk_at dksX8_allowed_0 4 rfl rfl)
theorem dX8_allowed_7 : decode cX8_allowed 7 = .ok (.lreturn, 1) := dk_173 (dk_at dksX8_allowed_0 7 rfl rfl)
theorem dX8_allowed_8 : decode cX8_allowed 8 = .ok (.iload_n 3, 1) := dk_29 (dk_at dksX8_allowed_0 8 rfl rfl)
theorem dX8_allowed_9 : decode cX8_allowed 9 = .ok (.iconst 1, 1) := dk_4 (dk_at dksX8_allowed_0 9 rfl rfl)
theorem dX8_allowed_10 : decode cX8_allowed 10 = .ok (.if_icmp .le 7, 3) := dk_164 0 7 (dk_at dksX8_allowed_0 10 rfl rfl)
theorem dX8_allowed_13 : decode cX8_allowed 13 = .ok (.ldc2_w 192, 3) := dk_20 0 192 (dk_at dksX8_allowed_0 13 rfl rfl)
theorem dX8_allowed_16 : decode cX8_allowed 16 = .ok (.lreturn, 1) := dk_173 (dk_at dksX8_allowed_0 16 rfl rfl)
theorem dX8_allowed_17 : decode cX8_allowed 17 = .ok (.iload_n 1, 1) := dk_27 (dk_at dksX8_allowed_0 17 rfl rfl)
theorem dX8_allowed_18 : decode cX8_allowed 18 = .ok (.i2l, 1) := dk_133 (dk_at dksX8_allowed_0 18 rfl rfl)
theorem dX8_allowed_19 : decode cX8_allowed 19 = .ok (.lconst 1, 1) := dk_10 (dk_at dksX8_allowed_0 19 rfl rfl)
theorem dX8_allowed_20 : decode cX8_allowed 20 = .ok (.ladd, 1) := dk_97 (dk_at dksX8_allowed_0 20 rfl rfl)
theorem dX8_allowed_21 : decode cX8_allowed 21 = .ok (.iload_n 3, 1) := dk_29 (dk_at dksX8_allowed_0 21 rfl rfl)
theorem dX8_allowed_22 : decode cX8_allowed 22 = .ok (.ifCond .ne 7, 3) := dk_154 0 7 (dk_at dksX8_allowed_1 0 rfl rfl)
theorem dX8_allowed_25 : decode cX8_allowed 25 = .ok (.iconst 1, 1) := dk_4 (dk_at dksX8_allowed_1 3 rfl rfl)
theorem dX8_allowed_26 : decode cX8_allowed 26 = .ok (.goto 10, 3) := dk_167 0 10 (dk_at dksX8_allowed_1 4 rfl rfl)
theorem dX8_allowed_29 : decode cX8_allowed 29 = .ok (.aload_n 0, 1) := dk_42 (dk_at dksX8_allowed_1 7 rfl rfl)
theorem dX8_allowed_30 : decode cX8_allowed 30 = .ok (.getfield 53, 3) := dk_180 0 53 (dk_at dksX8_allowed_1 8 rfl rfl)
theorem dX8_allowed_33 : decode cX8_allowed 33 = .ok (.getfield 131, 3) := dk_180 0 131 (dk_at dksX8_allowed_1 11 rfl rfl)
theorem dX8_allowed_36 : decode cX8_allowed 36 = .ok (.i2l, 1) := dk_133 (dk_at dksX8_allowed_1 14 rfl rfl)
theorem dX8_allowed_37 : decode cX8_allowed 37 = .ok (.lmul, 1) := dk_105 (dk_at dksX8_allowed_1 15 rfl rfl)
theorem dX8_allowed_38 : decode cX8_allowed 38 = .ok (.iconst 1, 1) := dk_4 (dk_at dksX8_allowed_1 16 rfl rfl)
theorem dX8_allowed_39 : decode cX8_allowed 39 = .ok (.iload_n 2, 1) := dk_28 (dk_at dksX8_allowed_1 17 rfl rfl)
theorem dX8_allowed_40 : decode cX8_allowed 40 = .ok (.iadd, 1) := dk_96 (dk_at dksX8_allowed_1 18 rfl rfl)
theorem dX8_allowed_41 : decode cX8_allowed 41 = .ok (.i2l, 1) := dk_133 (dk_at dksX8_allowed_1 19 rfl rfl)
theorem dX8_allowed_42 : decode cX8_allowed 42 = .ok (.lmul, 1) := dk_105 (dk_at dksX8_allowed_1 20 rfl rfl)
theorem dX8_allowed_43 : decode cX8_allowed 43 = .ok (.lconst 1, 1) := dk_10 (dk_at dksX8_allowed_1 21 rfl rfl)
theorem dX8_allowed_44 : decode cX8_allowed 44 = .ok (.lsub, 1) := dk_101 (dk_at dksX8_allowed_1 22 rfl rfl)
theorem dX8_allowed_45 : decode cX8_allowed 45 = .ok (.ldc2_w 194, 3) := dk_20 0 194 (dk_at dksX8_allowed_2 0 rfl rfl)
theorem dX8_allowed_48 : decode cX8_allowed 48 = .ok (.ldiv, 1) := dk_109 (dk_at dksX8_allowed_2 3 rfl rfl)
theorem dX8_allowed_49 : decode cX8_allowed 49 = .ok (.lreturn, 1) := dk_173 (dk_at dksX8_allowed_2 4 rfl rfl)
abbrev cX8_allowedByLicensed : ByteArray := prog_18_method_18_code
def yX8_allowedByLicensed : MethodName := ⟨RX8, "allowedByLicensed", "(LSpectrumAccess$Point;I)J"⟩
def dkwX8_allowedByLicensed_7 : List UInt8 := [33, 173]
abbrev dktX8_allowedByLicensed_7 : List UInt8 := dkwX8_allowedByLicensed_7 ++ []
def dkwX8_allowedByLicensed_6 : List UInt8 := [180, 0, 27, 21, 5, 46, 28, 100, 184, 0, 121, 182, 0, 220, 184, 0, 224, 66, 132, 5, 1, 167, 255, 112]
abbrev dktX8_allowedByLicensed_6 : List UInt8 := dkwX8_allowedByLicensed_6 ++ dktX8_allowedByLicensed_7
def dkwX8_allowedByLicensed_5 : List UInt8 := [153, 0, 5, 9, 173, 33, 42, 42, 180, 0, 50, 5, 50, 21, 5, 46, 43, 25, 6, 182, 0, 217, 42]
abbrev dktX8_allowedByLicensed_5 : List UInt8 := dkwX8_allowedByLicensed_5 ++ dktX8_allowedByLicensed_6
def dkwX8_allowedByLicensed_4 : List UInt8 := [180, 0, 234, 185, 0, 113, 2, 0, 192, 0, 237, 43, 180, 0, 144, 43, 180, 0, 149, 182, 0, 239]
abbrev dktX8_allowedByLicensed_4 : List UInt8 := dkwX8_allowedByLicensed_4 ++ dktX8_allowedByLicensed_5
def dkwX8_allowedByLicensed_3 : List UInt8 := [167, 0, 86, 42, 180, 0, 27, 21, 5, 46, 28, 160, 0, 39, 42, 180, 0, 53, 180, 0, 231, 25, 6]
abbrev dktX8_allowedByLicensed_3 : List UInt8 := dkwX8_allowedByLicensed_3 ++ dktX8_allowedByLicensed_4
def dkwX8_allowedByLicensed_2 : List UInt8 := [192, 0, 108, 58, 6, 25, 6, 182, 0, 228, 153, 0, 100, 42, 180, 0, 24, 21, 5, 46, 5, 159, 0, 6]
abbrev dktX8_allowedByLicensed_2 : List UInt8 := dkwX8_allowedByLicensed_2 ++ dktX8_allowedByLicensed_3
def dkwX8_allowedByLicensed_1 : List UInt8 := [185, 0, 94, 1, 0, 162, 0, 133, 42, 180, 0, 53, 180, 0, 102, 21, 5, 185, 0, 113, 2, 0]
abbrev dktX8_allowedByLicensed_1 : List UInt8 := dkwX8_allowedByLicensed_1 ++ dktX8_allowedByLicensed_2
def dkwX8_allowedByLicensed_0 : List UInt8 := [42, 182, 0, 214, 20, 0, 192, 66, 3, 54, 5, 21, 5, 42, 180, 0, 53, 180, 0, 102]
abbrev dktX8_allowedByLicensed_0 : List UInt8 := dkwX8_allowedByLicensed_0 ++ dktX8_allowedByLicensed_1
theorem dksX8_allowedByLicensed_0 : cX8_allowedByLicensed.data.toList.drop 0 = dktX8_allowedByLicensed_0 := by decide +kernel
theorem dksX8_allowedByLicensed_1 : cX8_allowedByLicensed.data.toList.drop 20 = dktX8_allowedByLicensed_1 := dk_seg dksX8_allowedByLicensed_0 20 rfl rfl
theorem dksX8_allowedByLicensed_2 : cX8_allowedByLicensed.data.toList.drop 42 = dktX8_allowedByLicensed_2 := dk_seg dksX8_allowedByLicensed_1 22 rfl rfl
theorem dksX8_allowedByLicensed_3 : cX8_allowedByLicensed.data.toList.drop 66 = dktX8_allowedByLicensed_3 := dk_seg dksX8_allowedByLicensed_2 24 rfl rfl
theorem dksX8_allowedByLicensed_4 : cX8_allowedByLicensed.data.toList.drop 89 = dktX8_allowedByLicensed_4 := dk_seg dksX8_allowedByLicensed_3 23 rfl rfl
theorem dksX8_allowedByLicensed_5 : cX8_allowedByLicensed.data.toList.drop 111 = dktX8_allowedByLicensed_5 := dk_seg dksX8_allowedByLicensed_4 22 rfl rfl
theorem dksX8_allowedByLicensed_6 : cX8_allowedByLicensed.data.toList.drop 134 = dktX8_allowedByLicensed_6 := dk_seg dksX8_allowedByLicensed_5 23 rfl rfl
theorem dksX8_allowedByLicensed_7 : cX8_allowedByLicensed.data.toList.drop 158 = dktX8_allowedByLicensed_7 := dk_seg dksX8_allowedByLicensed_6 24 rfl rfl
theorem dX8_allowedByLicensed_0 : decode cX8_allowedByLicensed 0 = .ok (.aload_n 0, 1) := dk_42 (dk_at dksX8_allowedByLicensed_0 0 rfl rfl)
theorem dX8_allowedByLicensed_1 : decode cX8_allowedByLicensed 1 = .ok (.invokevirtual 214, 3) := dk_182 0 214 (dk_at dksX8_allowedByLicensed_0 1 rfl rfl)
theorem dX8_allowedByLicensed_4 : decode cX8_allowedByLicensed 4 = .ok (.ldc2_w 192, 3) := dk_20 0 192 (dk_at dksX8_allowedByLicensed_0 4 rfl rfl)
theorem dX8_allowedByLicensed_7 : decode cX8_allowedByLicensed 7 = .ok (.lstore_n 3, 1) := dk_66 (dk_at dksX8_allowedByLicensed_0 7 rfl rfl)
theorem dX8_allowedByLicensed_8 : decode cX8_allowedByLicensed 8 = .ok (.iconst 0, 1) := dk_3 (dk_at dksX8_allowedByLicensed_0 8 rfl rfl)
theorem dX8_allowedByLicensed_9 : decode cX8_allowedByLicensed 9 = .ok (.istore 5, 2) := dk_54 5 (dk_at dksX8_allowedByLicensed_0 9 rfl rfl)
theorem dX8_allowedByLicensed_11 : decode cX8_allowedByLicensed 11 = .ok (.iload 5, 2) := dk_21 5 (dk_at dksX8_allowedByLicensed_0 11 rfl rfl)
theorem dX8_allowedByLicensed_13 : decode cX8_allowedByLicensed 13 = .ok (.aload_n 0, 1) := dk_42 (dk_at dksX8_allowedByLicensed_0 13 rfl rfl)
theorem dX8_allowedByLicensed_14 : decode cX8_allowedByLicensed 14 = .ok (.getfield 53, 3) := dk_180 0 53 (dk_at dksX8_allowedByLicensed_0 14 rfl rfl)
theorem dX8_allowedByLicensed_17 : decode cX8_allowedByLicensed 17 = .ok (.getfield 102, 3) := dk_180 0 102 (dk_at dksX8_allowedByLicensed_0 17 rfl rfl)
theorem dX8_allowedByLicensed_20 : decode cX8_allowedByLicensed 20 = .ok (.invokeinterface 94 1, 5) := by decide +kernel
theorem dX8_allowedByLicensed_25 : decode cX8_allowedByLicensed 25 = .ok (.if_icmp .ge 133, 3) := dk_162 0 133 (dk_at dksX8_allowedByLicensed_1 5 rfl rfl)
theorem dX8_allowedByLicensed_28 : decode cX8_allowedByLicensed 28 = .ok (.aload_n 0, 1) := dk_42 (dk_at dksX8_allowedByLicensed_1 8 rfl rfl)
theorem dX8_allowedByLicensed_29 : decode cX8_allowedByLicensed 29 = .ok (.getfield 53, 3) := dk_180 0 53 (dk_at dksX8_allowedByLicensed_1 9 rfl rfl)
theorem dX8_allowedByLicensed_32 : decode cX8_allowedByLicensed 32 = .ok (.getfield 102, 3) := dk_180 0 102 (dk_at dksX8_allowedByLicensed_1 12 rfl rfl)
theorem dX8_allowedByLicensed_35 : decode cX8_allowedByLicensed 35 = .ok (.iload 5, 2) := dk_21 5 (dk_at dksX8_allowedByLicensed_1 15 rfl rfl)
theorem dX8_allowedByLicensed_37 : decode cX8_allowedByLicensed 37 = .ok (.invokeinterface 113 2, 5) := by decide +kernel
theorem dX8_allowedByLicensed_42 : decode cX8_allowedByLicensed 42 = .ok (.checkcast 108, 3) := dk_192 0 108 (dk_at dksX8_allowedByLicensed_2 0 rfl rfl)
theorem dX8_allowedByLicensed_45 : decode cX8_allowedByLicensed 45 = .ok (.astore 6, 2) := dk_58 6 (dk_at dksX8_allowedByLicensed_2 3 rfl rfl)
theorem dX8_allowedByLicensed_47 : decode cX8_allowedByLicensed 47 = .ok (.aload 6, 2) := dk_25 6 (dk_at dksX8_allowedByLicensed_2 5 rfl rfl)
theorem dX8_allowedByLicensed_49 : decode cX8_allowedByLicensed 49 = .ok (.invokevirtual 228, 3) := dk_182 0 228 (dk_at dksX8_allowedByLicensed_2 7 rfl rfl)
theorem dX8_allowedByLicensed_52 : decode cX8_allowedByLicensed 52 = .ok (.ifCond .eq 100, 3) := dk_153 0 100 (dk_at dksX8_allowedByLicensed_2 10 rfl rfl)
theorem dX8_allowedByLicensed_55 : decode cX8_allowedByLicensed 55 = .ok (.aload_n 0, 1) := dk_42 (dk_at dksX8_allowedByLicensed_2 13 rfl rfl)
theorem dX8_allowedByLicensed_56 : decode cX8_allowedByLicensed 56 = .ok (.getfield 24, 3) := dk_180 0 24 (dk_at dksX8_allowedByLicensed_2 14 rfl rfl)
theorem dX8_allowedByLicensed_59 : decode cX8_allowedByLicensed 59 = .ok (.iload 5, 2) := dk_21 5 (dk_at dksX8_allowedByLicensed_2 17 rfl rfl)
theorem dX8_allowedByLicensed_61 : decode cX8_allowedByLicensed 61 = .ok (.iaload, 1) := dk_46 (dk_at dksX8_allowedByLicensed_2 19 rfl rfl)
theorem dX8_allowedByLicensed_62 : decode cX8_allowedByLicensed 62 = .ok (.iconst 2, 1) := dk_5 (dk_at dksX8_allowedByLicensed_2 20 rfl rfl)
theorem dX8_allowedByLicensed_63 : decode cX8_allowedByLicensed 63 = .ok (.if_icmp .eq 6, 3) := dk_159 0 6 (dk_at dksX8_allowedByLicensed_2 21 rfl rfl)
theorem dX8_allowedByLicensed_66 : decode cX8_allowedByLicensed 66 = .ok (.goto 86, 3) := dk_167 0 86 (dk_at dksX8_allowedByLicensed_3 0 rfl rfl)
theorem dX8_allowedByLicensed_69 : decode cX8_allowedByLicensed 69 = .ok (.aload_n 0, 1) := dk_42 (dk_at dksX8_allowedByLicensed_3 3 rfl rfl)
theorem dX8_allowedByLicensed_70 : decode cX8_allowedByLicensed 70 = .ok (.getfield 27, 3) := dk_180 0 27 (dk_at dksX8_allowedByLicensed_3 4 rfl rfl)
theorem dX8_allowedByLicensed_73 : decode cX8_allowedByLicensed 73 = .ok (.iload 5, 2) := dk_21 5 (dk_at dksX8_allowedByLicensed_3 7 rfl rfl)
theorem dX8_allowedByLicensed_75 : decode cX8_allowedByLicensed 75 = .ok (.iaload, 1) := dk_46 (dk_at dksX8_allowedByLicensed_3 9 rfl rfl)
theorem dX8_allowedByLicensed_76 : decode cX8_allowedByLicensed 76 = .ok (.iload_n 2, 1) := dk_28 (dk_at dksX8_allowedByLicensed_3 10 rfl rfl)
theorem dX8_allowedByLicensed_77 : decode cX8_allowedByLicensed 77 = .ok (.if_icmp .ne 39, 3) := dk_160 0 39 (dk_at dksX8_allowedByLicensed_3 11 rfl rfl)
theorem dX8_allowedByLicensed_80 : decode cX8_allowedByLicensed 80 = .ok (.aload_n 0, 1) := dk_42 (dk_at dksX8_allowedByLicensed_3 14 rfl rfl)
theorem dX8_allowedByLicensed_81 : decode cX8_allowedByLicensed 81 = .ok (.getfield 53, 3) := dk_180 0 53 (dk_at dksX8_allowedByLicensed_3 15 rfl rfl)
theorem dX8_allowedByLicensed_84 : decode cX8_allowedByLicensed 84 = .ok (.getfield 231, 3) := dk_180 0 231 (dk_at dksX8_allowedByLicensed_3 18 rfl rfl)
theorem dX8_allowedByLicensed_87 : decode cX8_allowedByLicensed 87 = .ok (.aload 6, 2) := dk_25 6 (dk_at dksX8_allowedByLicensed_3 21 rfl rfl)
theorem dX8_allowedByLicensed_89 : decode cX8_allowedByLicensed 89 = .ok (.getfield 234, 3) := dk_180 0 234 (dk_at dksX8_allowedByLicensed_4 0 rfl rfl)
theorem dX8_allowedByLicensed_92 : decode cX8_allowedByLicensed 92 = .ok (.invokeinterface 113 2, 5) := by decide +kernel
theorem dX8_allowedByLicensed_97 : decode cX8_allowedByLicensed 97 = .ok (.checkcast 237, 3) := dk_192 0 237 (dk_at dksX8_allowedByLicensed_4 8 rfl rfl)
theorem dX8_allowedByLicensed_100 : decode cX8_allowedByLicensed 100 = .ok (.aload_n 1, 1) := dk_43 (dk_at dksX8_allowedByLicensed_4 11 rfl rfl)
theorem dX8_allowedByLicensed_101 : decode cX8_allowedByLicensed 101 = .ok (.getfield 144, 3) := dk_180 0 144 (dk_at dksX8_allowedByLicensed_4 12 rfl rfl)
theorem dX8_allowedByLicensed_104 : decode cX8_allowedByLicensed 104 = .ok (.aload_n 1, 1) := dk_43 (dk_at dksX8_allowedByLicensed_4 15 rfl rfl)
theorem dX8_allowedByLicensed_105 : decode cX8_allowedByLicensed 105 = .ok (.getfield 149, 3) := dk_180 0 149 (dk_at dksX8_allowedByLicensed_4 16 rfl rfl)
theorem dX8_allowedByLicensed_108 : decode cX8_allowedByLicensed 108 = .ok (.invokevirtual 239, 3) := dk_182 0 239 (dk_at dksX8_allowedByLicensed_4 19 rfl rfl)
theorem dX8_allowedByLicensed_111 : decode cX8_allowedByLicensed 111 = .ok (.ifCond .eq 5, 3) := dk_153 0 5 (dk_at dksX8_allowedByLicensed_5 0 rfl rfl)
theorem dX8_allowedByLicensed_114 : decode cX8_allowedByLicensed 114 = .ok (.lconst 0, 1) := dk_9 (dk_at dksX8_allowedByLicensed_5 3 rfl rfl)
theorem dX8_allowedByLicensed_115 : decode cX8_allowedByLicensed 115 = .ok (.lreturn, 1) := dk_173 (dk_at dksX8_allowedByLicensed_5 4 rfl rfl)
theorem dX8_allowedByLicensed_116 : decode cX8_allowedByLicensed 116 = .ok (.lload_n 3, 1) := dk_33 (dk_at dksX8_allowedByLicensed_5 5 rfl rfl)
theorem dX8_allowedByLicensed_117 : decode cX8_allowedByLicensed 117 = .ok (.aload_n 0, 1) := dk_42 (dk_at dksX8_allowedByLicensed_5 6 rfl rfl)
theorem dX8_allowedByLicensed_118 : decode cX8_allowedByLicensed 118 = .ok (.aload_n 0, 1) := dk_42 (dk_at dksX8_allowedByLicensed_5 7 rfl rfl)
theorem dX8_allowedByLicensed_119 : decode cX8_allowedByLicensed 119 = .ok (.getfield 50, 3) := dk_180 0 50 (dk_at dksX8_allowedByLicensed_5 8 rfl rfl)
theorem dX8_allowedByLicensed_122 : decode cX8_allowedByLicensed 122 = .ok (.iconst 2, 1) := dk_5 (dk_at dksX8_allowedByLicensed_5 11 rfl rfl)
theorem dX8_allowedByLicensed_123 : decode cX8_allowedByLicensed 123 = .ok (.aaload, 1) := dk_50 (dk_at dksX8_allowedByLicensed_5 12 rfl rfl)
theorem dX8_allowedByLicensed_124 : decode cX8_allowedByLicensed 124 = .ok (.iload 5, 2) := dk_21 5 (dk_at dksX8_allowedByLicensed_5 13 rfl rfl)
theorem dX8_allowedByLicensed_126 : decode cX8_allowedByLicensed 126 = .ok (.iaload, 1) := dk_46 (dk_at dksX8_allowedByLicensed_5 15 rfl rfl)
theorem dX8_allowedByLicensed_127 : decode cX8_allowedByLicensed 127 = .ok (.aload_n 1, 1) := dk_43 (dk_at dksX8_allowedByLicensed_5 16 rfl rfl)
theorem dX8_allowedByLicensed_128 : decode cX8_allowedByLicensed 128 = .ok (.aload 6, 2) := dk_25 6 (dk_at dksX8_allowedByLicensed_5 17 rfl rfl)
theorem dX8_allowedByLicensed_130 : decode cX8_allowedByLicensed 130 = .ok (.invokevirtual 217, 3) := dk_182 0 217 (dk_at dksX8_allowedByLicensed_5 19 rfl rfl)
theorem dX8_allowedByLicensed_133 : decode cX8_allowedByLicensed 133 = .ok (.aload_n 0, 1) := dk_42 (dk_at dksX8_allowedByLicensed_5 22 rfl rfl)
theorem dX8_allowedByLicensed_134 : decode cX8_allowedByLicensed 134 = .ok (.getfield 27, 3) := dk_180 0 27 (dk_at dksX8_allowedByLicensed_6 0 rfl rfl)
theorem dX8_allowedByLicensed_137 : decode cX8_allowedByLicensed 137 = .ok (.iload 5, 2) := dk_21 5 (dk_at dksX8_allowedByLicensed_6 3 rfl rfl)
theorem dX8_allowedByLicensed_139 : decode cX8_allowedByLicensed 139 = .ok (.iaload, 1) := dk_46 (dk_at dksX8_allowedByLicensed_6 5 rfl rfl)
theorem dX8_allowedByLicensed_140 : decode cX8_allowedByLicensed 140 = .ok (.iload_n 2, 1) := dk_28 (dk_at dksX8_allowedByLicensed_6 6 rfl rfl)
theorem dX8_allowedByLicensed_141 : decode cX8_allowedByLicensed 141 = .ok (.isub, 1) := dk_100 (dk_at dksX8_allowedByLicensed_6 7 rfl rfl)
theorem dX8_allowedByLicensed_142 : decode cX8_allowedByLicensed 142 = .ok (.invokestatic 121, 3) := dk_184 0 121 (dk_at dksX8_allowedByLicensed_6 8 rfl rfl)
theorem dX8_allowedByLicensed_145 : decode cX8_allowedByLicensed 145 = .ok (.invokevirtual 220, 3) := dk_182 0 220 (dk_at dksX8_allowedByLicensed_6 11 rfl rfl)
theorem dX8_allowedByLicensed_148 : decode cX8_allowedByLicensed 148 = .ok (.invokestatic 224, 3) := dk_184 0 224 (dk_at dksX8_allowedByLicensed_6 14 rfl rfl)
theorem dX8_allowedByLicensed_151 : decode cX8_allowedByLicensed 151 = .ok (.lstore_n 3, 1) := dk_66 (dk_at dksX8_allowedByLicensed_6 17 rfl rfl)
theorem dX8_allowedByLicensed_152 : decode cX8_allowedByLicensed 152 = .ok (.iinc 5 1, 3) := dk_132 5 1 (dk_at dksX8_allowedByLicensed_6 18 rfl rfl)
theorem dX8_allowedByLicensed_155 : decode cX8_allowedByLicensed 155 = .ok (.goto (-144), 3) := dk_167 255 112 (dk_at dksX8_allowedByLicensed_6 21 rfl rfl)
theorem dX8_allowedByLicensed_158 : decode cX8_allowedByLicensed 158 = .ok (.lload_n 3, 1) := dk_33 (dk_at dksX8_allowedByLicensed_7 0 rfl rfl)
theorem dX8_allowedByLicensed_159 : decode cX8_allowedByLicensed 159 = .ok (.lreturn, 1) := dk_173 (dk_at dksX8_allowedByLicensed_7 1 rfl rfl)
abbrev cX8_isDenied_2 : ByteArray := prog_18_method_20_code
def yX8_isDenied_2 : MethodName := ⟨RX8, "isDenied", "(II)Z"⟩
def dkwX8_isDenied_2_1 : List UInt8 := [42, 45, 28, 42, 180, 0, 39, 27, 46, 182, 1, 9, 153, 0, 7, 4, 167, 0, 4, 3, 172]
abbrev dktX8_isDenied_2_1 : List UInt8 := dkwX8_isDenied_2_1 ++ []
def dkwX8_isDenied_2_0 : List UInt8 := [42, 180, 0, 53, 180, 0, 102, 27, 185, 0, 113, 2, 0, 192, 0, 108, 78, 45, 182, 0, 228, 154, 0, 22]
abbrev dktX8_isDenied_2_0 : List UInt8 := dkwX8_isDenied_2_0 ++ dktX8_isDenied_2_1
theorem dksX8_isDenied_2_0 : cX8_isDenied_2.data.toList.drop 0 = dktX8_isDenied_2_0 := by decide +kernel
theorem dksX8_isDenied_2_1 : cX8_isDenied_2.data.toList.drop 24 = dktX8_isDenied_2_1 := dk_seg dksX8_isDenied_2_0 24 rfl rfl
theorem dX8_isDenied_2_0 : decode cX8_isDenied_2 0 = .ok (.aload_n 0, 1) := dk_42 (dk_at dksX8_isDenied_2_0 0 rfl rfl)
theorem dX8_isDenied_2_1 : decode cX8_isDenied_2 1 = .ok (.getfield 53, 3) := dk_180 0 53 (dk_at dksX8_isDenied_2_0 1 rfl rfl)
theorem dX8_isDenied_2_4 : decode cX8_isDenied_2 4 = .ok (.getfield 102, 3) := dk_180 0 102 (dk_at dksX8_isDenied_2_0 4 rfl rfl)
theorem dX8_isDenied_2_7 : decode cX8_isDenied_2 7 = .ok (.iload_n 1, 1) := dk_27 (dk_at dksX8_isDenied_2_0 7 rfl rfl)
theorem dX8_isDenied_2_8 : decode cX8_isDenied_2 8 = .ok (.invokeinterface 113 2, 5) := by decide +kernel
theorem dX8_isDenied_2_13 : decode cX8_isDenied_2 13 = .ok (.checkcast 108, 3) := dk_192 0 108 (dk_at dksX8_isDenied_2_0 13 rfl rfl)
theorem dX8_isDenied_2_16 : decode cX8_isDenied_2 16 = .ok (.astore_n 3, 1) := dk_78 (dk_at dksX8_isDenied_2_0 16 rfl rfl)
theorem dX8_isDenied_2_17 : decode cX8_isDenied_2 17 = .ok (.aload_n 3, 1) := dk_45 (dk_at dksX8_isDenied_2_0 17 rfl rfl)
theorem dX8_isDenied_2_18 : decode cX8_isDenied_2 18 = .ok (.invokevirtual 228, 3) := dk_182 0 228 (dk_at dksX8_isDenied_2_0 18 rfl rfl)
theorem dX8_isDenied_2_21 : decode cX8_isDenied_2 21 = .ok (.ifCond .ne 22, 3) := dk_154 0 22 (dk_at dksX8_isDenied_2_0 21 rfl rfl)
theorem dX8_isDenied_2_24 : decode cX8_isDenied_2 24 = .ok (.aload_n 0, 1) := dk_42 (dk_at dksX8_isDenied_2_1 0 rfl rfl)
theorem dX8_isDenied_2_25 : decode cX8_isDenied_2 25 = .ok (.aload_n 3, 1) := dk_45 (dk_at dksX8_isDenied_2_1 1 rfl rfl)
theorem dX8_isDenied_2_26 : decode cX8_isDenied_2 26 = .ok (.iload_n 2, 1) := dk_28 (dk_at dksX8_isDenied_2_1 2 rfl rfl)
theorem dX8_isDenied_2_27 : decode cX8_isDenied_2 27 = .ok (.aload_n 0, 1) := dk_42 (dk_at dksX8_isDenied_2_1 3 rfl rfl)
theorem dX8_isDenied_2_28 : decode cX8_isDenied_2 28 = .ok (.getfield 39, 3) := dk_180 0 39 (dk_at dksX8_isDenied_2_1 4 rfl rfl)
theorem dX8_isDenied_2_31 : decode cX8_isDenied_2 31 = .ok (.iload_n 1, 1) := dk_27 (dk_at dksX8_isDenied_2_1 7 rfl rfl)
theorem dX8_isDenied_2_32 : decode cX8_isDenied_2 32 = .ok (.iaload, 1) := dk_46 (dk_at dksX8_isDenied_2_1 8 rfl rfl)
theorem dX8_isDenied_2_33 : decode cX8_isDenied_2 33 = .ok (.invokevirtual 265, 3) := dk_182 1 9 (dk_at dksX8_isDenied_2_1 9 rfl rfl)
theorem dX8_isDenied_2_36 : decode cX8_isDenied_2 36 = .ok (.ifCond .eq 7, 3) := dk_153 0 7 (dk_at dksX8_isDenied_2_1 12 rfl rfl)
theorem dX8_isDenied_2_39 : decode cX8_isDenied_2 39 = .ok (.iconst 1, 1) := dk_4 (dk_at dksX8_isDenied_2_1 15 rfl rfl)
theorem dX8_isDenied_2_40 : decode cX8_isDenied_2 40 = .ok (.goto 4, 3) := dk_167 0 4 (dk_at dksX8_isDenied_2_1 16 rfl rfl)
theorem dX8_isDenied_2_43 : decode cX8_isDenied_2 43 = .ok (.iconst 0, 1) := dk_3 (dk_at dksX8_isDenied_2_1 19 rfl rfl)
theorem dX8_isDenied_2_44 : decode cX8_isDenied_2 44 = .ok (.ireturn, 1) := dk_172 (dk_at dksX8_isDenied_2_1 20 rfl rfl)
abbrev cX8_layQueue : ByteArray := prog_18_method_25_code
def yX8_layQueue : MethodName := ⟨RX8, "layQueue", "()I"⟩
def dkwX8_layQueue_6 : List UInt8 := [192, 1, 59, 180, 1, 74, 79, 132, 2, 1, 167, 255, 223, 27, 172]
abbrev dktX8_layQueue_6 : List UInt8 := dkwX8_layQueue_6 ++ []
def dkwX8_layQueue_5 : List UInt8 := [27, 162, 0, 34, 42, 180, 0, 53, 180, 1, 67, 28, 42, 180, 0, 53, 180, 1, 47, 182, 1, 70]
abbrev dktX8_layQueue_5 : List UInt8 := dkwX8_layQueue_5 ++ dktX8_layQueue_6
def dkwX8_layQueue_4 : List UInt8 := [182, 1, 65, 87, 132, 1, 1, 167, 255, 173, 42, 180, 0, 53, 180, 1, 47, 182, 1, 66, 60, 3, 61, 28]
abbrev dktX8_layQueue_4 : List UInt8 := dkwX8_layQueue_4 ++ dktX8_layQueue_5
def dkwX8_layQueue_3 : List UInt8 := [181, 1, 61, 44, 42, 180, 0, 53, 27, 182, 0, 205, 181, 1, 63, 42, 180, 0, 53, 180, 1, 47, 44]
abbrev dktX8_layQueue_3 : List UInt8 := dkwX8_layQueue_3 ++ dktX8_layQueue_4
def dkwX8_layQueue_2 : List UInt8 := [180, 0, 53, 180, 1, 56, 27, 185, 0, 113, 2, 0, 192, 1, 59, 77, 44, 42, 180, 0, 36, 27, 46]
abbrev dktX8_layQueue_2 : List UInt8 := dkwX8_layQueue_2 ++ dktX8_layQueue_3
def dkwX8_layQueue_1 : List UInt8 := [185, 0, 94, 1, 0, 162, 0, 73, 42, 180, 0, 24, 27, 46, 4, 159, 0, 6, 167, 0, 54, 42]
abbrev dktX8_layQueue_1 : List UInt8 := dkwX8_layQueue_1 ++ dktX8_layQueue_2
def dkwX8_layQueue_0 : List UInt8 := [42, 180, 0, 53, 180, 1, 47, 182, 1, 51, 3, 60, 27, 42, 180, 0, 53, 180, 0, 102]
abbrev dktX8_layQueue_0 : List UInt8 := dkwX8_layQueue_0 ++ dktX8_layQueue_1
theorem dksX8_layQueue_0 : cX8_layQueue.data.toList.drop 0 = dktX8_layQueue_0 := by decide +kernel
theorem dksX8_layQueue_1 : cX8_layQueue.data.toList.drop 20 = dktX8_layQueue_1 := dk_seg dksX8_layQueue_0 20 rfl rfl
theorem dksX8_layQueue_2 : cX8_layQueue.data.toList.drop 42 = dktX8_layQueue_2 := dk_seg dksX8_layQueue_1 22 rfl rfl
theorem dksX8_layQueue_3 : cX8_layQueue.data.toList.drop 65 = dktX8_layQueue_3 := dk_seg dksX8_layQueue_2 23 rfl rfl
theorem dksX8_layQueue_4 : cX8_layQueue.data.toList.drop 88 = dktX8_layQueue_4 := dk_seg dksX8_layQueue_3 23 rfl rfl
theorem dksX8_layQueue_5 : cX8_layQueue.data.toList.drop 112 = dktX8_layQueue_5 := dk_seg dksX8_layQueue_4 24 rfl rfl
theorem dksX8_layQueue_6 : cX8_layQueue.data.toList.drop 134 = dktX8_layQueue_6 := dk_seg dksX8_layQueue_5 22 rfl rfl
theorem dX8_layQueue_0 : decode cX8_layQueue 0 = .ok (.aload_n 0, 1) := dk_42 (dk_at dksX8_layQueue_0 0 rfl rfl)
theorem dX8_layQueue_1 : decode cX8_layQueue 1 = .ok (.getfield 53, 3) := dk_180 0 53 (dk_at dksX8_layQueue_0 1 rfl rfl)
theorem dX8_layQueue_4 : decode cX8_layQueue 4 = .ok (.getfield 303, 3) := dk_180 1 47 (dk_at dksX8_layQueue_0 4 rfl rfl)
theorem dX8_layQueue_7 : decode cX8_layQueue 7 = .ok (.invokevirtual 307, 3) := dk_182 1 51 (dk_at dksX8_layQueue_0 7 rfl rfl)
theorem dX8_layQueue_10 : decode cX8_layQueue 10 = .ok (.iconst 0, 1) := dk_3 (dk_at dksX8_layQueue_0 10 rfl rfl)
theorem dX8_layQueue_11 : decode cX8_layQueue 11 = .ok (.istore_n 1, 1) := dk_60 (dk_at dksX8_layQueue_0 11 rfl rfl)
theorem dX8_layQueue_12 : decode cX8_layQueue 12 = .ok (.iload_n 1, 1) := dk_27 (dk_at dksX8_layQueue_0 12 rfl rfl)
theorem dX8_layQueue_13 : decode cX8_layQueue 13 = .ok (.aload_n 0, 1) := dk_42 (dk_at dksX8_layQueue_0 13 rfl rfl)
theorem dX8_layQueue_14 : decode cX8_layQueue 14 = .ok (.getfield 53, 3) := dk_180 0 53 (dk_at dksX8_layQueue_0 14 rfl rfl)
theorem dX8_layQueue_17 : decode cX8_layQueue 17 = .ok (.getfield 102, 3) := dk_180 0 102 (dk_at dksX8_layQueue_0 17 rfl rfl)
theorem dX8_layQueue_20 : decode cX8_layQueue 20 = .ok (.invokeinterface 94 1, 5) := by decide +kernel
theorem dX8_layQueue_25 : decode cX8_layQueue 25 = .ok (.if_icmp .ge 73, 3) := dk_162 0 73 (dk_at dksX8_layQueue_1 5 rfl rfl)
theorem dX8_layQueue_28 : decode cX8_layQueue 28 = .ok (.aload_n 0, 1) := dk_42 (dk_at dksX8_layQueue_1 8 rfl rfl)
theorem dX8_layQueue_29 : decode cX8_layQueue 29 = .ok (.getfield 24, 3) := dk_180 0 24 (dk_at dksX8_layQueue_1 9 rfl rfl)
theorem dX8_layQueue_32 : decode cX8_layQueue 32 = .ok (.iload_n 1, 1) := dk_27 (dk_at dksX8_layQueue_1 12 rfl rfl)
theorem dX8_layQueue_33 : decode cX8_layQueue 33 = .ok (.iaload, 1) := dk_46 (dk_at dksX8_layQueue_1 13 rfl rfl)
theorem dX8_layQueue_34 : decode cX8_layQueue 34 = .ok (.iconst 1, 1) := dk_4 (dk_at dksX8_layQueue_1 14 rfl rfl)
theorem dX8_layQueue_35 : decode cX8_layQueue 35 = .ok (.if_icmp .eq 6, 3) := dk_159 0 6 (dk_at dksX8_layQueue_1 15 rfl rfl)
theorem dX8_layQueue_38 : decode cX8_layQueue 38 = .ok (.goto 54, 3) := dk_167 0 54 (dk_at dksX8_layQueue_1 18 rfl rfl)
theorem dX8_layQueue_41 : decode cX8_layQueue 41 = .ok (.aload_n 0, 1) := dk_42 (dk_at dksX8_layQueue_1 21 rfl rfl)
theorem dX8_layQueue_42 : decode cX8_layQueue 42 = .ok (.getfield 53, 3) := dk_180 0 53 (dk_at dksX8_layQueue_2 0 rfl rfl)
theorem dX8_layQueue_45 : decode cX8_layQueue 45 = .ok (.getfield 312, 3) := dk_180 1 56 (dk_at dksX8_layQueue_2 3 rfl rfl)
theorem dX8_layQueue_48 : decode cX8_layQueue 48 = .ok (.iload_n 1, 1) := dk_27 (dk_at dksX8_layQueue_2 6 rfl rfl)
theorem dX8_layQueue_49 : decode cX8_layQueue 49 = .ok (.invokeinterface 113 2, 5) := by decide +kernel
theorem dX8_layQueue_54 : decode cX8_layQueue 54 = .ok (.checkcast 315, 3) := dk_192 1 59 (dk_at dksX8_layQueue_2 12 rfl rfl)
theorem dX8_layQueue_57 : decode cX8_layQueue 57 = .ok (.astore_n 2, 1) := dk_77 (dk_at dksX8_layQueue_2 15 rfl rfl)
theorem dX8_layQueue_58 : decode cX8_layQueue 58 = .ok (.aload_n 2, 1) := dk_44 (dk_at dksX8_layQueue_2 16 rfl rfl)
theorem dX8_layQueue_59 : decode cX8_layQueue 59 = .ok (.aload_n 0, 1) := dk_42 (dk_at dksX8_layQueue_2 17 rfl rfl)
theorem dX8_layQueue_60 : decode cX8_layQueue 60 = .ok (.getfield 36, 3) := dk_180 0 36 (dk_at dksX8_layQueue_2 18 rfl rfl)
theorem dX8_layQueue_63 : decode cX8_layQueue 63 = .ok (.iload_n 1, 1) := dk_27 (dk_at dksX8_layQueue_2 21 rfl rfl)
theorem dX8_layQueue_64 : decode cX8_layQueue 64 = .ok (.iaload, 1) := dk_46 (dk_at dksX8_layQueue_2 22 rfl rfl)
theorem dX8_layQueue_65 : decode cX8_layQueue 65 = .ok (.putfield 317, 3) := dk_181 1 61 (dk_at dksX8_layQueue_3 0 rfl rfl)
theorem dX8_layQueue_68 : decode cX8_layQueue 68 = .ok (.aload_n 2, 1) := dk_44 (dk_at dksX8_layQueue_3 3 rfl rfl)
theorem dX8_layQueue_69 : decode cX8_layQueue 69 = .ok (.aload_n 0, 1) := dk_42 (dk_at dksX8_layQueue_3 4 rfl rfl)
theorem dX8_layQueue_70 : decode cX8_layQueue 70 = .ok (.getfield 53, 3) := dk_180 0 53 (dk_at dksX8_layQueue_3 5 rfl rfl)
theorem dX8_layQueue_73 : decode cX8_layQueue 73 = .ok (.iload_n 1, 1) := dk_27 (dk_at dksX8_layQueue_3 8 rfl rfl)
theorem dX8_layQueue_74 : decode cX8_layQueue 74 = .ok (.invokevirtual 205, 3) := dk_182 0 205 (dk_at dksX8_layQueue_3 9 rfl rfl)
theorem dX8_layQueue_77 : decode cX8_layQueue 77 = .ok (.putfield 319, 3) := dk_181 1 63 (dk_at dksX8_layQueue_3 12 rfl rfl)
theorem dX8_layQueue_80 : decode cX8_layQueue 80 = .ok (.aload_n 0, 1) := dk_42 (dk_at dksX8_layQueue_3 15 rfl rfl)
theorem dX8_layQueue_81 : decode cX8_layQueue 81 = .ok (.getfield 53, 3) := dk_180 0 53 (dk_at dksX8_layQueue_3 16 rfl rfl)
theorem dX8_layQueue_84 : decode cX8_layQueue 84 = .ok (.getfield 303, 3) := dk_180 1 47 (dk_at dksX8_layQueue_3 19 rfl rfl)
theorem dX8_layQueue_87 : decode cX8_layQueue 87 = .ok (.aload_n 2, 1) := dk_44 (dk_at dksX8_layQueue_3 22 rfl rfl)
theorem dX8_layQueue_88 : decode cX8_layQueue 88 = .ok (.invokevirtual 321, 3) := dk_182 1 65 (dk_at dksX8_layQueue_4 0 rfl rfl)
theorem dX8_layQueue_91 : decode cX8_layQueue 91 = .ok (.pop, 1) := dk_87 (dk_at dksX8_layQueue_4 3 rfl rfl)
theorem dX8_layQueue_92 : decode cX8_layQueue 92 = .ok (.iinc 1 1, 3) := dk_132 1 1 (dk_at dksX8_layQueue_4 4 rfl rfl)
theorem dX8_layQueue_95 : decode cX8_layQueue 95 = .ok (.goto (-83), 3) := dk_167 255 173 (dk_at dksX8_layQueue_4 7 rfl rfl)
theorem dX8_layQueue_98 : decode cX8_layQueue 98 = .ok (.aload_n 0, 1) := dk_42 (dk_at dksX8_layQueue_4 10 rfl rfl)
theorem dX8_layQueue_99 : decode cX8_layQueue 99 = .ok (.getfield 53, 3) := dk_180 0 53 (dk_at dksX8_layQueue_4 11 rfl rfl)
theorem dX8_layQueue_102 : decode cX8_layQueue 102 = .ok (.getfield 303, 3) := dk_180 1 47 (dk_at dksX8_layQueue_4 14 rfl rfl)
theorem dX8_layQueue_105 : decode cX8_layQueue 105 = .ok (.invokevirtual 322, 3) := dk_182 1 66 (dk_at dksX8_layQueue_4 17 rfl rfl)
theorem dX8_layQueue_108 : decode cX8_layQueue 108 = .ok (.istore_n 1, 1) := dk_60 (dk_at dksX8_layQueue_4 20 rfl rfl)
theorem dX8_layQueue_109 : decode cX8_layQueue 109 = .ok (.iconst 0, 1) := dk_3 (dk_at dksX8_layQueue_4 21 rfl rfl)
theorem dX8_layQueue_110 : decode cX8_layQueue 110 = .ok (.istore_n 2, 1) := dk_61 (dk_at dksX8_layQueue_4 22 rfl rfl)
theorem dX8_layQueue_111 : decode cX8_layQueue 111 = .ok (.iload_n 2, 1) := dk_28 (dk_at dksX8_layQueue_4 23 rfl rfl)
theorem dX8_layQueue_112 : decode cX8_layQueue 112 = .ok (.iload_n 1, 1) := dk_27 (dk_at dksX8_layQueue_5 0 rfl rfl)
theorem dX8_layQueue_113 : decode cX8_layQueue 113 = .ok (.if_icmp .ge 34, 3) := dk_162 0 34 (dk_at dksX8_layQueue_5 1 rfl rfl)
theorem dX8_layQueue_116 : decode cX8_layQueue 116 = .ok (.aload_n 0, 1) := dk_42 (dk_at dksX8_layQueue_5 4 rfl rfl)
theorem dX8_layQueue_117 : decode cX8_layQueue 117 = .ok (.getfield 53, 3) := dk_180 0 53 (dk_at dksX8_layQueue_5 5 rfl rfl)
theorem dX8_layQueue_120 : decode cX8_layQueue 120 = .ok (.getfield 323, 3) := dk_180 1 67 (dk_at dksX8_layQueue_5 8 rfl rfl)
theorem dX8_layQueue_123 : decode cX8_layQueue 123 = .ok (.iload_n 2, 1) := dk_28 (dk_at dksX8_layQueue_5 11 rfl rfl)
theorem dX8_layQueue_124 : decode cX8_layQueue 124 = .ok (.aload_n 0, 1) := dk_42 (dk_at dksX8_layQueue_5 12 rfl rfl)
theorem dX8_layQueue_125 : decode cX8_layQueue 125 = .ok (.getfield 53, 3) := dk_180 0 53 (dk_at dksX8_layQueue_5 13 rfl rfl)
theorem dX8_layQueue_128 : decode cX8_layQueue 128 = .ok (.getfield 303, 3) := dk_180 1 47 (dk_at dksX8_layQueue_5 16 rfl rfl)
theorem dX8_layQueue_131 : decode cX8_layQueue 131 = .ok (.invokevirtual 326, 3) := dk_182 1 70 (dk_at dksX8_layQueue_5 19 rfl rfl)
theorem dX8_layQueue_134 : decode cX8_layQueue 134 = .ok (.checkcast 315, 3) := dk_192 1 59 (dk_at dksX8_layQueue_6 0 rfl rfl)
theorem dX8_layQueue_137 : decode cX8_layQueue 137 = .ok (.getfield 330, 3) := dk_180 1 74 (dk_at dksX8_layQueue_6 3 rfl rfl)
theorem dX8_layQueue_140 : decode cX8_layQueue 140 = .ok (.iastore, 1) := dk_79 (dk_at dksX8_layQueue_6 6 rfl rfl)
theorem dX8_layQueue_141 : decode cX8_layQueue 141 = .ok (.iinc 2 1, 3) := dk_132 2 1 (dk_at dksX8_layQueue_6 7 rfl rfl)
theorem dX8_layQueue_144 : decode cX8_layQueue 144 = .ok (.goto (-33), 3) := dk_167 255 223 (dk_at dksX8_layQueue_6 10 rfl rfl)
theorem dX8_layQueue_147 : decode cX8_layQueue 147 = .ok (.iload_n 1, 1) := dk_27 (dk_at dksX8_layQueue_6 13 rfl rfl)
theorem dX8_layQueue_148 : decode cX8_layQueue 148 = .ok (.ireturn, 1) := dk_172 (dk_at dksX8_layQueue_6 14 rfl rfl)
abbrev cX8_run : ByteArray := prog_18_method_35_code
def yX8_run : MethodName := ⟨RX8, "run", "(I)I"⟩
def dkwX8_run_1 : List UInt8 := [180, 0, 85, 28, 100, 172]
abbrev dktX8_run_1 : List UInt8 := dkwX8_run_1 ++ []
def dkwX8_run_0 : List UInt8 := [42, 180, 0, 85, 61, 3, 62, 29, 27, 162, 0, 13, 42, 182, 1, 113, 132, 3, 1, 167, 255, 244, 42]
abbrev dktX8_run_0 : List UInt8 := dkwX8_run_0 ++ dktX8_run_1
theorem dksX8_run_0 : cX8_run.data.toList.drop 0 = dktX8_run_0 := by decide +kernel
theorem dksX8_run_1 : cX8_run.data.toList.drop 23 = dktX8_run_1 := dk_seg dksX8_run_0 23 rfl rfl
theorem dX8_run_0 : decode cX8_run 0 = .ok (.aload_n 0, 1) := dk_42 (dk_at dksX8_run_0 0 rfl rfl)
theorem dX8_run_1 : decode cX8_run 1 = .ok (.getfield 85, 3) := dk_180 0 85 (dk_at dksX8_run_0 1 rfl rfl)
theorem dX8_run_4 : decode cX8_run 4 = .ok (.istore_n 2, 1) := dk_61 (dk_at dksX8_run_0 4 rfl rfl)
theorem dX8_run_5 : decode cX8_run 5 = .ok (.iconst 0, 1) := dk_3 (dk_at dksX8_run_0 5 rfl rfl)
theorem dX8_run_6 : decode cX8_run 6 = .ok (.istore_n 3, 1) := dk_62 (dk_at dksX8_run_0 6 rfl rfl)
theorem dX8_run_7 : decode cX8_run 7 = .ok (.iload_n 3, 1) := dk_29 (dk_at dksX8_run_0 7 rfl rfl)
theorem dX8_run_8 : decode cX8_run 8 = .ok (.iload_n 1, 1) := dk_27 (dk_at dksX8_run_0 8 rfl rfl)
theorem dX8_run_9 : decode cX8_run 9 = .ok (.if_icmp .ge 13, 3) := dk_162 0 13 (dk_at dksX8_run_0 9 rfl rfl)
theorem dX8_run_12 : decode cX8_run 12 = .ok (.aload_n 0, 1) := dk_42 (dk_at dksX8_run_0 12 rfl rfl)
theorem dX8_run_13 : decode cX8_run 13 = .ok (.invokevirtual 369, 3) := dk_182 1 113 (dk_at dksX8_run_0 13 rfl rfl)
theorem dX8_run_16 : decode cX8_run 16 = .ok (.iinc 3 1, 3) := dk_132 3 1 (dk_at dksX8_run_0 16 rfl rfl)
theorem dX8_run_19 : decode cX8_run 19 = .ok (.goto (-12), 3) := dk_167 255 244 (dk_at dksX8_run_0 19 rfl rfl)
theorem dX8_run_22 : decode cX8_run 22 = .ok (.aload_n 0, 1) := dk_42 (dk_at dksX8_run_0 22 rfl rfl)
theorem dX8_run_23 : decode cX8_run 23 = .ok (.getfield 85, 3) := dk_180 0 85 (dk_at dksX8_run_1 0 rfl rfl)
theorem dX8_run_26 : decode cX8_run 26 = .ok (.iload_n 2, 1) := dk_28 (dk_at dksX8_run_1 3 rfl rfl)
theorem dX8_run_27 : decode cX8_run 27 = .ok (.isub, 1) := dk_100 (dk_at dksX8_run_1 4 rfl rfl)
theorem dX8_run_28 : decode cX8_run 28 = .ok (.ireturn, 1) := dk_172 (dk_at dksX8_run_1 5 rfl rfl)
abbrev cX8_tick : ByteArray := prog_18_method_34_code
def yX8_tick : MethodName := ⟨RX8, "tick", "()V"⟩
def dkwX8_tick_7 : List UInt8 := [180, 0, 24, 28, 46, 5, 160, 0, 7, 4, 167, 0, 4, 3, 96, 79, 132, 2, 1, 167, 255, 213, 177]
abbrev dktX8_tick_7 : List UInt8 := dkwX8_tick_7 ++ []
def dkwX8_tick_6 : List UInt8 := [28, 42, 180, 0, 53, 180, 0, 102, 185, 0, 94, 1, 0, 162, 0, 33, 42, 180, 0, 42, 28, 92, 46, 42]
abbrev dktX8_tick_6 : List UInt8 := dkwX8_tick_6 ++ dktX8_tick_7
def dkwX8_tick_5 : List UInt8 := [162, 0, 22, 42, 42, 180, 0, 53, 180, 1, 67, 28, 46, 182, 1, 110, 132, 2, 1, 167, 255, 235, 3, 61]
abbrev dktX8_tick_5 : List UInt8 := dkwX8_tick_5 ++ dktX8_tick_6
def dkwX8_tick_4 : List UInt8 := [4, 182, 1, 81, 132, 1, 1, 167, 255, 170, 42, 182, 1, 101, 42, 182, 1, 107, 60, 3, 61, 28, 27]
abbrev dktX8_tick_4 : List UInt8 := dkwX8_tick_4 ++ dktX8_tick_5
def dkwX8_tick_3 : List UInt8 := [164, 0, 6, 167, 0, 25, 42, 4, 27, 182, 1, 77, 42, 89, 180, 0, 88, 4, 96, 181, 0, 88, 42, 27]
abbrev dktX8_tick_3 : List UInt8 := dkwX8_tick_3 ++ dktX8_tick_4
def dkwX8_tick_2 : List UInt8 := [182, 0, 205, 154, 0, 49, 42, 180, 0, 36, 27, 46, 42, 180, 0, 81, 42, 180, 0, 53, 180, 1, 104, 100]
abbrev dktX8_tick_2 : List UInt8 := dkwX8_tick_2 ++ dktX8_tick_3
def dkwX8_tick_1 : List UInt8 := [185, 0, 94, 1, 0, 162, 0, 76, 42, 180, 0, 24, 27, 46, 5, 160, 0, 60, 42, 180, 0, 53, 27]
abbrev dktX8_tick_1 : List UInt8 := dkwX8_tick_1 ++ dktX8_tick_2
def dkwX8_tick_0 : List UInt8 := [42, 182, 1, 28, 42, 89, 180, 0, 81, 4, 96, 181, 0, 81, 3, 60, 27, 42, 180, 0, 53, 180, 0, 102]
abbrev dktX8_tick_0 : List UInt8 := dkwX8_tick_0 ++ dktX8_tick_1
theorem dksX8_tick_0 : cX8_tick.data.toList.drop 0 = dktX8_tick_0 := by decide +kernel
theorem dksX8_tick_1 : cX8_tick.data.toList.drop 24 = dktX8_tick_1 := dk_seg dksX8_tick_0 24 rfl rfl
theorem dksX8_tick_2 : cX8_tick.data.toList.drop 47 = dktX8_tick_2 := dk_seg dksX8_tick_1 23 rfl rfl
theorem dksX8_tick_3 : cX8_tick.data.toList.drop 71 = dktX8_tick_3 := dk_seg dksX8_tick_2 24 rfl rfl
theorem dksX8_tick_4 : cX8_tick.data.toList.drop 95 = dktX8_tick_4 := dk_seg dksX8_tick_3 24 rfl rfl
theorem dksX8_tick_5 : cX8_tick.data.toList.drop 118 = dktX8_tick_5 := dk_seg dksX8_tick_4 23 rfl rfl
theorem dksX8_tick_6 : cX8_tick.data.toList.drop 142 = dktX8_tick_6 := dk_seg dksX8_tick_5 24 rfl rfl
theorem dksX8_tick_7 : cX8_tick.data.toList.drop 166 = dktX8_tick_7 := dk_seg dksX8_tick_6 24 rfl rfl
theorem dX8_tick_0 : decode cX8_tick 0 = .ok (.aload_n 0, 1) := dk_42 (dk_at dksX8_tick_0 0 rfl rfl)
theorem dX8_tick_1 : decode cX8_tick 1 = .ok (.invokevirtual 284, 3) := dk_182 1 28 (dk_at dksX8_tick_0 1 rfl rfl)
theorem dX8_tick_4 : decode cX8_tick 4 = .ok (.aload_n 0, 1) := dk_42 (dk_at dksX8_tick_0 4 rfl rfl)
theorem dX8_tick_5 : decode cX8_tick 5 = .ok (.dup, 1) := dk_89 (dk_at dksX8_tick_0 5 rfl rfl)
theorem dX8_tick_6 : decode cX8_tick 6 = .ok (.getfield 81, 3) := dk_180 0 81 (dk_at dksX8_tick_0 6 rfl rfl)
theorem dX8_tick_9 : decode cX8_tick 9 = .ok (.iconst 1, 1) := dk_4 (dk_at dksX8_tick_0 9 rfl rfl)
theorem dX8_tick_10 : decode cX8_tick 10 = .ok (.iadd, 1) := dk_96 (dk_at dksX8_tick_0 10 rfl rfl)
theorem dX8_tick_11 : decode cX8_tick 11 = .ok (.putfield 81, 3) := dk_181 0 81 (dk_at dksX8_tick_0 11 rfl rfl)
theorem dX8_tick_14 : decode cX8_tick 14 = .ok (.iconst 0, 1) := dk_3 (dk_at dksX8_tick_0 14 rfl rfl)
theorem dX8_tick_15 : decode cX8_tick 15 = .ok (.istore_n 1, 1) := dk_60 (dk_at dksX8_tick_0 15 rfl rfl)
theorem dX8_tick_16 : decode cX8_tick 16 = .ok (.iload_n 1, 1) := dk_27 (dk_at dksX8_tick_0 16 rfl rfl)
theorem dX8_tick_17 : decode cX8_tick 17 = .ok (.aload_n 0, 1) := dk_42 (dk_at dksX8_tick_0 17 rfl rfl)
theorem dX8_tick_18 : decode cX8_tick 18 = .ok (.getfield 53, 3) := dk_180 0 53 (dk_at dksX8_tick_0 18 rfl rfl)
theorem dX8_tick_21 : decode cX8_tick 21 = .ok (.getfield 102, 3) := dk_180 0 102 (dk_at dksX8_tick_0 21 rfl rfl)
theorem dX8_tick_24 : decode cX8_tick 24 = .ok (.invokeinterface 94 1, 5) := by decide +kernel
theorem dX8_tick_29 : decode cX8_tick 29 = .ok (.if_icmp .ge 76, 3) := dk_162 0 76 (dk_at dksX8_tick_1 5 rfl rfl)
theorem dX8_tick_32 : decode cX8_tick 32 = .ok (.aload_n 0, 1) := dk_42 (dk_at dksX8_tick_1 8 rfl rfl)
theorem dX8_tick_33 : decode cX8_tick 33 = .ok (.getfield 24, 3) := dk_180 0 24 (dk_at dksX8_tick_1 9 rfl rfl)
theorem dX8_tick_36 : decode cX8_tick 36 = .ok (.iload_n 1, 1) := dk_27 (dk_at dksX8_tick_1 12 rfl rfl)
theorem dX8_tick_37 : decode cX8_tick 37 = .ok (.iaload, 1) := dk_46 (dk_at dksX8_tick_1 13 rfl rfl)
theorem dX8_tick_38 : decode cX8_tick 38 = .ok (.iconst 2, 1) := dk_5 (dk_at dksX8_tick_1 14 rfl rfl)
theorem dX8_tick_39 : decode cX8_tick 39 = .ok (.if_icmp .ne 60, 3) := dk_160 0 60 (dk_at dksX8_tick_1 15 rfl rfl)
theorem dX8_tick_42 : decode cX8_tick 42 = .ok (.aload_n 0, 1) := dk_42 (dk_at dksX8_tick_1 18 rfl rfl)
theorem dX8_tick_43 : decode cX8_tick 43 = .ok (.getfield 53, 3) := dk_180 0 53 (dk_at dksX8_tick_1 19 rfl rfl)
theorem dX8_tick_46 : decode cX8_tick 46 = .ok (.iload_n 1, 1) := dk_27 (dk_at dksX8_tick_1 22 rfl rfl)
theorem dX8_tick_47 : decode cX8_tick 47 = .ok (.invokevirtual 205, 3) := dk_182 0 205 (dk_at dksX8_tick_2 0 rfl rfl)
theorem dX8_tick_50 : decode cX8_tick 50 = .ok (.ifCond .ne 49, 3) := dk_154 0 49 (dk_at dksX8_tick_2 3 rfl rfl)
theorem dX8_tick_53 : decode cX8_tick 53 = .ok (.aload_n 0, 1) := dk_42 (dk_at dksX8_tick_2 6 rfl rfl)
theorem dX8_tick_54 : decode cX8_tick 54 = .ok (.getfield 36, 3) := dk_180 0 36 (dk_at dksX8_tick_2 7 rfl rfl)
theorem dX8_tick_57 : decode cX8_tick 57 = .ok (.iload_n 1, 1) := dk_27 (dk_at dksX8_tick_2 10 rfl rfl)
theorem dX8_tick_58 : decode cX8_tick 58 = .ok (.iaload, 1) := dk_46 (dk_at dksX8_tick_2 11 rfl rfl)
theorem dX8_tick_59 : decode cX8_tick 59 = .ok (.aload_n 0, 1) := dk_42 (dk_at dksX8_tick_2 12 rfl rfl)
theorem dX8_tick_60 : decode cX8_tick 60 = .ok (.getfield 81, 3) := dk_180 0 81 (dk_at dksX8_tick_2 13 rfl rfl)
theorem dX8_tick_63 : decode cX8_tick 63 = .ok (.aload_n 0, 1) := dk_42 (dk_at dksX8_tick_2 16 rfl rfl)
theorem dX8_tick_64 : decode cX8_tick 64 = .ok (.getfield 53, 3) := dk_180 0 53 (dk_at dksX8_tick_2 17 rfl rfl)
theorem dX8_tick_67 : decode cX8_tick 67 = .ok (.getfield 360, 3) := dk_180 1 104 (dk_at dksX8_tick_2 20 rfl rfl)
theorem dX8_tick_70 : decode cX8_tick 70 = .ok (.isub, 1) := dk_100 (dk_at dksX8_tick_2 23 rfl rfl)
theorem dX8_tick_71 : decode cX8_tick 71 = .ok (.if_icmp .le 6, 3) := dk_164 0 6 (dk_at dksX8_tick_3 0 rfl rfl)
theorem dX8_tick_74 : decode cX8_tick 74 = .ok (.goto 25, 3) := dk_167 0 25 (dk_at dksX8_tick_3 3 rfl rfl)
theorem dX8_tick_77 : decode cX8_tick 77 = .ok (.aload_n 0, 1) := dk_42 (dk_at dksX8_tick_3 6 rfl rfl)
theorem dX8_tick_78 : decode cX8_tick 78 = .ok (.iconst 1, 1) := dk_4 (dk_at dksX8_tick_3 7 rfl rfl)
theorem dX8_tick_79 : decode cX8_tick 79 = .ok (.iload_n 1, 1) := dk_27 (dk_at dksX8_tick_3 8 rfl rfl)
theorem dX8_tick_80 : decode cX8_tick 80 = .ok (.invokevirtual 333, 3) := dk_182 1 77 (dk_at dksX8_tick_3 9 rfl rfl)
theorem dX8_tick_83 : decode cX8_tick 83 = .ok (.aload_n 0, 1) := dk_42 (dk_at dksX8_tick_3 12 rfl rfl)
theorem dX8_tick_84 : decode cX8_tick 84 = .ok (.dup, 1) := dk_89 (dk_at dksX8_tick_3 13 rfl rfl)
theorem dX8_tick_85 : decode cX8_tick 85 = .ok (.getfield 88, 3) := dk_180 0 88 (dk_at dksX8_tick_3 14 rfl rfl)
theorem dX8_tick_88 : decode cX8_tick 88 = .ok (.iconst 1, 1) := dk_4 (dk_at dksX8_tick_3 17 rfl rfl)
theorem dX8_tick_89 : decode cX8_tick 89 = .ok (.iadd, 1) := dk_96 (dk_at dksX8_tick_3 18 rfl rfl)
theorem dX8_tick_90 : decode cX8_tick 90 = .ok (.putfield 88, 3) := dk_181 0 88 (dk_at dksX8_tick_3 19 rfl rfl)
theorem dX8_tick_93 : decode cX8_tick 93 = .ok (.aload_n 0, 1) := dk_42 (dk_at dksX8_tick_3 22 rfl rfl)
theorem dX8_tick_94 : decode cX8_tick 94 = .ok (.iload_n 1, 1) := dk_27 (dk_at dksX8_tick_3 23 rfl rfl)
theorem dX8_tick_95 : decode cX8_tick 95 = .ok (.iconst 1, 1) := dk_4 (dk_at dksX8_tick_4 0 rfl rfl)
theorem dX8_tick_96 : decode cX8_tick 96 = .ok (.invokevirtual 337, 3) := dk_182 1 81 (dk_at dksX8_tick_4 1 rfl rfl)
theorem dX8_tick_99 : decode cX8_tick 99 = .ok (.iinc 1 1, 3) := dk_132 1 1 (dk_at dksX8_tick_4 4 rfl rfl)
theorem dX8_tick_102 : decode cX8_tick 102 = .ok (.goto (-86), 3) := dk_167 255 170 (dk_at dksX8_tick_4 7 rfl rfl)
theorem dX8_tick_105 : decode cX8_tick 105 = .ok (.aload_n 0, 1) := dk_42 (dk_at dksX8_tick_4 10 rfl rfl)
theorem dX8_tick_106 : decode cX8_tick 106 = .ok (.invokevirtual 357, 3) := dk_182 1 101 (dk_at dksX8_tick_4 11 rfl rfl)
theorem dX8_tick_109 : decode cX8_tick 109 = .ok (.aload_n 0, 1) := dk_42 (dk_at dksX8_tick_4 14 rfl rfl)
theorem dX8_tick_110 : decode cX8_tick 110 = .ok (.invokevirtual 363, 3) := dk_182 1 107 (dk_at dksX8_tick_4 15 rfl rfl)
theorem dX8_tick_113 : decode cX8_tick 113 = .ok (.istore_n 1, 1) := dk_60 (dk_at dksX8_tick_4 18 rfl rfl)
theorem dX8_tick_114 : decode cX8_tick 114 = .ok (.iconst 0, 1) := dk_3 (dk_at dksX8_tick_4 19 rfl rfl)
theorem dX8_tick_115 : decode cX8_tick 115 = .ok (.istore_n 2, 1) := dk_61 (dk_at dksX8_tick_4 20 rfl rfl)
theorem dX8_tick_116 : decode cX8_tick 116 = .ok (.iload_n 2, 1) := dk_28 (dk_at dksX8_tick_4 21 rfl rfl)
theorem dX8_tick_117 : decode cX8_tick 117 = .ok (.iload_n 1, 1) := dk_27 (dk_at dksX8_tick_4 22 rfl rfl)
theorem dX8_tick_118 : decode cX8_tick 118 = .ok (.if_icmp .ge 22, 3) := dk_162 0 22 (dk_at dksX8_tick_5 0 rfl rfl)
theorem dX8_tick_121 : decode cX8_tick 121 = .ok (.aload_n 0, 1) := dk_42 (dk_at dksX8_tick_5 3 rfl rfl)
theorem dX8_tick_122 : decode cX8_tick 122 = .ok (.aload_n 0, 1) := dk_42 (dk_at dksX8_tick_5 4 rfl rfl)
theorem dX8_tick_123 : decode cX8_tick 123 = .ok (.getfield 53, 3) := dk_180 0 53 (dk_at dksX8_tick_5 5 rfl rfl)
theorem dX8_tick_126 : decode cX8_tick 126 = .ok (.getfield 323, 3) := dk_180 1 67 (dk_at dksX8_tick_5 8 rfl rfl)
theorem dX8_tick_129 : decode cX8_tick 129 = .ok (.iload_n 2, 1) := dk_28 (dk_at dksX8_tick_5 11 rfl rfl)
theorem dX8_tick_130 : decode cX8_tick 130 = .ok (.iaload, 1) := dk_46 (dk_at dksX8_tick_5 12 rfl rfl)
theorem dX8_tick_131 : decode cX8_tick 131 = .ok (.invokevirtual 366, 3) := dk_182 1 110 (dk_at dksX8_tick_5 13 rfl rfl)
theorem dX8_tick_134 : decode cX8_tick 134 = .ok (.iinc 2 1, 3) := dk_132 2 1 (dk_at dksX8_tick_5 16 rfl rfl)
theorem dX8_tick_137 : decode cX8_tick 137 = .ok (.goto (-21), 3) := dk_167 255 235 (dk_at dksX8_tick_5 19 rfl rfl)
theorem dX8_tick_140 : decode cX8_tick 140 = .ok (.iconst 0, 1) := dk_3 (dk_at dksX8_tick_5 22 rfl rfl)
theorem dX8_tick_141 : decode cX8_tick 141 = .ok (.istore_n 2, 1) := dk_61 (dk_at dksX8_tick_5 23 rfl rfl)
theorem dX8_tick_142 : decode cX8_tick 142 = .ok (.iload_n 2, 1) := dk_28 (dk_at dksX8_tick_6 0 rfl rfl)
theorem dX8_tick_143 : decode cX8_tick 143 = .ok (.aload_n 0, 1) := dk_42 (dk_at dksX8_tick_6 1 rfl rfl)
theorem dX8_tick_144 : decode cX8_tick 144 = .ok (.getfield 53, 3) := dk_180 0 53 (dk_at dksX8_tick_6 2 rfl rfl)
theorem dX8_tick_147 : decode cX8_tick 147 = .ok (.getfield 102, 3) := dk_180 0 102 (dk_at dksX8_tick_6 5 rfl rfl)
theorem dX8_tick_150 : decode cX8_tick 150 = .ok (.invokeinterface 94 1, 5) := by decide +kernel
theorem dX8_tick_155 : decode cX8_tick 155 = .ok (.if_icmp .ge 33, 3) := dk_162 0 33 (dk_at dksX8_tick_6 13 rfl rfl)
theorem dX8_tick_158 : decode cX8_tick 158 = .ok (.aload_n 0, 1) := dk_42 (dk_at dksX8_tick_6 16 rfl rfl)
theorem dX8_tick_159 : decode cX8_tick 159 = .ok (.getfield 42, 3) := dk_180 0 42 (dk_at dksX8_tick_6 17 rfl rfl)
theorem dX8_tick_162 : decode cX8_tick 162 = .ok (.iload_n 2, 1) := dk_28 (dk_at dksX8_tick_6 20 rfl rfl)
theorem dX8_tick_163 : decode cX8_tick 163 = .ok (.dup2, 1) := dk_92 (dk_at dksX8_tick_6 21 rfl rfl)
theorem dX8_tick_164 : decode cX8_tick 164 = .ok (.iaload, 1) := dk_46 (dk_at dksX8_tick_6 22 rfl rfl)
theorem dX8_tick_165 : decode cX8_tick 165 = .ok (.aload_n 0, 1) := dk_42 (dk_at dksX8_tick_6 23 rfl rfl)
theorem dX8_tick_166 : decode cX8_tick 166 = .ok (.getfield 24, 3) := dk_180 0 24 (dk_at dksX8_tick_7 0 rfl rfl)
theorem dX8_tick_169 : decode cX8_tick 169 = .ok (.iload_n 2, 1) := dk_28 (dk_at dksX8_tick_7 3 rfl rfl)
theorem dX8_tick_170 : decode cX8_tick 170 = .ok (.iaload, 1) := dk_46 (dk_at dksX8_tick_7 4 rfl rfl)
theorem dX8_tick_171 : decode cX8_tick 171 = .ok (.iconst 2, 1) := dk_5 (dk_at dksX8_tick_7 5 rfl rfl)
theorem dX8_tick_172 : decode cX8_tick 172 = .ok (.if_icmp .ne 7, 3) := dk_160 0 7 (dk_at dksX8_tick_7 6 rfl rfl)
theorem dX8_tick_175 : decode cX8_tick 175 = .ok (.iconst 1, 1) := dk_4 (dk_at dksX8_tick_7 9 rfl rfl)
theorem dX8_tick_176 : decode cX8_tick 176 = .ok (.goto 4, 3) := dk_167 0 4 (dk_at dksX8_tick_7 10 rfl rfl)
theorem dX8_tick_179 : decode cX8_tick 179 = .ok (.iconst 0, 1) := dk_3 (dk_at dksX8_tick_7 13 rfl rfl)
theorem dX8_tick_180 : decode cX8_tick 180 = .ok (.iadd, 1) := dk_96 (dk_at dksX8_tick_7 14 rfl rfl)
theorem dX8_tick_181 : decode cX8_tick 181 = .ok (.iastore, 1) := dk_79 (dk_at dksX8_tick_7 15 rfl rfl)
theorem dX8_tick_182 : decode cX8_tick 182 = .ok (.iinc 2 1, 3) := dk_132 2 1 (dk_at dksX8_tick_7 16 rfl rfl)
theorem dX8_tick_185 : decode cX8_tick 185 = .ok (.goto (-43), 3) := dk_167 255 213 (dk_at dksX8_tick_7 19 rfl rfl)
theorem dX8_tick_188 : decode cX8_tick 188 = .ok (.return_, 1) := dk_177 (dk_at dksX8_tick_7 22 rfl rfl)
abbrev cX8_write : ByteArray := prog_18_method_26_code
def yX8_write : MethodName := ⟨RX8, "write", "(II)V"⟩
def dkwX8_write_3 : List UInt8 := [180, 0, 91, 4, 96, 181, 0, 91, 177]
abbrev dktX8_write_3 : List UInt8 := dkwX8_write_3 ++ []
def dkwX8_write_2 : List UInt8 := [180, 0, 91, 28, 79, 42, 180, 0, 47, 6, 50, 42, 180, 0, 91, 42, 180, 0, 27, 28, 46, 79, 42, 89]
abbrev dktX8_write_2 : List UInt8 := dkwX8_write_2 ++ dktX8_write_3
def dkwX8_write_1 : List UInt8 := [180, 0, 81, 79, 42, 180, 0, 47, 4, 50, 42, 180, 0, 91, 27, 79, 42, 180, 0, 47, 5, 50, 42]
abbrev dktX8_write_1 : List UInt8 := dkwX8_write_1 ++ dktX8_write_2
def dkwX8_write_0 : List UInt8 := [42, 180, 0, 91, 17, 1, 44, 160, 0, 4, 177, 42, 180, 0, 47, 3, 50, 42, 180, 0, 91, 42]
abbrev dktX8_write_0 : List UInt8 := dkwX8_write_0 ++ dktX8_write_1
theorem dksX8_write_0 : cX8_write.data.toList.drop 0 = dktX8_write_0 := by decide +kernel
theorem dksX8_write_1 : cX8_write.data.toList.drop 22 = dktX8_write_1 := dk_seg dksX8_write_0 22 rfl rfl
theorem dksX8_write_2 : cX8_write.data.toList.drop 45 = dktX8_write_2 := dk_seg dksX8_write_1 23 rfl rfl
theorem dksX8_write_3 : cX8_write.data.toList.drop 69 = dktX8_write_3 := dk_seg dksX8_write_2 24 rfl rfl
theorem dX8_write_0 : decode cX8_write 0 = .ok (.aload_n 0, 1) := dk_42 (dk_at dksX8_write_0 0 rfl rfl)
theorem dX8_write_1 : decode cX8_write 1 = .ok (.getfield 91, 3) := dk_180 0 91 (dk_at dksX8_write_0 1 rfl rfl)
theorem dX8_write_4 : decode cX8_write 4 = .ok (.sipush 300, 3) := dk_17 1 44 (dk_at dksX8_write_0 4 rfl rfl)
theorem dX8_write_7 : decode cX8_write 7 = .ok (.if_icmp .ne 4, 3) := dk_160 0 4 (dk_at dksX8_write_0 7 rfl rfl)
theorem dX8_write_10 : decode cX8_write 10 = .ok (.return_, 1) := dk_177 (dk_at dksX8_write_0 10 rfl rfl)
theorem dX8_write_11 : decode cX8_write 11 = .ok (.aload_n 0, 1) := dk_42 (dk_at dksX8_write_0 11 rfl rfl)
theorem dX8_write_12 : decode cX8_write 12 = .ok (.getfield 47, 3) := dk_180 0 47 (dk_at dksX8_write_0 12 rfl rfl)
theorem dX8_write_15 : decode cX8_write 15 = .ok (.iconst 0, 1) := dk_3 (dk_at dksX8_write_0 15 rfl rfl)
theorem dX8_write_16 : decode cX8_write 16 = .ok (.aaload, 1) := dk_50 (dk_at dksX8_write_0 16 rfl rfl)
theorem dX8_write_17 : decode cX8_write 17 = .ok (.aload_n 0, 1) := dk_42 (dk_at dksX8_write_0 17 rfl rfl)
theorem dX8_write_18 : decode cX8_write 18 = .ok (.getfield 91, 3) := dk_180 0 91 (dk_at dksX8_write_0 18 rfl rfl)
theorem dX8_write_21 : decode cX8_write 21 = .ok (.aload_n 0, 1) := dk_42 (dk_at dksX8_write_0 21 rfl rfl)
theorem dX8_write_22 : decode cX8_write 22 = .ok (.getfield 81, 3) := dk_180 0 81 (dk_at dksX8_write_1 0 rfl rfl)
theorem dX8_write_25 : decode cX8_write 25 = .ok (.iastore, 1) := dk_79 (dk_at dksX8_write_1 3 rfl rfl)
theorem dX8_write_26 : decode cX8_write 26 = .ok (.aload_n 0, 1) := dk_42 (dk_at dksX8_write_1 4 rfl rfl)
theorem dX8_write_27 : decode cX8_write 27 = .ok (.getfield 47, 3) := dk_180 0 47 (dk_at dksX8_write_1 5 rfl rfl)
theorem dX8_write_30 : decode cX8_write 30 = .ok (.iconst 1, 1) := dk_4 (dk_at dksX8_write_1 8 rfl rfl)
theorem dX8_write_31 : decode cX8_write 31 = .ok (.aaload, 1) := dk_50 (dk_at dksX8_write_1 9 rfl rfl)
theorem dX8_write_32 : decode cX8_write 32 = .ok (.aload_n 0, 1) := dk_42 (dk_at dksX8_write_1 10 rfl rfl)
theorem dX8_write_33 : decode cX8_write 33 = .ok (.getfield 91, 3) := dk_180 0 91 (dk_at dksX8_write_1 11 rfl rfl)
theorem dX8_write_36 : decode cX8_write 36 = .ok (.iload_n 1, 1) := dk_27 (dk_at dksX8_write_1 14 rfl rfl)
theorem dX8_write_37 : decode cX8_write 37 = .ok (.iastore, 1) := dk_79 (dk_at dksX8_write_1 15 rfl rfl)
theorem dX8_write_38 : decode cX8_write 38 = .ok (.aload_n 0, 1) := dk_42 (dk_at dksX8_write_1 16 rfl rfl)
theorem dX8_write_39 : decode cX8_write 39 = .ok (.getfield 47, 3) := dk_180 0 47 (dk_at dksX8_write_1 17 rfl rfl)
theorem dX8_write_42 : decode cX8_write 42 = .ok (.iconst 2, 1) := dk_5 (dk_at dksX8_write_1 20 rfl rfl)
theorem dX8_write_43 : decode cX8_write 43 = .ok (.aaload, 1) := dk_50 (dk_at dksX8_write_1 21 rfl rfl)
theorem dX8_write_44 : decode cX8_write 44 = .ok (.aload_n 0, 1) := dk_42 (dk_at dksX8_write_1 22 rfl rfl)
theorem dX8_write_45 : decode cX8_write 45 = .ok (.getfield 91, 3) := dk_180 0 91 (dk_at dksX8_write_2 0 rfl rfl)
theorem dX8_write_48 : decode cX8_write 48 = .ok (.iload_n 2, 1) := dk_28 (dk_at dksX8_write_2 3 rfl rfl)
theorem dX8_write_49 : decode cX8_write 49 = .ok (.iastore, 1) := dk_79 (dk_at dksX8_write_2 4 rfl rfl)
theorem dX8_write_50 : decode cX8_write 50 = .ok (.aload_n 0, 1) := dk_42 (dk_at dksX8_write_2 5 rfl rfl)
theorem dX8_write_51 : decode cX8_write 51 = .ok (.getfield 47, 3) := dk_180 0 47 (dk_at dksX8_write_2 6 rfl rfl)
theorem dX8_write_54 : decode cX8_write 54 = .ok (.iconst 3, 1) := dk_6 (dk_at dksX8_write_2 9 rfl rfl)
theorem dX8_write_55 : decode cX8_write 55 = .ok (.aaload, 1) := dk_50 (dk_at dksX8_write_2 10 rfl rfl)
theorem dX8_write_56 : decode cX8_write 56 = .ok (.aload_n 0, 1) := dk_42 (dk_at dksX8_write_2 11 rfl rfl)
theorem dX8_write_57 : decode cX8_write 57 = .ok (.getfield 91, 3) := dk_180 0 91 (dk_at dksX8_write_2 12 rfl rfl)
theorem dX8_write_60 : decode cX8_write 60 = .ok (.aload_n 0, 1) := dk_42 (dk_at dksX8_write_2 15 rfl rfl)
theorem dX8_write_61 : decode cX8_write 61 = .ok (.getfield 27, 3) := dk_180 0 27 (dk_at dksX8_write_2 16 rfl rfl)
theorem dX8_write_64 : decode cX8_write 64 = .ok (.iload_n 2, 1) := dk_28 (dk_at dksX8_write_2 19 rfl rfl)
theorem dX8_write_65 : decode cX8_write 65 = .ok (.iaload, 1) := dk_46 (dk_at dksX8_write_2 20 rfl rfl)
theorem dX8_write_66 : decode cX8_write 66 = .ok (.iastore, 1) := dk_79 (dk_at dksX8_write_2 21 rfl rfl)
theorem dX8_write_67 : decode cX8_write 67 = .ok (.aload_n 0, 1) := dk_42 (dk_at dksX8_write_2 22 rfl rfl)
theorem dX8_write_68 : decode cX8_write 68 = .ok (.dup, 1) := dk_89 (dk_at dksX8_write_2 23 rfl rfl)
theorem dX8_write_69 : decode cX8_write 69 = .ok (.getfield 91, 3) := dk_180 0 91 (dk_at dksX8_write_3 0 rfl rfl)
theorem dX8_write_72 : decode cX8_write 72 = .ok (.iconst 1, 1) := dk_4 (dk_at dksX8_write_3 3 rfl rfl)
theorem dX8_write_73 : decode cX8_write 73 = .ok (.iadd, 1) := dk_96 (dk_at dksX8_write_3 4 rfl rfl)
theorem dX8_write_74 : decode cX8_write 74 = .ok (.putfield 91, 3) := dk_181 0 91 (dk_at dksX8_write_3 5 rfl rfl)
theorem dX8_write_77 : decode cX8_write 77 = .ok (.return_, 1) := dk_177 (dk_at dksX8_write_3 8 rfl rfl)
abbrev cX8_forceMoves : ByteArray := prog_18_method_32_code
def yX8_forceMoves : MethodName := ⟨RX8, "forceMoves", "()V"⟩
def dkwX8_forceMoves_0 : List UInt8 := [42, 182, 1, 92, 42, 182, 1, 95, 42, 182, 1, 98, 177]
abbrev dktX8_forceMoves_0 : List UInt8 := dkwX8_forceMoves_0 ++ []
theorem dksX8_forceMoves_0 : cX8_forceMoves.data.toList.drop 0 = dktX8_forceMoves_0 := by decide +kernel
theorem dX8_forceMoves_0 : decode cX8_forceMoves 0 = .ok (.aload_n 0, 1) := dk_42 (dk_at dksX8_forceMoves_0 0 rfl rfl)
theorem dX8_forceMoves_1 : decode cX8_forceMoves 1 = .ok (.invokevirtual 348, 3) := dk_182 1 92 (dk_at dksX8_forceMoves_0 1 rfl rfl)
theorem dX8_forceMoves_4 : decode cX8_forceMoves 4 = .ok (.aload_n 0, 1) := dk_42 (dk_at dksX8_forceMoves_0 4 rfl rfl)
theorem dX8_forceMoves_5 : decode cX8_forceMoves 5 = .ok (.invokevirtual 351, 3) := dk_182 1 95 (dk_at dksX8_forceMoves_0 5 rfl rfl)
theorem dX8_forceMoves_8 : decode cX8_forceMoves 8 = .ok (.aload_n 0, 1) := dk_42 (dk_at dksX8_forceMoves_0 8 rfl rfl)
theorem dX8_forceMoves_9 : decode cX8_forceMoves 9 = .ok (.invokevirtual 354, 3) := dk_182 1 98 (dk_at dksX8_forceMoves_0 9 rfl rfl)
theorem dX8_forceMoves_12 : decode cX8_forceMoves 12 = .ok (.return_, 1) := dk_177 (dk_at dksX8_forceMoves_0 12 rfl rfl)
abbrev cX8_forceDenied : ByteArray := prog_18_method_31_code
def yX8_forceDenied : MethodName := ⟨RX8, "forceDenied", "()V"⟩
def dkwX8_forceDenied_2 : List UInt8 := [132, 1, 1, 167, 255, 208, 177]
abbrev dktX8_forceDenied_2 : List UInt8 := dkwX8_forceDenied_2 ++ []
def dkwX8_forceDenied_1 : List UInt8 := [5, 160, 0, 22, 42, 27, 42, 180, 0, 27, 27, 46, 182, 1, 90, 153, 0, 8, 42, 27, 182, 1, 87]
abbrev dktX8_forceDenied_1 : List UInt8 := dkwX8_forceDenied_1 ++ dktX8_forceDenied_2
def dkwX8_forceDenied_0 : List UInt8 := [3, 60, 27, 42, 180, 0, 53, 180, 0, 102, 185, 0, 94, 1, 0, 162, 0, 38, 42, 180, 0, 24, 27, 46]
abbrev dktX8_forceDenied_0 : List UInt8 := dkwX8_forceDenied_0 ++ dktX8_forceDenied_1
theorem dksX8_forceDenied_0 : cX8_forceDenied.data.toList.drop 0 = dktX8_forceDenied_0 := by decide +kernel
theorem dksX8_forceDenied_1 : cX8_forceDenied.data.toList.drop 24 = dktX8_forceDenied_1 := dk_seg dksX8_forceDenied_0 24 rfl rfl
theorem dksX8_forceDenied_2 : cX8_forceDenied.data.toList.drop 47 = dktX8_forceDenied_2 := dk_seg dksX8_forceDenied_1 23 rfl rfl
theorem dX8_forceDenied_0 : decode cX8_forceDenied 0 = .ok (.iconst 0, 1) := dk_3 (dk_at dksX8_forceDenied_0 0 rfl rfl)
theorem dX8_forceDenied_1 : decode cX8_forceDenied 1 = .ok (.istore_n 1, 1) := dk_60 (dk_at dksX8_forceDenied_0 1 rfl rfl)
theorem dX8_forceDenied_2 : decode cX8_forceDenied 2 = .ok (.iload_n 1, 1) := dk_27 (dk_at dksX8_forceDenied_0 2 rfl rfl)
theorem dX8_forceDenied_3 : decode cX8_forceDenied 3 = .ok (.aload_n 0, 1) := dk_42 (dk_at dksX8_forceDenied_0 3 rfl rfl)
theorem dX8_forceDenied_4 : decode cX8_forceDenied 4 = .ok (.getfield 53, 3) := dk_180 0 53 (dk_at dksX8_forceDenied_0 4 rfl rfl)
theorem dX8_forceDenied_7 : decode cX8_forceDenied 7 = .ok (.getfield 102, 3) := dk_180 0 102 (dk_at dksX8_forceDenied_0 7 rfl rfl)
theorem dX8_forceDenied_10 : decode cX8_forceDenied 10 = .ok (.invokeinterface 94 1, 5) := by decide +kernel
theorem dX8_forceDenied_15 : decode cX8_forceDenied 15 = .ok (.if_icmp .ge 38, 3) := dk_162 0 38 (dk_at dksX8_forceDenied_0 15 rfl rfl)
theorem dX8_forceDenied_18 : decode cX8_forceDenied 18 = .ok (.aload_n 0, 1) := dk_42 (dk_at dksX8_forceDenied_0 18 rfl rfl)
theorem dX8_forceDenied_19 : decode cX8_forceDenied 19 = .ok (.getfield 24, 3) := dk_180 0 24 (dk_at dksX8_forceDenied_0 19 rfl rfl)
theorem dX8_forceDenied_22 : decode cX8_forceDenied 22 = .ok (.iload_n 1, 1) := dk_27 (dk_at dksX8_forceDenied_0 22 rfl rfl)
theorem dX8_forceDenied_23 : decode cX8_forceDenied 23 = .ok (.iaload, 1) := dk_46 (dk_at dksX8_forceDenied_0 23 rfl rfl)
theorem dX8_forceDenied_24 : decode cX8_forceDenied 24 = .ok (.iconst 2, 1) := dk_5 (dk_at dksX8_forceDenied_1 0 rfl rfl)
theorem dX8_forceDenied_25 : decode cX8_forceDenied 25 = .ok (.if_icmp .ne 22, 3) := dk_160 0 22 (dk_at dksX8_forceDenied_1 1 rfl rfl)
theorem dX8_forceDenied_28 : decode cX8_forceDenied 28 = .ok (.aload_n 0, 1) := dk_42 (dk_at dksX8_forceDenied_1 4 rfl rfl)
theorem dX8_forceDenied_29 : decode cX8_forceDenied 29 = .ok (.iload_n 1, 1) := dk_27 (dk_at dksX8_forceDenied_1 5 rfl rfl)
theorem dX8_forceDenied_30 : decode cX8_forceDenied 30 = .ok (.aload_n 0, 1) := dk_42 (dk_at dksX8_forceDenied_1 6 rfl rfl)
theorem dX8_forceDenied_31 : decode cX8_forceDenied 31 = .ok (.getfield 27, 3) := dk_180 0 27 (dk_at dksX8_forceDenied_1 7 rfl rfl)
theorem dX8_forceDenied_34 : decode cX8_forceDenied 34 = .ok (.iload_n 1, 1) := dk_27 (dk_at dksX8_forceDenied_1 10 rfl rfl)
theorem dX8_forceDenied_35 : decode cX8_forceDenied 35 = .ok (.iaload, 1) := dk_46 (dk_at dksX8_forceDenied_1 11 rfl rfl)
theorem dX8_forceDenied_36 : decode cX8_forceDenied 36 = .ok (.invokevirtual 346, 3) := dk_182 1 90 (dk_at dksX8_forceDenied_1 12 rfl rfl)
theorem dX8_forceDenied_39 : decode cX8_forceDenied 39 = .ok (.ifCond .eq 8, 3) := dk_153 0 8 (dk_at dksX8_forceDenied_1 15 rfl rfl)
theorem dX8_forceDenied_42 : decode cX8_forceDenied 42 = .ok (.aload_n 0, 1) := dk_42 (dk_at dksX8_forceDenied_1 18 rfl rfl)
theorem dX8_forceDenied_43 : decode cX8_forceDenied 43 = .ok (.iload_n 1, 1) := dk_27 (dk_at dksX8_forceDenied_1 19 rfl rfl)
theorem dX8_forceDenied_44 : decode cX8_forceDenied 44 = .ok (.invokevirtual 343, 3) := dk_182 1 87 (dk_at dksX8_forceDenied_1 20 rfl rfl)
theorem dX8_forceDenied_47 : decode cX8_forceDenied 47 = .ok (.iinc 1 1, 3) := dk_132 1 1 (dk_at dksX8_forceDenied_2 0 rfl rfl)
theorem dX8_forceDenied_50 : decode cX8_forceDenied 50 = .ok (.goto (-48), 3) := dk_167 255 208 (dk_at dksX8_forceDenied_2 3 rfl rfl)
theorem dX8_forceDenied_53 : decode cX8_forceDenied 53 = .ok (.return_, 1) := dk_177 (dk_at dksX8_forceDenied_2 6 rfl rfl)
abbrev cX8_move : ByteArray := prog_18_method_28_code
def yX8_move : MethodName := ⟨RX8, "move", "(I)V"⟩
def dkwX8_move_1 : List UInt8 := [180, 0, 85, 4, 96, 181, 0, 85, 177]
abbrev dktX8_move_1 : List UInt8 := dkwX8_move_1 ++ []
def dkwX8_move_0 : List UInt8 := [42, 5, 27, 182, 1, 77, 42, 27, 4, 182, 1, 81, 42, 180, 0, 39, 27, 92, 46, 4, 96, 79, 42, 89]
abbrev dktX8_move_0 : List UInt8 := dkwX8_move_0 ++ dktX8_move_1
theorem dksX8_move_0 : cX8_move.data.toList.drop 0 = dktX8_move_0 := by decide +kernel
theorem dksX8_move_1 : cX8_move.data.toList.drop 24 = dktX8_move_1 := dk_seg dksX8_move_0 24 rfl rfl
theorem dX8_move_0 : decode cX8_move 0 = .ok (.aload_n 0, 1) := dk_42 (dk_at dksX8_move_0 0 rfl rfl)
theorem dX8_move_1 : decode cX8_move 1 = .ok (.iconst 2, 1) := dk_5 (dk_at dksX8_move_0 1 rfl rfl)
theorem dX8_move_2 : decode cX8_move 2 = .ok (.iload_n 1, 1) := dk_27 (dk_at dksX8_move_0 2 rfl rfl)
theorem dX8_move_3 : decode cX8_move 3 = .ok (.invokevirtual 333, 3) := dk_182 1 77 (dk_at dksX8_move_0 3 rfl rfl)
theorem dX8_move_6 : decode cX8_move 6 = .ok (.aload_n 0, 1) := dk_42 (dk_at dksX8_move_0 6 rfl rfl)
theorem dX8_move_7 : decode cX8_move 7 = .ok (.iload_n 1, 1) := dk_27 (dk_at dksX8_move_0 7 rfl rfl)
theorem dX8_move_8 : decode cX8_move 8 = .ok (.iconst 1, 1) := dk_4 (dk_at dksX8_move_0 8 rfl rfl)
theorem dX8_move_9 : decode cX8_move 9 = .ok (.invokevirtual 337, 3) := dk_182 1 81 (dk_at dksX8_move_0 9 rfl rfl)
theorem dX8_move_12 : decode cX8_move 12 = .ok (.aload_n 0, 1) := dk_42 (dk_at dksX8_move_0 12 rfl rfl)
theorem dX8_move_13 : decode cX8_move 13 = .ok (.getfield 39, 3) := dk_180 0 39 (dk_at dksX8_move_0 13 rfl rfl)
theorem dX8_move_16 : decode cX8_move 16 = .ok (.iload_n 1, 1) := dk_27 (dk_at dksX8_move_0 16 rfl rfl)
theorem dX8_move_17 : decode cX8_move 17 = .ok (.dup2, 1) := dk_92 (dk_at dksX8_move_0 17 rfl rfl)
theorem dX8_move_18 : decode cX8_move 18 = .ok (.iaload, 1) := dk_46 (dk_at dksX8_move_0 18 rfl rfl)
theorem dX8_move_19 : decode cX8_move 19 = .ok (.iconst 1, 1) := dk_4 (dk_at dksX8_move_0 19 rfl rfl)
theorem dX8_move_20 : decode cX8_move 20 = .ok (.iadd, 1) := dk_96 (dk_at dksX8_move_0 20 rfl rfl)
theorem dX8_move_21 : decode cX8_move 21 = .ok (.iastore, 1) := dk_79 (dk_at dksX8_move_0 21 rfl rfl)
theorem dX8_move_22 : decode cX8_move 22 = .ok (.aload_n 0, 1) := dk_42 (dk_at dksX8_move_0 22 rfl rfl)
theorem dX8_move_23 : decode cX8_move 23 = .ok (.dup, 1) := dk_89 (dk_at dksX8_move_0 23 rfl rfl)
theorem dX8_move_24 : decode cX8_move 24 = .ok (.getfield 85, 3) := dk_180 0 85 (dk_at dksX8_move_1 0 rfl rfl)
theorem dX8_move_27 : decode cX8_move 27 = .ok (.iconst 1, 1) := dk_4 (dk_at dksX8_move_1 3 rfl rfl)
theorem dX8_move_28 : decode cX8_move 28 = .ok (.iadd, 1) := dk_96 (dk_at dksX8_move_1 4 rfl rfl)
theorem dX8_move_29 : decode cX8_move 29 = .ok (.putfield 85, 3) := dk_181 0 85 (dk_at dksX8_move_1 5 rfl rfl)
theorem dX8_move_32 : decode cX8_move 32 = .ok (.return_, 1) := dk_177 (dk_at dksX8_move_1 8 rfl rfl)
abbrev cX8_protectIncumbents : ByteArray := prog_18_method_29_code
def yX8_protectIncumbents : MethodName := ⟨RX8, "protectIncumbents", "()V"⟩
def dkwX8_protectIncumbents_5 : List UInt8 := [167, 255, 193, 132, 3, 1, 167, 255, 179, 132, 1, 1, 167, 255, 130, 177]
abbrev dktX8_protectIncumbents_5 : List UInt8 := dkwX8_protectIncumbents_5 ++ []
def dkwX8_protectIncumbents_4 : List UInt8 := [159, 0, 8, 21, 4, 167, 0, 16, 42, 44, 29, 42, 180, 0, 53, 180, 0, 202, 182, 1, 84, 182, 1, 87]
abbrev dktX8_protectIncumbents_4 : List UInt8 := dkwX8_protectIncumbents_4 ++ dktX8_protectIncumbents_5
def dkwX8_protectIncumbents_3 : List UInt8 := [164, 0, 49, 42, 44, 29, 42, 180, 0, 53, 180, 0, 211, 182, 1, 84, 54, 4, 42, 21, 4, 2]
abbrev dktX8_protectIncumbents_3 : List UInt8 := dkwX8_protectIncumbents_3 ++ dktX8_protectIncumbents_4
def dkwX8_protectIncumbents_2 : List UInt8 := [180, 0, 174, 163, 0, 75, 42, 44, 29, 42, 180, 0, 53, 180, 0, 177, 182, 0, 181, 44, 180, 0, 187]
abbrev dktX8_protectIncumbents_2 : List UInt8 := dkwX8_protectIncumbents_2 ++ dktX8_protectIncumbents_3
def dkwX8_protectIncumbents_1 : List UInt8 := [167, 0, 102, 42, 180, 0, 14, 27, 185, 0, 113, 2, 0, 192, 0, 156, 77, 44, 180, 0, 171, 62, 29, 44]
abbrev dktX8_protectIncumbents_1 : List UInt8 := dkwX8_protectIncumbents_1 ++ dktX8_protectIncumbents_2
def dkwX8_protectIncumbents_0 : List UInt8 := [3, 60, 27, 42, 180, 0, 14, 185, 0, 94, 1, 0, 162, 0, 119, 42, 27, 182, 0, 199, 154, 0, 6]
abbrev dktX8_protectIncumbents_0 : List UInt8 := dkwX8_protectIncumbents_0 ++ dktX8_protectIncumbents_1
theorem dksX8_protectIncumbents_0 : cX8_protectIncumbents.data.toList.drop 0 = dktX8_protectIncumbents_0 := by decide +kernel
theorem dksX8_protectIncumbents_1 : cX8_protectIncumbents.data.toList.drop 23 = dktX8_protectIncumbents_1 := dk_seg dksX8_protectIncumbents_0 23 rfl rfl
theorem dksX8_protectIncumbents_2 : cX8_protectIncumbents.data.toList.drop 47 = dktX8_protectIncumbents_2 := dk_seg dksX8_protectIncumbents_1 24 rfl rfl
theorem dksX8_protectIncumbents_3 : cX8_protectIncumbents.data.toList.drop 70 = dktX8_protectIncumbents_3 := dk_seg dksX8_protectIncumbents_2 23 rfl rfl
theorem dksX8_protectIncumbents_4 : cX8_protectIncumbents.data.toList.drop 92 = dktX8_protectIncumbents_4 := dk_seg dksX8_protectIncumbents_3 22 rfl rfl
theorem dksX8_protectIncumbents_5 : cX8_protectIncumbents.data.toList.drop 116 = dktX8_protectIncumbents_5 := dk_seg dksX8_protectIncumbents_4 24 rfl rfl
theorem dX8_protectIncumbents_0 : decode cX8_protectIncumbents 0 = .ok (.iconst 0, 1) := dk_3 (dk_at dksX8_protectIncumbents_0 0 rfl rfl)
theorem dX8_protectIncumbents_1 : decode cX8_protectIncumbents 1 = .ok (.istore_n 1, 1) := dk_60 (dk_at dksX8_protectIncumbents_0 1 rfl rfl)
theorem dX8_protectIncumbents_2 : decode cX8_protectIncumbents 2 = .ok (.iload_n 1, 1) := dk_27 (dk_at dksX8_protectIncumbents_0 2 rfl rfl)
theorem dX8_protectIncumbents_3 : decode cX8_protectIncumbents 3 = .ok (.aload_n 0, 1) := dk_42 (dk_at dksX8_protectIncumbents_0 3 rfl rfl)
theorem dX8_protectIncumbents_4 : decode cX8_protectIncumbents 4 = .ok (.getfield 14, 3) := dk_180 0 14 (dk_at dksX8_protectIncumbents_0 4 rfl rfl)
theorem dX8_protectIncumbents_7 : decode cX8_protectIncumbents 7 = .ok (.invokeinterface 94 1, 5) := by decide +kernel
theorem dX8_protectIncumbents_12 : decode cX8_protectIncumbents 12 = .ok (.if_icmp .ge 119, 3) := dk_162 0 119 (dk_at dksX8_protectIncumbents_0 12 rfl rfl)
theorem dX8_protectIncumbents_15 : decode cX8_protectIncumbents 15 = .ok (.aload_n 0, 1) := dk_42 (dk_at dksX8_protectIncumbents_0 15 rfl rfl)
theorem dX8_protectIncumbents_16 : decode cX8_protectIncumbents 16 = .ok (.iload_n 1, 1) := dk_27 (dk_at dksX8_protectIncumbents_0 16 rfl rfl)
theorem dX8_protectIncumbents_17 : decode cX8_protectIncumbents 17 = .ok (.invokevirtual 199, 3) := dk_182 0 199 (dk_at dksX8_protectIncumbents_0 17 rfl rfl)
theorem dX8_protectIncumbents_20 : decode cX8_protectIncumbents 20 = .ok (.ifCond .ne 6, 3) := dk_154 0 6 (dk_at dksX8_protectIncumbents_0 20 rfl rfl)
theorem dX8_protectIncumbents_23 : decode cX8_protectIncumbents 23 = .ok (.goto 102, 3) := dk_167 0 102 (dk_at dksX8_protectIncumbents_1 0 rfl rfl)
theorem dX8_protectIncumbents_26 : decode cX8_protectIncumbents 26 = .ok (.aload_n 0, 1) := dk_42 (dk_at dksX8_protectIncumbents_1 3 rfl rfl)
theorem dX8_protectIncumbents_27 : decode cX8_protectIncumbents 27 = .ok (.getfield 14, 3) := dk_180 0 14 (dk_at dksX8_protectIncumbents_1 4 rfl rfl)
theorem dX8_protectIncumbents_30 : decode cX8_protectIncumbents 30 = .ok (.iload_n 1, 1) := dk_27 (dk_at dksX8_protectIncumbents_1 7 rfl rfl)
theorem dX8_protectIncumbents_31 : decode cX8_protectIncumbents 31 = .ok (.invokeinterface 113 2, 5) := by decide +kernel
theorem dX8_protectIncumbents_36 : decode cX8_protectIncumbents 36 = .ok (.checkcast 156, 3) := dk_192 0 156 (dk_at dksX8_protectIncumbents_1 13 rfl rfl)
theorem dX8_protectIncumbents_39 : decode cX8_protectIncumbents 39 = .ok (.astore_n 2, 1) := dk_77 (dk_at dksX8_protectIncumbents_1 16 rfl rfl)
theorem dX8_protectIncumbents_40 : decode cX8_protectIncumbents 40 = .ok (.aload_n 2, 1) := dk_44 (dk_at dksX8_protectIncumbents_1 17 rfl rfl)
theorem dX8_protectIncumbents_41 : decode cX8_protectIncumbents 41 = .ok (.getfield 171, 3) := dk_180 0 171 (dk_at dksX8_protectIncumbents_1 18 rfl rfl)
theorem dX8_protectIncumbents_44 : decode cX8_protectIncumbents 44 = .ok (.istore_n 3, 1) := dk_62 (dk_at dksX8_protectIncumbents_1 21 rfl rfl)
theorem dX8_protectIncumbents_45 : decode cX8_protectIncumbents 45 = .ok (.iload_n 3, 1) := dk_29 (dk_at dksX8_protectIncumbents_1 22 rfl rfl)
theorem dX8_protectIncumbents_46 : decode cX8_protectIncumbents 46 = .ok (.aload_n 2, 1) := dk_44 (dk_at dksX8_protectIncumbents_1 23 rfl rfl)
theorem dX8_protectIncumbents_47 : decode cX8_protectIncumbents 47 = .ok (.getfield 174, 3) := dk_180 0 174 (dk_at dksX8_protectIncumbents_2 0 rfl rfl)
theorem dX8_protectIncumbents_50 : decode cX8_protectIncumbents 50 = .ok (.if_icmp .gt 75, 3) := dk_163 0 75 (dk_at dksX8_protectIncumbents_2 3 rfl rfl)
theorem dX8_protectIncumbents_53 : decode cX8_protectIncumbents 53 = .ok (.aload_n 0, 1) := dk_42 (dk_at dksX8_protectIncumbents_2 6 rfl rfl)
theorem dX8_protectIncumbents_54 : decode cX8_protectIncumbents 54 = .ok (.aload_n 2, 1) := dk_44 (dk_at dksX8_protectIncumbents_2 7 rfl rfl)
theorem dX8_protectIncumbents_55 : decode cX8_protectIncumbents 55 = .ok (.iload_n 3, 1) := dk_29 (dk_at dksX8_protectIncumbents_2 8 rfl rfl)
theorem dX8_protectIncumbents_56 : decode cX8_protectIncumbents 56 = .ok (.aload_n 0, 1) := dk_42 (dk_at dksX8_protectIncumbents_2 9 rfl rfl)
theorem dX8_protectIncumbents_57 : decode cX8_protectIncumbents 57 = .ok (.getfield 53, 3) := dk_180 0 53 (dk_at dksX8_protectIncumbents_2 10 rfl rfl)
theorem dX8_protectIncumbents_60 : decode cX8_protectIncumbents 60 = .ok (.getfield 177, 3) := dk_180 0 177 (dk_at dksX8_protectIncumbents_2 13 rfl rfl)
theorem dX8_protectIncumbents_63 : decode cX8_protectIncumbents 63 = .ok (.invokevirtual 181, 3) := dk_182 0 181 (dk_at dksX8_protectIncumbents_2 16 rfl rfl)
theorem dX8_protectIncumbents_66 : decode cX8_protectIncumbents 66 = .ok (.aload_n 2, 1) := dk_44 (dk_at dksX8_protectIncumbents_2 19 rfl rfl)
theorem dX8_protectIncumbents_67 : decode cX8_protectIncumbents 67 = .ok (.getfield 187, 3) := dk_180 0 187 (dk_at dksX8_protectIncumbents_2 20 rfl rfl)
theorem dX8_protectIncumbents_70 : decode cX8_protectIncumbents 70 = .ok (.if_icmp .le 49, 3) := dk_164 0 49 (dk_at dksX8_protectIncumbents_3 0 rfl rfl)
theorem dX8_protectIncumbents_73 : decode cX8_protectIncumbents 73 = .ok (.aload_n 0, 1) := dk_42 (dk_at dksX8_protectIncumbents_3 3 rfl rfl)
theorem dX8_protectIncumbents_74 : decode cX8_protectIncumbents 74 = .ok (.aload_n 2, 1) := dk_44 (dk_at dksX8_protectIncumbents_3 4 rfl rfl)
theorem dX8_protectIncumbents_75 : decode cX8_protectIncumbents 75 = .ok (.iload_n 3, 1) := dk_29 (dk_at dksX8_protectIncumbents_3 5 rfl rfl)
theorem dX8_protectIncumbents_76 : decode cX8_protectIncumbents 76 = .ok (.aload_n 0, 1) := dk_42 (dk_at dksX8_protectIncumbents_3 6 rfl rfl)
theorem dX8_protectIncumbents_77 : decode cX8_protectIncumbents 77 = .ok (.getfield 53, 3) := dk_180 0 53 (dk_at dksX8_protectIncumbents_3 7 rfl rfl)
theorem dX8_protectIncumbents_80 : decode cX8_protectIncumbents 80 = .ok (.getfield 211, 3) := dk_180 0 211 (dk_at dksX8_protectIncumbents_3 10 rfl rfl)
theorem dX8_protectIncumbents_83 : decode cX8_protectIncumbents 83 = .ok (.invokevirtual 340, 3) := dk_182 1 84 (dk_at dksX8_protectIncumbents_3 13 rfl rfl)
theorem dX8_protectIncumbents_86 : decode cX8_protectIncumbents 86 = .ok (.istore 4, 2) := dk_54 4 (dk_at dksX8_protectIncumbents_3 16 rfl rfl)
theorem dX8_protectIncumbents_88 : decode cX8_protectIncumbents 88 = .ok (.aload_n 0, 1) := dk_42 (dk_at dksX8_protectIncumbents_3 18 rfl rfl)
theorem dX8_protectIncumbents_89 : decode cX8_protectIncumbents 89 = .ok (.iload 4, 2) := dk_21 4 (dk_at dksX8_protectIncumbents_3 19 rfl rfl)
theorem dX8_protectIncumbents_91 : decode cX8_protectIncumbents 91 = .ok (.iconst (-1), 1) := dk_2 (dk_at dksX8_protectIncumbents_3 21 rfl rfl)
theorem dX8_protectIncumbents_92 : decode cX8_protectIncumbents 92 = .ok (.if_icmp .eq 8, 3) := dk_159 0 8 (dk_at dksX8_protectIncumbents_4 0 rfl rfl)
theorem dX8_protectIncumbents_95 : decode cX8_protectIncumbents 95 = .ok (.iload 4, 2) := dk_21 4 (dk_at dksX8_protectIncumbents_4 3 rfl rfl)
theorem dX8_protectIncumbents_97 : decode cX8_protectIncumbents 97 = .ok (.goto 16, 3) := dk_167 0 16 (dk_at dksX8_protectIncumbents_4 5 rfl rfl)
theorem dX8_protectIncumbents_100 : decode cX8_protectIncumbents 100 = .ok (.aload_n 0, 1) := dk_42 (dk_at dksX8_protectIncumbents_4 8 rfl rfl)
theorem dX8_protectIncumbents_101 : decode cX8_protectIncumbents 101 = .ok (.aload_n 2, 1) := dk_44 (dk_at dksX8_protectIncumbents_4 9 rfl rfl)
theorem dX8_protectIncumbents_102 : decode cX8_protectIncumbents 102 = .ok (.iload_n 3, 1) := dk_29 (dk_at dksX8_protectIncumbents_4 10 rfl rfl)
theorem dX8_protectIncumbents_103 : decode cX8_protectIncumbents 103 = .ok (.aload_n 0, 1) := dk_42 (dk_at dksX8_protectIncumbents_4 11 rfl rfl)
theorem dX8_protectIncumbents_104 : decode cX8_protectIncumbents 104 = .ok (.getfield 53, 3) := dk_180 0 53 (dk_at dksX8_protectIncumbents_4 12 rfl rfl)
theorem dX8_protectIncumbents_107 : decode cX8_protectIncumbents 107 = .ok (.getfield 202, 3) := dk_180 0 202 (dk_at dksX8_protectIncumbents_4 15 rfl rfl)
theorem dX8_protectIncumbents_110 : decode cX8_protectIncumbents 110 = .ok (.invokevirtual 340, 3) := dk_182 1 84 (dk_at dksX8_protectIncumbents_4 18 rfl rfl)
theorem dX8_protectIncumbents_113 : decode cX8_protectIncumbents 113 = .ok (.invokevirtual 343, 3) := dk_182 1 87 (dk_at dksX8_protectIncumbents_4 21 rfl rfl)
theorem dX8_protectIncumbents_116 : decode cX8_protectIncumbents 116 = .ok (.goto (-63), 3) := dk_167 255 193 (dk_at dksX8_protectIncumbents_5 0 rfl rfl)
theorem dX8_protectIncumbents_119 : decode cX8_protectIncumbents 119 = .ok (.iinc 3 1, 3) := dk_132 3 1 (dk_at dksX8_protectIncumbents_5 3 rfl rfl)
theorem dX8_protectIncumbents_122 : decode cX8_protectIncumbents 122 = .ok (.goto (-77), 3) := dk_167 255 179 (dk_at dksX8_protectIncumbents_5 6 rfl rfl)
theorem dX8_protectIncumbents_125 : decode cX8_protectIncumbents 125 = .ok (.iinc 1 1, 3) := dk_132 1 1 (dk_at dksX8_protectIncumbents_5 9 rfl rfl)
theorem dX8_protectIncumbents_128 : decode cX8_protectIncumbents 128 = .ok (.goto (-126), 3) := dk_167 255 130 (dk_at dksX8_protectIncumbents_5 12 rfl rfl)
theorem dX8_protectIncumbents_131 : decode cX8_protectIncumbents 131 = .ok (.return_, 1) := dk_177 (dk_at dksX8_protectIncumbents_5 15 rfl rfl)
abbrev cX8_loudest : ByteArray := prog_18_method_11_code
def yX8_loudest : MethodName := ⟨RX8, "loudest", "(LSpectrumAccess$Point;ILSpectrumAccess$Some;)I"⟩
def dkwX8_loudest_3 : List UInt8 := [21, 6, 54, 4, 21, 7, 54, 5, 132, 6, 1, 167, 255, 186, 21, 4, 172]
abbrev dktX8_loudest_3 : List UInt8 := dkwX8_loudest_3 ++ []
def dkwX8_loudest_2 : List UInt8 := [180, 0, 149, 28, 182, 0, 140, 167, 0, 4, 3, 54, 7, 21, 7, 21, 5, 162, 0, 6, 167, 0, 11]
abbrev dktX8_loudest_2 : List UInt8 := dkwX8_loudest_2 ++ dktX8_loudest_3
def dkwX8_loudest_1 : List UInt8 := [162, 0, 59, 45, 21, 6, 185, 0, 134, 2, 0, 153, 0, 21, 42, 21, 6, 43, 180, 0, 144, 43]
abbrev dktX8_loudest_1 : List UInt8 := dkwX8_loudest_1 ++ dktX8_loudest_2
def dkwX8_loudest_0 : List UInt8 := [2, 54, 4, 4, 54, 5, 3, 54, 6, 21, 6, 42, 180, 0, 53, 180, 0, 102, 185, 0, 94, 1, 0]
abbrev dktX8_loudest_0 : List UInt8 := dkwX8_loudest_0 ++ dktX8_loudest_1
theorem dksX8_loudest_0 : cX8_loudest.data.toList.drop 0 = dktX8_loudest_0 := by decide +kernel
theorem dksX8_loudest_1 : cX8_loudest.data.toList.drop 23 = dktX8_loudest_1 := dk_seg dksX8_loudest_0 23 rfl rfl
theorem dksX8_loudest_2 : cX8_loudest.data.toList.drop 45 = dktX8_loudest_2 := dk_seg dksX8_loudest_1 22 rfl rfl
theorem dksX8_loudest_3 : cX8_loudest.data.toList.drop 68 = dktX8_loudest_3 := dk_seg dksX8_loudest_2 23 rfl rfl
theorem dX8_loudest_0 : decode cX8_loudest 0 = .ok (.iconst (-1), 1) := dk_2 (dk_at dksX8_loudest_0 0 rfl rfl)
theorem dX8_loudest_1 : decode cX8_loudest 1 = .ok (.istore 4, 2) := dk_54 4 (dk_at dksX8_loudest_0 1 rfl rfl)
theorem dX8_loudest_3 : decode cX8_loudest 3 = .ok (.iconst 1, 1) := dk_4 (dk_at dksX8_loudest_0 3 rfl rfl)
theorem dX8_loudest_4 : decode cX8_loudest 4 = .ok (.istore 5, 2) := dk_54 5 (dk_at dksX8_loudest_0 4 rfl rfl)
theorem dX8_loudest_6 : decode cX8_loudest 6 = .ok (.iconst 0, 1) := dk_3 (dk_at dksX8_loudest_0 6 rfl rfl)
theorem dX8_loudest_7 : decode cX8_loudest 7 = .ok (.istore 6, 2) := dk_54 6 (dk_at dksX8_loudest_0 7 rfl rfl)
theorem dX8_loudest_9 : decode cX8_loudest 9 = .ok (.iload 6, 2) := dk_21 6 (dk_at dksX8_loudest_0 9 rfl rfl)
theorem dX8_loudest_11 : decode cX8_loudest 11 = .ok (.aload_n 0, 1) := dk_42 (dk_at dksX8_loudest_0 11 rfl rfl)
theorem dX8_loudest_12 : decode cX8_loudest 12 = .ok (.getfield 53, 3) := dk_180 0 53 (dk_at dksX8_loudest_0 12 rfl rfl)
theorem dX8_loudest_15 : decode cX8_loudest 15 = .ok (.getfield 102, 3) := dk_180 0 102 (dk_at dksX8_loudest_0 15 rfl rfl)
theorem dX8_loudest_18 : decode cX8_loudest 18 = .ok (.invokeinterface 94 1, 5) := by decide +kernel
theorem dX8_loudest_23 : decode cX8_loudest 23 = .ok (.if_icmp .ge 59, 3) := dk_162 0 59 (dk_at dksX8_loudest_1 0 rfl rfl)
theorem dX8_loudest_26 : decode cX8_loudest 26 = .ok (.aload_n 3, 1) := dk_45 (dk_at dksX8_loudest_1 3 rfl rfl)
theorem dX8_loudest_27 : decode cX8_loudest 27 = .ok (.iload 6, 2) := dk_21 6 (dk_at dksX8_loudest_1 4 rfl rfl)
theorem dX8_loudest_29 : decode cX8_loudest 29 = .ok (.invokeinterface 134 2, 5) := by decide +kernel
theorem dX8_loudest_34 : decode cX8_loudest 34 = .ok (.ifCond .eq 21, 3) := dk_153 0 21 (dk_at dksX8_loudest_1 11 rfl rfl)
theorem dX8_loudest_37 : decode cX8_loudest 37 = .ok (.aload_n 0, 1) := dk_42 (dk_at dksX8_loudest_1 14 rfl rfl)
theorem dX8_loudest_38 : decode cX8_loudest 38 = .ok (.iload 6, 2) := dk_21 6 (dk_at dksX8_loudest_1 15 rfl rfl)
theorem dX8_loudest_40 : decode cX8_loudest 40 = .ok (.aload_n 1, 1) := dk_43 (dk_at dksX8_loudest_1 17 rfl rfl)
theorem dX8_loudest_41 : decode cX8_loudest 41 = .ok (.getfield 144, 3) := dk_180 0 144 (dk_at dksX8_loudest_1 18 rfl rfl)
theorem dX8_loudest_44 : decode cX8_loudest 44 = .ok (.aload_n 1, 1) := dk_43 (dk_at dksX8_loudest_1 21 rfl rfl)
theorem dX8_loudest_45 : decode cX8_loudest 45 = .ok (.getfield 149, 3) := dk_180 0 149 (dk_at dksX8_loudest_2 0 rfl rfl)
theorem dX8_loudest_48 : decode cX8_loudest 48 = .ok (.iload_n 2, 1) := dk_28 (dk_at dksX8_loudest_2 3 rfl rfl)
theorem dX8_loudest_49 : decode cX8_loudest 49 = .ok (.invokevirtual 140, 3) := dk_182 0 140 (dk_at dksX8_loudest_2 4 rfl rfl)
theorem dX8_loudest_52 : decode cX8_loudest 52 = .ok (.goto 4, 3) := dk_167 0 4 (dk_at dksX8_loudest_2 7 rfl rfl)
theorem dX8_loudest_55 : decode cX8_loudest 55 = .ok (.iconst 0, 1) := dk_3 (dk_at dksX8_loudest_2 10 rfl rfl)
theorem dX8_loudest_56 : decode cX8_loudest 56 = .ok (.istore 7, 2) := dk_54 7 (dk_at dksX8_loudest_2 11 rfl rfl)
theorem dX8_loudest_58 : decode cX8_loudest 58 = .ok (.iload 7, 2) := dk_21 7 (dk_at dksX8_loudest_2 13 rfl rfl)
theorem dX8_loudest_60 : decode cX8_loudest 60 = .ok (.iload 5, 2) := dk_21 5 (dk_at dksX8_loudest_2 15 rfl rfl)
theorem dX8_loudest_62 : decode cX8_loudest 62 = .ok (.if_icmp .ge 6, 3) := dk_162 0 6 (dk_at dksX8_loudest_2 17 rfl rfl)
theorem dX8_loudest_65 : decode cX8_loudest 65 = .ok (.goto 11, 3) := dk_167 0 11 (dk_at dksX8_loudest_2 20 rfl rfl)
theorem dX8_loudest_68 : decode cX8_loudest 68 = .ok (.iload 6, 2) := dk_21 6 (dk_at dksX8_loudest_3 0 rfl rfl)
theorem dX8_loudest_70 : decode cX8_loudest 70 = .ok (.istore 4, 2) := dk_54 4 (dk_at dksX8_loudest_3 2 rfl rfl)
theorem dX8_loudest_72 : decode cX8_loudest 72 = .ok (.iload 7, 2) := dk_21 7 (dk_at dksX8_loudest_3 4 rfl rfl)
theorem dX8_loudest_74 : decode cX8_loudest 74 = .ok (.istore 5, 2) := dk_54 5 (dk_at dksX8_loudest_3 6 rfl rfl)
theorem dX8_loudest_76 : decode cX8_loudest 76 = .ok (.iinc 6 1, 3) := dk_132 6 1 (dk_at dksX8_loudest_3 8 rfl rfl)
theorem dX8_loudest_79 : decode cX8_loudest 79 = .ok (.goto (-70), 3) := dk_167 255 186 (dk_at dksX8_loudest_3 11 rfl rfl)
theorem dX8_loudest_82 : decode cX8_loudest 82 = .ok (.iload 4, 2) := dk_21 4 (dk_at dksX8_loudest_3 14 rfl rfl)
theorem dX8_loudest_84 : decode cX8_loudest 84 = .ok (.ireturn, 1) := dk_172 (dk_at dksX8_loudest_3 16 rfl rfl)
abbrev cX8_protectLicensed : ByteArray := prog_18_method_30_code
def yX8_protectLicensed : MethodName := ⟨RX8, "protectLicensed", "()V"⟩
def dkwX8_protectLicensed_10 : List UInt8 := [182, 1, 87, 167, 255, 206, 132, 1, 1, 167, 255, 24, 177]
abbrev dktX8_protectLicensed_10 : List UInt8 := dkwX8_protectLicensed_10 ++ []
def dkwX8_protectLicensed_9 : List UInt8 := [164, 0, 28, 42, 42, 44, 42, 180, 0, 27, 27, 46, 42, 180, 0, 53, 180, 0, 211, 182, 1, 84]
abbrev dktX8_protectLicensed_9 : List UInt8 := dkwX8_protectLicensed_9 ++ dktX8_protectLicensed_10
def dkwX8_protectLicensed_8 : List UInt8 := [180, 0, 27, 27, 46, 42, 180, 0, 53, 180, 0, 211, 182, 0, 181, 42, 180, 0, 53, 180, 0, 208]
abbrev dktX8_protectLicensed_8 : List UInt8 := dkwX8_protectLicensed_8 ++ dktX8_protectLicensed_9
def dkwX8_protectLicensed_7 : List UInt8 := [180, 0, 149, 182, 0, 239, 153, 0, 9, 42, 21, 4, 182, 1, 87, 132, 4, 1, 167, 255, 159, 42, 44, 42]
abbrev dktX8_protectLicensed_7 : List UInt8 := dkwX8_protectLicensed_7 ++ dktX8_protectLicensed_8
def dkwX8_protectLicensed_6 : List UInt8 := [42, 180, 0, 27, 21, 4, 46, 42, 180, 0, 27, 27, 46, 160, 0, 26, 45, 25, 5, 180, 0, 144, 25, 5]
abbrev dktX8_protectLicensed_6 : List UInt8 := dkwX8_protectLicensed_6 ++ dktX8_protectLicensed_7
def dkwX8_protectLicensed_5 : List UInt8 := [192, 0, 108, 58, 5, 25, 5, 182, 0, 228, 154, 0, 53, 42, 180, 0, 24, 21, 4, 46, 5, 160, 0, 42]
abbrev dktX8_protectLicensed_5 : List UInt8 := dkwX8_protectLicensed_5 ++ dktX8_protectLicensed_6
def dkwX8_protectLicensed_4 : List UInt8 := [185, 0, 94, 1, 0, 162, 0, 86, 42, 180, 0, 53, 180, 0, 102, 21, 4, 185, 0, 113, 2, 0]
abbrev dktX8_protectLicensed_4 : List UInt8 := dkwX8_protectLicensed_4 ++ dktX8_protectLicensed_5
def dkwX8_protectLicensed_3 : List UInt8 := [185, 0, 113, 2, 0, 192, 0, 237, 78, 3, 54, 4, 21, 4, 42, 180, 0, 53, 180, 0, 102]
abbrev dktX8_protectLicensed_3 : List UInt8 := dkwX8_protectLicensed_3 ++ dktX8_protectLicensed_4
def dkwX8_protectLicensed_2 : List UInt8 := [27, 46, 5, 159, 0, 6, 167, 0, 179, 42, 180, 0, 53, 180, 0, 231, 44, 180, 0, 234]
abbrev dktX8_protectLicensed_2 : List UInt8 := dkwX8_protectLicensed_2 ++ dktX8_protectLicensed_3
def dkwX8_protectLicensed_1 : List UInt8 := [180, 0, 102, 27, 185, 0, 113, 2, 0, 192, 0, 108, 77, 44, 182, 0, 228, 153, 0, 192, 42, 180, 0, 24]
abbrev dktX8_protectLicensed_1 : List UInt8 := dkwX8_protectLicensed_1 ++ dktX8_protectLicensed_2
def dkwX8_protectLicensed_0 : List UInt8 := [3, 60, 27, 42, 180, 0, 53, 180, 0, 102, 185, 0, 94, 1, 0, 162, 0, 222, 42, 180, 0, 53]
abbrev dktX8_protectLicensed_0 : List UInt8 := dkwX8_protectLicensed_0 ++ dktX8_protectLicensed_1
theorem dksX8_protectLicensed_0 : cX8_protectLicensed.data.toList.drop 0 = dktX8_protectLicensed_0 := by decide +kernel
theorem dksX8_protectLicensed_1 : cX8_protectLicensed.data.toList.drop 22 = dktX8_protectLicensed_1 := dk_seg dksX8_protectLicensed_0 22 rfl rfl
theorem dksX8_protectLicensed_2 : cX8_protectLicensed.data.toList.drop 46 = dktX8_protectLicensed_2 := dk_seg dksX8_protectLicensed_1 24 rfl rfl
theorem dksX8_protectLicensed_3 : cX8_protectLicensed.data.toList.drop 66 = dktX8_protectLicensed_3 := dk_seg dksX8_protectLicensed_2 20 rfl rfl
theorem dksX8_protectLicensed_4 : cX8_protectLicensed.data.toList.drop 87 = dktX8_protectLicensed_4 := dk_seg dksX8_protectLicensed_3 21 rfl rfl
theorem dksX8_protectLicensed_5 : cX8_protectLicensed.data.toList.drop 109 = dktX8_protectLicensed_5 := dk_seg dksX8_protectLicensed_4 22 rfl rfl
theorem dksX8_protectLicensed_6 : cX8_protectLicensed.data.toList.drop 133 = dktX8_protectLicensed_6 := dk_seg dksX8_protectLicensed_5 24 rfl rfl
theorem dksX8_protectLicensed_7 : cX8_protectLicensed.data.toList.drop 157 = dktX8_protectLicensed_7 := dk_seg dksX8_protectLicensed_6 24 rfl rfl
theorem dksX8_protectLicensed_8 : cX8_protectLicensed.data.toList.drop 181 = dktX8_protectLicensed_8 := dk_seg dksX8_protectLicensed_7 24 rfl rfl
theorem dksX8_protectLicensed_9 : cX8_protectLicensed.data.toList.drop 203 = dktX8_protectLicensed_9 := dk_seg dksX8_protectLicensed_8 22 rfl rfl
theorem dksX8_protectLicensed_10 : cX8_protectLicensed.data.toList.drop 225 = dktX8_protectLicensed_10 := dk_seg dksX8_protectLicensed_9 22 rfl rfl
theorem dX8_protectLicensed_0 : decode cX8_protectLicensed 0 = .ok (.iconst 0, 1) := dk_3 (dk_at dksX8_protectLicensed_0 0 rfl rfl)
theorem dX8_protectLicensed_1 : decode cX8_protectLicensed 1 = .ok (.istore_n 1, 1) := dk_60 (dk_at dksX8_protectLicensed_0 1 rfl rfl)
theorem dX8_protectLicensed_2 : decode cX8_protectLicensed 2 = .ok (.iload_n 1, 1) := dk_27 (dk_at dksX8_protectLicensed_0 2 rfl rfl)
theorem dX8_protectLicensed_3 : decode cX8_protectLicensed 3 = .ok (.aload_n 0, 1) := dk_42 (dk_at dksX8_protectLicensed_0 3 rfl rfl)
theorem dX8_protectLicensed_4 : decode cX8_protectLicensed 4 = .ok (.getfield 53, 3) := dk_180 0 53 (dk_at dksX8_protectLicensed_0 4 rfl rfl)
theorem dX8_protectLicensed_7 : decode cX8_protectLicensed 7 = .ok (.getfield 102, 3) := dk_180 0 102 (dk_at dksX8_protectLicensed_0 7 rfl rfl)
theorem dX8_protectLicensed_10 : decode cX8_protectLicensed 10 = .ok (.invokeinterface 94 1, 5) := by decide +kernel
theorem dX8_protectLicensed_15 : decode cX8_protectLicensed 15 = .ok (.if_icmp .ge 222, 3) := dk_162 0 222 (dk_at dksX8_protectLicensed_0 15 rfl rfl)
theorem dX8_protectLicensed_18 : decode cX8_protectLicensed 18 = .ok (.aload_n 0, 1) := dk_42 (dk_at dksX8_protectLicensed_0 18 rfl rfl)
theorem dX8_protectLicensed_19 : decode cX8_protectLicensed 19 = .ok (.getfield 53, 3) := dk_180 0 53 (dk_at dksX8_protectLicensed_0 19 rfl rfl)
theorem dX8_protectLicensed_22 : decode cX8_protectLicensed 22 = .ok (.getfield 102, 3) := dk_180 0 102 (dk_at dksX8_protectLicensed_1 0 rfl rfl)
theorem dX8_protectLicensed_25 : decode cX8_protectLicensed 25 = .ok (.iload_n 1, 1) := dk_27 (dk_at dksX8_protectLicensed_1 3 rfl rfl)
theorem dX8_protectLicensed_26 : decode cX8_protectLicensed 26 = .ok (.invokeinterface 113 2, 5) := by decide +kernel
theorem dX8_protectLicensed_31 : decode cX8_protectLicensed 31 = .ok (.checkcast 108, 3) := dk_192 0 108 (dk_at dksX8_protectLicensed_1 9 rfl rfl)
theorem dX8_protectLicensed_34 : decode cX8_protectLicensed 34 = .ok (.astore_n 2, 1) := dk_77 (dk_at dksX8_protectLicensed_1 12 rfl rfl)
theorem dX8_protectLicensed_35 : decode cX8_protectLicensed 35 = .ok (.aload_n 2, 1) := dk_44 (dk_at dksX8_protectLicensed_1 13 rfl rfl)
theorem dX8_protectLicensed_36 : decode cX8_protectLicensed 36 = .ok (.invokevirtual 228, 3) := dk_182 0 228 (dk_at dksX8_protectLicensed_1 14 rfl rfl)
theorem dX8_protectLicensed_39 : decode cX8_protectLicensed 39 = .ok (.ifCond .eq 192, 3) := dk_153 0 192 (dk_at dksX8_protectLicensed_1 17 rfl rfl)
theorem dX8_protectLicensed_42 : decode cX8_protectLicensed 42 = .ok (.aload_n 0, 1) := dk_42 (dk_at dksX8_protectLicensed_1 20 rfl rfl)
theorem dX8_protectLicensed_43 : decode cX8_protectLicensed 43 = .ok (.getfield 24, 3) := dk_180 0 24 (dk_at dksX8_protectLicensed_1 21 rfl rfl)
theorem dX8_protectLicensed_46 : decode cX8_protectLicensed 46 = .ok (.iload_n 1, 1) := dk_27 (dk_at dksX8_protectLicensed_2 0 rfl rfl)
theorem dX8_protectLicensed_47 : decode cX8_protectLicensed 47 = .ok (.iaload, 1) := dk_46 (dk_at dksX8_protectLicensed_2 1 rfl rfl)
theorem dX8_protectLicensed_48 : decode cX8_protectLicensed 48 = .ok (.iconst 2, 1) := dk_5 (dk_at dksX8_protectLicensed_2 2 rfl rfl)
theorem dX8_protectLicensed_49 : decode cX8_protectLicensed 49 = .ok (.if_icmp .eq 6, 3) := dk_159 0 6 (dk_at dksX8_protectLicensed_2 3 rfl rfl)
theorem dX8_protectLicensed_52 : decode cX8_protectLicensed 52 = .ok (.goto 179, 3) := dk_167 0 179 (dk_at dksX8_protectLicensed_2 6 rfl rfl)
theorem dX8_protectLicensed_55 : decode cX8_protectLicensed 55 = .ok (.aload_n 0, 1) := dk_42 (dk_at dksX8_protectLicensed_2 9 rfl rfl)
theorem dX8_protectLicensed_56 : decode cX8_protectLicensed 56 = .ok (.getfield 53, 3) := dk_180 0 53 (dk_at dksX8_protectLicensed_2 10 rfl rfl)
theorem dX8_protectLicensed_59 : decode cX8_protectLicensed 59 = .ok (.getfield 231, 3) := dk_180 0 231 (dk_at dksX8_protectLicensed_2 13 rfl rfl)
theorem dX8_protectLicensed_62 : decode cX8_protectLicensed 62 = .ok (.aload_n 2, 1) := dk_44 (dk_at dksX8_protectLicensed_2 16 rfl rfl)
theorem dX8_protectLicensed_63 : decode cX8_protectLicensed 63 = .ok (.getfield 234, 3) := dk_180 0 234 (dk_at dksX8_protectLicensed_2 17 rfl rfl)
theorem dX8_protectLicensed_66 : decode cX8_protectLicensed 66 = .ok (.invokeinterface 113 2, 5) := by decide +kernel
theorem dX8_protectLicensed_71 : decode cX8_protectLicensed 71 = .ok (.checkcast 237, 3) := dk_192 0 237 (dk_at dksX8_protectLicensed_3 5 rfl rfl)
theorem dX8_protectLicensed_74 : decode cX8_protectLicensed 74 = .ok (.astore_n 3, 1) := dk_78 (dk_at dksX8_protectLicensed_3 8 rfl rfl)
theorem dX8_protectLicensed_75 : decode cX8_protectLicensed 75 = .ok (.iconst 0, 1) := dk_3 (dk_at dksX8_protectLicensed_3 9 rfl rfl)
theorem dX8_protectLicensed_76 : decode cX8_protectLicensed 76 = .ok (.istore 4, 2) := dk_54 4 (dk_at dksX8_protectLicensed_3 10 rfl rfl)
theorem dX8_protectLicensed_78 : decode cX8_protectLicensed 78 = .ok (.iload 4, 2) := dk_21 4 (dk_at dksX8_protectLicensed_3 12 rfl rfl)
theorem dX8_protectLicensed_80 : decode cX8_protectLicensed 80 = .ok (.aload_n 0, 1) := dk_42 (dk_at dksX8_protectLicensed_3 14 rfl rfl)
theorem dX8_protectLicensed_81 : decode cX8_protectLicensed 81 = .ok (.getfield 53, 3) := dk_180 0 53 (dk_at dksX8_protectLicensed_3 15 rfl rfl)
theorem dX8_protectLicensed_84 : decode cX8_protectLicensed 84 = .ok (.getfield 102, 3) := dk_180 0 102 (dk_at dksX8_protectLicensed_3 18 rfl rfl)
theorem dX8_protectLicensed_87 : decode cX8_protectLicensed 87 = .ok (.invokeinterface 94 1, 5) := by decide +kernel
theorem dX8_protectLicensed_92 : decode cX8_protectLicensed 92 = .ok (.if_icmp .ge 86, 3) := dk_162 0 86 (dk_at dksX8_protectLicensed_4 5 rfl rfl)
theorem dX8_protectLicensed_95 : decode cX8_protectLicensed 95 = .ok (.aload_n 0, 1) := dk_42 (dk_at dksX8_protectLicensed_4 8 rfl rfl)
theorem dX8_protectLicensed_96 : decode cX8_protectLicensed 96 = .ok (.getfield 53, 3) := dk_180 0 53 (dk_at dksX8_protectLicensed_4 9 rfl rfl)
theorem dX8_protectLicensed_99 : decode cX8_protectLicensed 99 = .ok (.getfield 102, 3) := dk_180 0 102 (dk_at dksX8_protectLicensed_4 12 rfl rfl)
theorem dX8_protectLicensed_102 : decode cX8_protectLicensed 102 = .ok (.iload 4, 2) := dk_21 4 (dk_at dksX8_protectLicensed_4 15 rfl rfl)
theorem dX8_protectLicensed_104 : decode cX8_protectLicensed 104 = .ok (.invokeinterface 113 2, 5) := by decide +kernel
theorem dX8_protectLicensed_109 : decode cX8_protectLicensed 109 = .ok (.checkcast 108, 3) := dk_192 0 108 (dk_at dksX8_protectLicensed_5 0 rfl rfl)
theorem dX8_protectLicensed_112 : decode cX8_protectLicensed 112 = .ok (.astore 5, 2) := dk_58 5 (dk_at dksX8_protectLicensed_5 3 rfl rfl)
theorem dX8_protectLicensed_114 : decode cX8_protectLicensed 114 = .ok (.aload 5, 2) := dk_25 5 (dk_at dksX8_protectLicensed_5 5 rfl rfl)
theorem dX8_protectLicensed_116 : decode cX8_protectLicensed 116 = .ok (.invokevirtual 228, 3) := dk_182 0 228 (dk_at dksX8_protectLicensed_5 7 rfl rfl)
theorem dX8_protectLicensed_119 : decode cX8_protectLicensed 119 = .ok (.ifCond .ne 53, 3) := dk_154 0 53 (dk_at dksX8_protectLicensed_5 10 rfl rfl)
theorem dX8_protectLicensed_122 : decode cX8_protectLicensed 122 = .ok (.aload_n 0, 1) := dk_42 (dk_at dksX8_protectLicensed_5 13 rfl rfl)
theorem dX8_protectLicensed_123 : decode cX8_protectLicensed 123 = .ok (.getfield 24, 3) := dk_180 0 24 (dk_at dksX8_protectLicensed_5 14 rfl rfl)
theorem dX8_protectLicensed_126 : decode cX8_protectLicensed 126 = .ok (.iload 4, 2) := dk_21 4 (dk_at dksX8_protectLicensed_5 17 rfl rfl)
theorem dX8_protectLicensed_128 : decode cX8_protectLicensed 128 = .ok (.iaload, 1) := dk_46 (dk_at dksX8_protectLicensed_5 19 rfl rfl)
theorem dX8_protectLicensed_129 : decode cX8_protectLicensed 129 = .ok (.iconst 2, 1) := dk_5 (dk_at dksX8_protectLicensed_5 20 rfl rfl)
theorem dX8_protectLicensed_130 : decode cX8_protectLicensed 130 = .ok (.if_icmp .ne 42, 3) := dk_160 0 42 (dk_at dksX8_protectLicensed_5 21 rfl rfl)
theorem dX8_protectLicensed_133 : decode cX8_protectLicensed 133 = .ok (.aload_n 0, 1) := dk_42 (dk_at dksX8_protectLicensed_6 0 rfl rfl)
theorem dX8_protectLicensed_134 : decode cX8_protectLicensed 134 = .ok (.getfield 27, 3) := dk_180 0 27 (dk_at dksX8_protectLicensed_6 1 rfl rfl)
theorem dX8_protectLicensed_137 : decode cX8_protectLicensed 137 = .ok (.iload 4, 2) := dk_21 4 (dk_at dksX8_protectLicensed_6 4 rfl rfl)
theorem dX8_protectLicensed_139 : decode cX8_protectLicensed 139 = .ok (.iaload, 1) := dk_46 (dk_at dksX8_protectLicensed_6 6 rfl rfl)
theorem dX8_protectLicensed_140 : decode cX8_protectLicensed 140 = .ok (.aload_n 0, 1) := dk_42 (dk_at dksX8_protectLicensed_6 7 rfl rfl)
theorem dX8_protectLicensed_141 : decode cX8_protectLicensed 141 = .ok (.getfield 27, 3) := dk_180 0 27 (dk_at dksX8_protectLicensed_6 8 rfl rfl)
theorem dX8_protectLicensed_144 : decode cX8_protectLicensed 144 = .ok (.iload_n 1, 1) := dk_27 (dk_at dksX8_protectLicensed_6 11 rfl rfl)
theorem dX8_protectLicensed_145 : decode cX8_protectLicensed 145 = .ok (.iaload, 1) := dk_46 (dk_at dksX8_protectLicensed_6 12 rfl rfl)
theorem dX8_protectLicensed_146 : decode cX8_protectLicensed 146 = .ok (.if_icmp .ne 26, 3) := dk_160 0 26 (dk_at dksX8_protectLicensed_6 13 rfl rfl)
theorem dX8_protectLicensed_149 : decode cX8_protectLicensed 149 = .ok (.aload_n 3, 1) := dk_45 (dk_at dksX8_protectLicensed_6 16 rfl rfl)
theorem dX8_protectLicensed_150 : decode cX8_protectLicensed 150 = .ok (.aload 5, 2) := dk_25 5 (dk_at dksX8_protectLicensed_6 17 rfl rfl)
theorem dX8_protectLicensed_152 : decode cX8_protectLicensed 152 = .ok (.getfield 144, 3) := dk_180 0 144 (dk_at dksX8_protectLicensed_6 19 rfl rfl)
theorem dX8_protectLicensed_155 : decode cX8_protectLicensed 155 = .ok (.aload 5, 2) := dk_25 5 (dk_at dksX8_protectLicensed_6 22 rfl rfl)
theorem dX8_protectLicensed_157 : decode cX8_protectLicensed 157 = .ok (.getfield 149, 3) := dk_180 0 149 (dk_at dksX8_protectLicensed_7 0 rfl rfl)
theorem dX8_protectLicensed_160 : decode cX8_protectLicensed 160 = .ok (.invokevirtual 239, 3) := dk_182 0 239 (dk_at dksX8_protectLicensed_7 3 rfl rfl)
theorem dX8_protectLicensed_163 : decode cX8_protectLicensed 163 = .ok (.ifCond .eq 9, 3) := dk_153 0 9 (dk_at dksX8_protectLicensed_7 6 rfl rfl)
theorem dX8_protectLicensed_166 : decode cX8_protectLicensed 166 = .ok (.aload_n 0, 1) := dk_42 (dk_at dksX8_protectLicensed_7 9 rfl rfl)
theorem dX8_protectLicensed_167 : decode cX8_protectLicensed 167 = .ok (.iload 4, 2) := dk_21 4 (dk_at dksX8_protectLicensed_7 10 rfl rfl)
theorem dX8_protectLicensed_169 : decode cX8_protectLicensed 169 = .ok (.invokevirtual 343, 3) := dk_182 1 87 (dk_at dksX8_protectLicensed_7 12 rfl rfl)
theorem dX8_protectLicensed_172 : decode cX8_protectLicensed 172 = .ok (.iinc 4 1, 3) := dk_132 4 1 (dk_at dksX8_protectLicensed_7 15 rfl rfl)
theorem dX8_protectLicensed_175 : decode cX8_protectLicensed 175 = .ok (.goto (-97), 3) := dk_167 255 159 (dk_at dksX8_protectLicensed_7 18 rfl rfl)
theorem dX8_protectLicensed_178 : decode cX8_protectLicensed 178 = .ok (.aload_n 0, 1) := dk_42 (dk_at dksX8_protectLicensed_7 21 rfl rfl)
theorem dX8_protectLicensed_179 : decode cX8_protectLicensed 179 = .ok (.aload_n 2, 1) := dk_44 (dk_at dksX8_protectLicensed_7 22 rfl rfl)
theorem dX8_protectLicensed_180 : decode cX8_protectLicensed 180 = .ok (.aload_n 0, 1) := dk_42 (dk_at dksX8_protectLicensed_7 23 rfl rfl)
theorem dX8_protectLicensed_181 : decode cX8_protectLicensed 181 = .ok (.getfield 27, 3) := dk_180 0 27 (dk_at dksX8_protectLicensed_8 0 rfl rfl)
theorem dX8_protectLicensed_184 : decode cX8_protectLicensed 184 = .ok (.iload_n 1, 1) := dk_27 (dk_at dksX8_protectLicensed_8 3 rfl rfl)
theorem dX8_protectLicensed_185 : decode cX8_protectLicensed 185 = .ok (.iaload, 1) := dk_46 (dk_at dksX8_protectLicensed_8 4 rfl rfl)
theorem dX8_protectLicensed_186 : decode cX8_protectLicensed 186 = .ok (.aload_n 0, 1) := dk_42 (dk_at dksX8_protectLicensed_8 5 rfl rfl)
theorem dX8_protectLicensed_187 : decode cX8_protectLicensed 187 = .ok (.getfield 53, 3) := dk_180 0 53 (dk_at dksX8_protectLicensed_8 6 rfl rfl)
theorem dX8_protectLicensed_190 : decode cX8_protectLicensed 190 = .ok (.getfield 211, 3) := dk_180 0 211 (dk_at dksX8_protectLicensed_8 9 rfl rfl)
theorem dX8_protectLicensed_193 : decode cX8_protectLicensed 193 = .ok (.invokevirtual 181, 3) := dk_182 0 181 (dk_at dksX8_protectLicensed_8 12 rfl rfl)
theorem dX8_protectLicensed_196 : decode cX8_protectLicensed 196 = .ok (.aload_n 0, 1) := dk_42 (dk_at dksX8_protectLicensed_8 15 rfl rfl)
theorem dX8_protectLicensed_197 : decode cX8_protectLicensed 197 = .ok (.getfield 53, 3) := dk_180 0 53 (dk_at dksX8_protectLicensed_8 16 rfl rfl)
theorem dX8_protectLicensed_200 : decode cX8_protectLicensed 200 = .ok (.getfield 208, 3) := dk_180 0 208 (dk_at dksX8_protectLicensed_8 19 rfl rfl)
theorem dX8_protectLicensed_203 : decode cX8_protectLicensed 203 = .ok (.if_icmp .le 28, 3) := dk_164 0 28 (dk_at dksX8_protectLicensed_9 0 rfl rfl)
theorem dX8_protectLicensed_206 : decode cX8_protectLicensed 206 = .ok (.aload_n 0, 1) := dk_42 (dk_at dksX8_protectLicensed_9 3 rfl rfl)
theorem dX8_protectLicensed_207 : decode cX8_protectLicensed 207 = .ok (.aload_n 0, 1) := dk_42 (dk_at dksX8_protectLicensed_9 4 rfl rfl)
theorem dX8_protectLicensed_208 : decode cX8_protectLicensed 208 = .ok (.aload_n 2, 1) := dk_44 (dk_at dksX8_protectLicensed_9 5 rfl rfl)
theorem dX8_protectLicensed_209 : decode cX8_protectLicensed 209 = .ok (.aload_n 0, 1) := dk_42 (dk_at dksX8_protectLicensed_9 6 rfl rfl)
theorem dX8_protectLicensed_210 : decode cX8_protectLicensed 210 = .ok (.getfield 27, 3) := dk_180 0 27 (dk_at dksX8_protectLicensed_9 7 rfl rfl)
theorem dX8_protectLicensed_213 : decode cX8_protectLicensed 213 = .ok (.iload_n 1, 1) := dk_27 (dk_at dksX8_protectLicensed_9 10 rfl rfl)
theorem dX8_protectLicensed_214 : decode cX8_protectLicensed 214 = .ok (.iaload, 1) := dk_46 (dk_at dksX8_protectLicensed_9 11 rfl rfl)
theorem dX8_protectLicensed_215 : decode cX8_protectLicensed 215 = .ok (.aload_n 0, 1) := dk_42 (dk_at dksX8_protectLicensed_9 12 rfl rfl)
theorem dX8_protectLicensed_216 : decode cX8_protectLicensed 216 = .ok (.getfield 53, 3) := dk_180 0 53 (dk_at dksX8_protectLicensed_9 13 rfl rfl)
theorem dX8_protectLicensed_219 : decode cX8_protectLicensed 219 = .ok (.getfield 211, 3) := dk_180 0 211 (dk_at dksX8_protectLicensed_9 16 rfl rfl)
theorem dX8_protectLicensed_222 : decode cX8_protectLicensed 222 = .ok (.invokevirtual 340, 3) := dk_182 1 84 (dk_at dksX8_protectLicensed_9 19 rfl rfl)
theorem dX8_protectLicensed_225 : decode cX8_protectLicensed 225 = .ok (.invokevirtual 343, 3) := dk_182 1 87 (dk_at dksX8_protectLicensed_10 0 rfl rfl)
theorem dX8_protectLicensed_228 : decode cX8_protectLicensed 228 = .ok (.goto (-50), 3) := dk_167 255 206 (dk_at dksX8_protectLicensed_10 3 rfl rfl)
theorem dX8_protectLicensed_231 : decode cX8_protectLicensed 231 = .ok (.iinc 1 1, 3) := dk_132 1 1 (dk_at dksX8_protectLicensed_10 6 rfl rfl)
theorem dX8_protectLicensed_234 : decode cX8_protectLicensed 234 = .ok (.goto (-232), 3) := dk_167 255 24 (dk_at dksX8_protectLicensed_10 9 rfl rfl)
theorem dX8_protectLicensed_237 : decode cX8_protectLicensed 237 = .ok (.return_, 1) := dk_177 (dk_at dksX8_protectLicensed_10 12 rfl rfl)
abbrev cX8_grant : ByteArray := prog_18_method_33_code
def yX8_grant : MethodName := ⟨RX8, "grant", "(I)V"⟩
def dkwX8_grant_2 : List UInt8 := [182, 0, 205, 153, 0, 7, 42, 182, 1, 101, 177]
abbrev dktX8_grant_2 : List UInt8 := dkwX8_grant_2 ++ []
def dkwX8_grant_1 : List UInt8 := [79, 42, 180, 0, 30, 27, 42, 180, 1, 34, 79, 42, 3, 27, 182, 1, 77, 42, 180, 0, 53, 27]
abbrev dktX8_grant_1 : List UInt8 := dkwX8_grant_1 ++ dktX8_grant_2
def dkwX8_grant_0 : List UInt8 := [42, 27, 182, 1, 31, 61, 28, 2, 160, 0, 4, 177, 42, 27, 5, 182, 1, 81, 42, 180, 0, 27, 27, 28]
abbrev dktX8_grant_0 : List UInt8 := dkwX8_grant_0 ++ dktX8_grant_1
theorem dksX8_grant_0 : cX8_grant.data.toList.drop 0 = dktX8_grant_0 := by decide +kernel
theorem dksX8_grant_1 : cX8_grant.data.toList.drop 24 = dktX8_grant_1 := dk_seg dksX8_grant_0 24 rfl rfl
theorem dksX8_grant_2 : cX8_grant.data.toList.drop 46 = dktX8_grant_2 := dk_seg dksX8_grant_1 22 rfl rfl
theorem dX8_grant_0 : decode cX8_grant 0 = .ok (.aload_n 0, 1) := dk_42 (dk_at dksX8_grant_0 0 rfl rfl)
theorem dX8_grant_1 : decode cX8_grant 1 = .ok (.iload_n 1, 1) := dk_27 (dk_at dksX8_grant_0 1 rfl rfl)
theorem dX8_grant_2 : decode cX8_grant 2 = .ok (.invokevirtual 287, 3) := dk_182 1 31 (dk_at dksX8_grant_0 2 rfl rfl)
theorem dX8_grant_5 : decode cX8_grant 5 = .ok (.istore_n 2, 1) := dk_61 (dk_at dksX8_grant_0 5 rfl rfl)
theorem dX8_grant_6 : decode cX8_grant 6 = .ok (.iload_n 2, 1) := dk_28 (dk_at dksX8_grant_0 6 rfl rfl)
theorem dX8_grant_7 : decode cX8_grant 7 = .ok (.iconst (-1), 1) := dk_2 (dk_at dksX8_grant_0 7 rfl rfl)
theorem dX8_grant_8 : decode cX8_grant 8 = .ok (.if_icmp .ne 4, 3) := dk_160 0 4 (dk_at dksX8_grant_0 8 rfl rfl)
theorem dX8_grant_11 : decode cX8_grant 11 = .ok (.return_, 1) := dk_177 (dk_at dksX8_grant_0 11 rfl rfl)
theorem dX8_grant_12 : decode cX8_grant 12 = .ok (.aload_n 0, 1) := dk_42 (dk_at dksX8_grant_0 12 rfl rfl)
theorem dX8_grant_13 : decode cX8_grant 13 = .ok (.iload_n 1, 1) := dk_27 (dk_at dksX8_grant_0 13 rfl rfl)
theorem dX8_grant_14 : decode cX8_grant 14 = .ok (.iconst 2, 1) := dk_5 (dk_at dksX8_grant_0 14 rfl rfl)
theorem dX8_grant_15 : decode cX8_grant 15 = .ok (.invokevirtual 337, 3) := dk_182 1 81 (dk_at dksX8_grant_0 15 rfl rfl)
theorem dX8_grant_18 : decode cX8_grant 18 = .ok (.aload_n 0, 1) := dk_42 (dk_at dksX8_grant_0 18 rfl rfl)
theorem dX8_grant_19 : decode cX8_grant 19 = .ok (.getfield 27, 3) := dk_180 0 27 (dk_at dksX8_grant_0 19 rfl rfl)
theorem dX8_grant_22 : decode cX8_grant 22 = .ok (.iload_n 1, 1) := dk_27 (dk_at dksX8_grant_0 22 rfl rfl)
theorem dX8_grant_23 : decode cX8_grant 23 = .ok (.iload_n 2, 1) := dk_28 (dk_at dksX8_grant_0 23 rfl rfl)
theorem dX8_grant_24 : decode cX8_grant 24 = .ok (.iastore, 1) := dk_79 (dk_at dksX8_grant_1 0 rfl rfl)
theorem dX8_grant_25 : decode cX8_grant 25 = .ok (.aload_n 0, 1) := dk_42 (dk_at dksX8_grant_1 1 rfl rfl)
theorem dX8_grant_26 : decode cX8_grant 26 = .ok (.getfield 30, 3) := dk_180 0 30 (dk_at dksX8_grant_1 2 rfl rfl)
theorem dX8_grant_29 : decode cX8_grant 29 = .ok (.iload_n 1, 1) := dk_27 (dk_at dksX8_grant_1 5 rfl rfl)
theorem dX8_grant_30 : decode cX8_grant 30 = .ok (.aload_n 0, 1) := dk_42 (dk_at dksX8_grant_1 6 rfl rfl)
theorem dX8_grant_31 : decode cX8_grant 31 = .ok (.getfield 290, 3) := dk_180 1 34 (dk_at dksX8_grant_1 7 rfl rfl)
theorem dX8_grant_34 : decode cX8_grant 34 = .ok (.iastore, 1) := dk_79 (dk_at dksX8_grant_1 10 rfl rfl)
theorem dX8_grant_35 : decode cX8_grant 35 = .ok (.aload_n 0, 1) := dk_42 (dk_at dksX8_grant_1 11 rfl rfl)
theorem dX8_grant_36 : decode cX8_grant 36 = .ok (.iconst 0, 1) := dk_3 (dk_at dksX8_grant_1 12 rfl rfl)
theorem dX8_grant_37 : decode cX8_grant 37 = .ok (.iload_n 1, 1) := dk_27 (dk_at dksX8_grant_1 13 rfl rfl)
theorem dX8_grant_38 : decode cX8_grant 38 = .ok (.invokevirtual 333, 3) := dk_182 1 77 (dk_at dksX8_grant_1 14 rfl rfl)
theorem dX8_grant_41 : decode cX8_grant 41 = .ok (.aload_n 0, 1) := dk_42 (dk_at dksX8_grant_1 17 rfl rfl)
theorem dX8_grant_42 : decode cX8_grant 42 = .ok (.getfield 53, 3) := dk_180 0 53 (dk_at dksX8_grant_1 18 rfl rfl)
theorem dX8_grant_45 : decode cX8_grant 45 = .ok (.iload_n 1, 1) := dk_27 (dk_at dksX8_grant_1 21 rfl rfl)
theorem dX8_grant_46 : decode cX8_grant 46 = .ok (.invokevirtual 205, 3) := dk_182 0 205 (dk_at dksX8_grant_2 0 rfl rfl)
theorem dX8_grant_49 : decode cX8_grant 49 = .ok (.ifCond .eq 7, 3) := dk_153 0 7 (dk_at dksX8_grant_2 3 rfl rfl)
theorem dX8_grant_52 : decode cX8_grant 52 = .ok (.aload_n 0, 1) := dk_42 (dk_at dksX8_grant_2 6 rfl rfl)
theorem dX8_grant_53 : decode cX8_grant 53 = .ok (.invokevirtual 357, 3) := dk_182 1 101 (dk_at dksX8_grant_2 7 rfl rfl)
theorem dX8_grant_56 : decode cX8_grant 56 = .ok (.return_, 1) := dk_177 (dk_at dksX8_grant_2 10 rfl rfl)
abbrev cX8_allAirtime : ByteArray := prog_18_method_36_code
def yX8_allAirtime : MethodName := ⟨RX8, "allAirtime", "()I"⟩
def dkwX8_allAirtime_1 : List UInt8 := [180, 0, 42, 28, 46, 96, 60, 132, 2, 1, 167, 255, 228, 27, 172]
abbrev dktX8_allAirtime_1 : List UInt8 := dkwX8_allAirtime_1 ++ []
def dkwX8_allAirtime_0 : List UInt8 := [3, 60, 3, 61, 28, 42, 180, 0, 53, 180, 0, 102, 185, 0, 94, 1, 0, 162, 0, 18, 27, 42]
abbrev dktX8_allAirtime_0 : List UInt8 := dkwX8_allAirtime_0 ++ dktX8_allAirtime_1
theorem dksX8_allAirtime_0 : cX8_allAirtime.data.toList.drop 0 = dktX8_allAirtime_0 := by decide +kernel
theorem dksX8_allAirtime_1 : cX8_allAirtime.data.toList.drop 22 = dktX8_allAirtime_1 := dk_seg dksX8_allAirtime_0 22 rfl rfl
theorem dX8_allAirtime_0 : decode cX8_allAirtime 0 = .ok (.iconst 0, 1) := dk_3 (dk_at dksX8_allAirtime_0 0 rfl rfl)
theorem dX8_allAirtime_1 : decode cX8_allAirtime 1 = .ok (.istore_n 1, 1) := dk_60 (dk_at dksX8_allAirtime_0 1 rfl rfl)
theorem dX8_allAirtime_2 : decode cX8_allAirtime 2 = .ok (.iconst 0, 1) := dk_3 (dk_at dksX8_allAirtime_0 2 rfl rfl)
theorem dX8_allAirtime_3 : decode cX8_allAirtime 3 = .ok (.istore_n 2, 1) := dk_61 (dk_at dksX8_allAirtime_0 3 rfl rfl)
theorem dX8_allAirtime_4 : decode cX8_allAirtime 4 = .ok (.iload_n 2, 1) := dk_28 (dk_at dksX8_allAirtime_0 4 rfl rfl)
theorem dX8_allAirtime_5 : decode cX8_allAirtime 5 = .ok (.aload_n 0, 1) := dk_42 (dk_at dksX8_allAirtime_0 5 rfl rfl)
theorem dX8_allAirtime_6 : decode cX8_allAirtime 6 = .ok (.getfield 53, 3) := dk_180 0 53 (dk_at dksX8_allAirtime_0 6 rfl rfl)
theorem dX8_allAirtime_9 : decode cX8_allAirtime 9 = .ok (.getfield 102, 3) := dk_180 0 102 (dk_at dksX8_allAirtime_0 9 rfl rfl)
theorem dX8_allAirtime_12 : decode cX8_allAirtime 12 = .ok (.invokeinterface 94 1, 5) := by decide +kernel
theorem dX8_allAirtime_17 : decode cX8_allAirtime 17 = .ok (.if_icmp .ge 18, 3) := dk_162 0 18 (dk_at dksX8_allAirtime_0 17 rfl rfl)
theorem dX8_allAirtime_20 : decode cX8_allAirtime 20 = .ok (.iload_n 1, 1) := dk_27 (dk_at dksX8_allAirtime_0 20 rfl rfl)
theorem dX8_allAirtime_21 : decode cX8_allAirtime 21 = .ok (.aload_n 0, 1) := dk_42 (dk_at dksX8_allAirtime_0 21 rfl rfl)
theorem dX8_allAirtime_22 : decode cX8_allAirtime 22 = .ok (.getfield 42, 3) := dk_180 0 42 (dk_at dksX8_allAirtime_1 0 rfl rfl)
theorem dX8_allAirtime_25 : decode cX8_allAirtime 25 = .ok (.iload_n 2, 1) := dk_28 (dk_at dksX8_allAirtime_1 3 rfl rfl)
theorem dX8_allAirtime_26 : decode cX8_allAirtime 26 = .ok (.iaload, 1) := dk_46 (dk_at dksX8_allAirtime_1 4 rfl rfl)
theorem dX8_allAirtime_27 : decode cX8_allAirtime 27 = .ok (.iadd, 1) := dk_96 (dk_at dksX8_allAirtime_1 5 rfl rfl)
theorem dX8_allAirtime_28 : decode cX8_allAirtime 28 = .ok (.istore_n 1, 1) := dk_60 (dk_at dksX8_allAirtime_1 6 rfl rfl)
theorem dX8_allAirtime_29 : decode cX8_allAirtime 29 = .ok (.iinc 2 1, 3) := dk_132 2 1 (dk_at dksX8_allAirtime_1 7 rfl rfl)
theorem dX8_allAirtime_32 : decode cX8_allAirtime 32 = .ok (.goto (-28), 3) := dk_167 255 228 (dk_at dksX8_allAirtime_1 10 rfl rfl)
theorem dX8_allAirtime_35 : decode cX8_allAirtime 35 = .ok (.iload_n 1, 1) := dk_27 (dk_at dksX8_allAirtime_1 13 rfl rfl)
theorem dX8_allAirtime_36 : decode cX8_allAirtime 36 = .ok (.ireturn, 1) := dk_172 (dk_at dksX8_allAirtime_1 14 rfl rfl)
theorem q171 : (Jvm.Cond.initialized "SpectrumAccess$State") ∈ lw_all := lw_g (lw_at lw_m1 32 rfl) rfl
theorem q340 : (Jvm.Cond.instanceMethod ({ cls := "SpectrumAccess$State", name := "count", desc := "(I)I" } : Jvm.MethodName)) ∈ lw_all := lw_g (lw_at lw_m1 201 rfl) rfl
theorem q341 : (Jvm.Cond.selects "SpectrumAccess$State" ({ cls := "SpectrumAccess$State", name := "count", desc := "(I)I" } : Jvm.MethodName) ({ cls := "SpectrumAccess$State", name := "count", desc := "(I)I" } : Jvm.MethodName)) ∈ lw_all := lw_g (lw_at lw_m1 202 rfl) rfl
theorem q342 : (Jvm.Cond.code ({ cls := "SpectrumAccess$State", name := "count", desc := "(I)I" } : Jvm.MethodName) prog_18_method_37_code (4 : Nat) (Option.some Jvm.ClassFile.FieldType.int)) ∈ lw_all := lw_g (lw_at lw_m1 203 rfl) rfl
theorem q343 : (Jvm.Cond.interfaceEntry "SpectrumAccess$State" (94 : Nat)) ∈ lw_tbl := lw_at lw_m1 204 rfl
theorem q344 : (Jvm.Cond.methodLink "SpectrumAccess$State" (94 : Nat) ({ cls := "java/util/List", name := "size", desc := "()I" } : Jvm.MethodName)) ∈ lw_all := lw_g (lw_at lw_m1 205 rfl) rfl
theorem q733 : (Jvm.Cond.fieldLinkNest "SpectrumAccess$State" (247 : Nat) "SpectrumAccess$Case" "x" "I" "SpectrumAccess") ∈ lw_tbl := lw_at lw_m3 114 rfl
theorem q735 : (Jvm.Cond.fieldLinkNest "SpectrumAccess$State" (250 : Nat) "SpectrumAccess$Case" "y" "I" "SpectrumAccess") ∈ lw_tbl := lw_at lw_m3 116 rfl
theorem q737 : (Jvm.Cond.fieldLinkNest "SpectrumAccess$State" (251 : Nat) "SpectrumAccess$Case" "channel" "I" "SpectrumAccess") ∈ lw_tbl := lw_at lw_m3 118 rfl
theorem q739 : (Jvm.Cond.fieldLinkNest "SpectrumAccess$State" (253 : Nat) "SpectrumAccess$Case" "time" "I" "SpectrumAccess") ∈ lw_tbl := lw_at lw_m3 120 rfl
theorem q741 : (Jvm.Cond.fieldLinkNest "SpectrumAccess$State" (254 : Nat) "SpectrumAccess$Case" "moves" "I" "SpectrumAccess") ∈ lw_tbl := lw_at lw_m3 122 rfl
theorem q829 : (Jvm.Cond.fieldLinkNest "SpectrumAccess$State" (330 : Nat) "SpectrumAccess$Waiting" "device" "I" "SpectrumAccess") ∈ lw_tbl := lw_at lw_m3 210 rfl
theorem q831 : (Jvm.Cond.fieldLinkNest "SpectrumAccess$State" (317 : Nat) "SpectrumAccess$Waiting" "since" "I" "SpectrumAccess") ∈ lw_tbl := lw_at lw_m3 212 rfl
theorem q833 : (Jvm.Cond.fieldLinkNest "SpectrumAccess$State" (319 : Nat) "SpectrumAccess$Waiting" "isLicensed" "Z" "SpectrumAccess") ∈ lw_tbl := lw_at lw_m3 214 rfl
theorem q883 : (Jvm.Cond.selects "SpectrumAccess$State" ({ cls := "java/lang/Object", name := "getClass", desc := "()Ljava/lang/Class;" } : Jvm.MethodName) ({ cls := "java/lang/Object", name := "getClass", desc := "()Ljava/lang/Class;" } : Jvm.MethodName)) ∈ lw_all := lw_g (lw_at lw_m4 24 rfl) rfl
theorem q910 : (Jvm.Cond.fieldLinkNest "SpectrumAccess$State" (231 : Nat) "SpectrumAccess$Region" "licences" "Ljava/util/List;" "SpectrumAccess") ∈ lw_tbl := lw_at lw_m4 51 rfl
theorem q912 : (Jvm.Cond.fieldLinkNest "SpectrumAccess$State" (102 : Nat) "SpectrumAccess$Region" "devices" "Ljava/util/List;" "SpectrumAccess") ∈ lw_tbl := lw_at lw_m4 53 rfl
theorem q917 : (Jvm.Cond.fieldLinkNest "SpectrumAccess$State" (256 : Nat) "SpectrumAccess$Region" "denials" "Ljava/util/List;" "SpectrumAccess") ∈ lw_tbl := lw_at lw_m4 58 rfl
theorem q920 : (Jvm.Cond.fieldLinkNest "SpectrumAccess$State" (243 : Nat) "SpectrumAccess$Region" "asked" "LSpectrumAccess$Case;" "SpectrumAccess") ∈ lw_tbl := lw_at lw_m4 61 rfl
theorem q930 : (Jvm.Cond.fieldLinkNest "SpectrumAccess$State" (293 : Nat) "SpectrumAccess$Region" "channels" "I" "SpectrumAccess") ∈ lw_tbl := lw_at lw_m4 71 rfl
theorem q931 : (Jvm.Cond.fieldLinkNest "SpectrumAccess$State" (131 : Nat) "SpectrumAccess$Region" "leak" "I" "SpectrumAccess") ∈ lw_tbl := lw_at lw_m4 72 rfl
theorem q934 : (Jvm.Cond.fieldLinkNest "SpectrumAccess$State" (208 : Nat) "SpectrumAccess$Region" "shield" "I" "SpectrumAccess") ∈ lw_tbl := lw_at lw_m4 75 rfl
theorem q936 : (Jvm.Cond.fieldLinkNest "SpectrumAccess$State" (300 : Nat) "SpectrumAccess$Region" "minimum" "I" "SpectrumAccess") ∈ lw_tbl := lw_at lw_m4 77 rfl
theorem q938 : (Jvm.Cond.fieldLinkNest "SpectrumAccess$State" (360 : Nat) "SpectrumAccess$Region" "lease" "I" "SpectrumAccess") ∈ lw_tbl := lw_at lw_m4 79 rfl
theorem q941 : (Jvm.Cond.fieldLinkNest "SpectrumAccess$State" (164 : Nat) "SpectrumAccess$Region" "delay" "I" "SpectrumAccess") ∈ lw_tbl := lw_at lw_m4 82 rfl
theorem q943 : (Jvm.Cond.fieldLinkNest "SpectrumAccess$State" (177 : Nat) "SpectrumAccess$Region" "everyone" "LSpectrumAccess$Some;" "SpectrumAccess") ∈ lw_tbl := lw_at lw_m4 84 rfl
theorem q946 : (Jvm.Cond.fieldLinkNest "SpectrumAccess$State" (202 : Nat) "SpectrumAccess$Region" "licensed" "LSpectrumAccess$Some;" "SpectrumAccess") ∈ lw_tbl := lw_at lw_m4 87 rfl
theorem q949 : (Jvm.Cond.fieldLinkNest "SpectrumAccess$State" (211 : Nat) "SpectrumAccess$Region" "general" "LSpectrumAccess$Some;" "SpectrumAccess") ∈ lw_tbl := lw_at lw_m4 90 rfl
theorem q952 : (Jvm.Cond.fieldLinkNest "SpectrumAccess$State" (303 : Nat) "SpectrumAccess$Region" "queue" "Ljava/util/PriorityQueue;" "SpectrumAccess") ∈ lw_tbl := lw_at lw_m4 93 rfl
theorem q954 : (Jvm.Cond.fieldLinkNest "SpectrumAccess$State" (312 : Nat) "SpectrumAccess$Region" "tickets" "Ljava/util/List;" "SpectrumAccess") ∈ lw_tbl := lw_at lw_m4 95 rfl
theorem q956 : (Jvm.Cond.fieldLinkNest "SpectrumAccess$State" (323 : Nat) "SpectrumAccess$Region" "order" "[I" "SpectrumAccess") ∈ lw_tbl := lw_at lw_m4 97 rfl
theorem q998 : (Jvm.Cond.instantiable "SpectrumAccess$State" (18 : Nat)) ∈ lw_all := lw_g (lw_at lw_m4 139 rfl) rfl
theorem q1000 : (Jvm.Cond.instanceMethod ({ cls := "SpectrumAccess$State", name := "<init>", desc := "(LSpectrumAccess$Region;)V" } : Jvm.MethodName)) ∈ lw_all := lw_g (lw_at lw_m4 141 rfl) rfl
theorem q1001 : (Jvm.Cond.code ({ cls := "SpectrumAccess$State", name := "<init>", desc := "(LSpectrumAccess$Region;)V" } : Jvm.MethodName) prog_18_method_1_code (3 : Nat) (Option.none : Option Jvm.ClassFile.FieldType)) ∈ lw_all := lw_g (lw_at lw_m4 142 rfl) rfl
theorem q1002 : (Jvm.Cond.methodLink "SpectrumAccess$State" (3 : Nat) ({ cls := "java/lang/Object", name := "<init>", desc := "()V" } : Jvm.MethodName)) ∈ lw_all := lw_g (lw_at lw_m4 143 rfl) rfl
theorem q1003 : (Jvm.Cond.classLink "SpectrumAccess$State" (9 : Nat) "java/util/ArrayList") ∈ lw_all := lw_g (lw_at lw_m4 144 rfl) rfl
theorem q1004 : (Jvm.Cond.methodLink "SpectrumAccess$State" (11 : Nat) ({ cls := "java/util/ArrayList", name := "<init>", desc := "(I)V" } : Jvm.MethodName)) ∈ lw_all := lw_g (lw_at lw_m4 145 rfl) rfl
theorem q1005 : (Jvm.Cond.classLink "SpectrumAccess$State" (45 : Nat) "[[I") ∈ lw_all := lw_g (lw_at lw_m4 146 rfl) rfl
theorem q1007 : (Jvm.Cond.fieldLink "SpectrumAccess$State" (53 : Nat) "SpectrumAccess$State" "region" "LSpectrumAccess$Region;") ∈ lw_all := lw_g (lw_at lw_m4 148 rfl) rfl
theorem q1009 : (Jvm.Cond.fieldLink "SpectrumAccess$State" (14 : Nat) "SpectrumAccess$State" "incumbents" "Ljava/util/List;") ∈ lw_all := lw_g (lw_at lw_m4 150 rfl) rfl
theorem q1012 : (Jvm.Cond.fieldLink "SpectrumAccess$State" (20 : Nat) "SpectrumAccess$State" "until" "[I") ∈ lw_all := lw_g (lw_at lw_m4 153 rfl) rfl
theorem q1014 : (Jvm.Cond.fieldLink "SpectrumAccess$State" (24 : Nat) "SpectrumAccess$State" "states" "[I") ∈ lw_all := lw_g (lw_at lw_m4 155 rfl) rfl
theorem q1016 : (Jvm.Cond.fieldLink "SpectrumAccess$State" (27 : Nat) "SpectrumAccess$State" "channel" "[I") ∈ lw_all := lw_g (lw_at lw_m4 157 rfl) rfl
theorem q1018 : (Jvm.Cond.fieldLink "SpectrumAccess$State" (30 : Nat) "SpectrumAccess$State" "power" "[I") ∈ lw_all := lw_g (lw_at lw_m4 159 rfl) rfl
theorem q1020 : (Jvm.Cond.fieldLink "SpectrumAccess$State" (33 : Nat) "SpectrumAccess$State" "greatest" "[I") ∈ lw_all := lw_g (lw_at lw_m4 161 rfl) rfl
theorem q1022 : (Jvm.Cond.fieldLink "SpectrumAccess$State" (36 : Nat) "SpectrumAccess$State" "since" "[I") ∈ lw_all := lw_g (lw_at lw_m4 163 rfl) rfl
theorem q1024 : (Jvm.Cond.fieldLink "SpectrumAccess$State" (39 : Nat) "SpectrumAccess$State" "moves" "[I") ∈ lw_all := lw_g (lw_at lw_m4 165 rfl) rfl
theorem q1026 : (Jvm.Cond.fieldLink "SpectrumAccess$State" (42 : Nat) "SpectrumAccess$State" "airtime" "[I") ∈ lw_all := lw_g (lw_at lw_m4 167 rfl) rfl
theorem q1028 : (Jvm.Cond.fieldLink "SpectrumAccess$State" (47 : Nat) "SpectrumAccess$State" "events" "[[I") ∈ lw_all := lw_g (lw_at lw_m4 169 rfl) rfl
theorem q1030 : (Jvm.Cond.fieldLink "SpectrumAccess$State" (81 : Nat) "SpectrumAccess$State" "time" "I") ∈ lw_all := lw_g (lw_at lw_m4 171 rfl) rfl
theorem q1032 : (Jvm.Cond.fieldLink "SpectrumAccess$State" (85 : Nat) "SpectrumAccess$State" "allMoves" "I") ∈ lw_all := lw_g (lw_at lw_m4 173 rfl) rfl
theorem q1034 : (Jvm.Cond.fieldLink "SpectrumAccess$State" (88 : Nat) "SpectrumAccess$State" "leaseEnds" "I") ∈ lw_all := lw_g (lw_at lw_m4 175 rfl) rfl
theorem q1036 : (Jvm.Cond.fieldLink "SpectrumAccess$State" (91 : Nat) "SpectrumAccess$State" "eventCount" "I") ∈ lw_all := lw_g (lw_at lw_m4 177 rfl) rfl
theorem q1038 : (Jvm.Cond.fieldLink "SpectrumAccess$State" (290 : Nat) "SpectrumAccess$State" "grantedPower" "I") ∈ lw_all := lw_g (lw_at lw_m4 179 rfl) rfl
theorem q1040 : (Jvm.Cond.fieldLink "SpectrumAccess$State" (50 : Nat) "SpectrumAccess$State" "left" "[[I") ∈ lw_all := lw_g (lw_at lw_m4 181 rfl) rfl
theorem q1041 : (Jvm.Cond.fieldLink "SpectrumAccess$State" (196 : Nat) "SpectrumAccess$State" "isLaid" "Z") ∈ lw_all := lw_g (lw_at lw_m4 182 rfl) rfl
theorem q1042 : (Jvm.Cond.laysFinal "SpectrumAccess$State" "SpectrumAccess$State" "region" "LSpectrumAccess$Region;") ∈ lw_all := lw_g (lw_at lw_m4 183 rfl) rfl
theorem q1043 : (Jvm.Cond.soleField "SpectrumAccess$State" "region") ∈ lw_all := lw_g (lw_at lw_m4 184 rfl) rfl
theorem q1044 : (Jvm.Cond.laysFinal "SpectrumAccess$State" "SpectrumAccess$State" "incumbents" "Ljava/util/List;") ∈ lw_all := lw_g (lw_at lw_m4 185 rfl) rfl
theorem q1045 : (Jvm.Cond.soleField "SpectrumAccess$State" "incumbents") ∈ lw_all := lw_g (lw_at lw_m4 186 rfl) rfl
theorem q1046 : (Jvm.Cond.laysFinal "SpectrumAccess$State" "SpectrumAccess$State" "until" "[I") ∈ lw_all := lw_g (lw_at lw_m4 187 rfl) rfl
theorem q1047 : (Jvm.Cond.soleField "SpectrumAccess$State" "until") ∈ lw_all := lw_g (lw_at lw_m4 188 rfl) rfl
theorem q1048 : (Jvm.Cond.laysFinal "SpectrumAccess$State" "SpectrumAccess$State" "states" "[I") ∈ lw_all := lw_g (lw_at lw_m4 189 rfl) rfl
theorem q1049 : (Jvm.Cond.soleField "SpectrumAccess$State" "states") ∈ lw_all := lw_g (lw_at lw_m4 190 rfl) rfl
theorem q1050 : (Jvm.Cond.laysFinal "SpectrumAccess$State" "SpectrumAccess$State" "channel" "[I") ∈ lw_all := lw_g (lw_at lw_m4 191 rfl) rfl
theorem q1051 : (Jvm.Cond.soleField "SpectrumAccess$State" "channel") ∈ lw_all := lw_g (lw_at lw_m4 192 rfl) rfl
theorem q1052 : (Jvm.Cond.laysFinal "SpectrumAccess$State" "SpectrumAccess$State" "power" "[I") ∈ lw_all := lw_g (lw_at lw_m4 193 rfl) rfl
theorem q1053 : (Jvm.Cond.soleField "SpectrumAccess$State" "power") ∈ lw_all := lw_g (lw_at lw_m4 194 rfl) rfl
theorem q1054 : (Jvm.Cond.laysFinal "SpectrumAccess$State" "SpectrumAccess$State" "greatest" "[I") ∈ lw_all := lw_g (lw_at lw_m4 195 rfl) rfl
theorem q1055 : (Jvm.Cond.soleField "SpectrumAccess$State" "greatest") ∈ lw_all := lw_g (lw_at lw_m4 196 rfl) rfl
theorem q1056 : (Jvm.Cond.laysFinal "SpectrumAccess$State" "SpectrumAccess$State" "since" "[I") ∈ lw_all := lw_g (lw_at lw_m4 197 rfl) rfl
theorem q1057 : (Jvm.Cond.soleField "SpectrumAccess$State" "since") ∈ lw_all := lw_g (lw_at lw_m4 198 rfl) rfl
theorem q1058 : (Jvm.Cond.laysFinal "SpectrumAccess$State" "SpectrumAccess$State" "moves" "[I") ∈ lw_all := lw_g (lw_at lw_m4 199 rfl) rfl
theorem q1059 : (Jvm.Cond.soleField "SpectrumAccess$State" "moves") ∈ lw_all := lw_g (lw_at lw_m4 200 rfl) rfl
theorem q1060 : (Jvm.Cond.laysFinal "SpectrumAccess$State" "SpectrumAccess$State" "airtime" "[I") ∈ lw_all := lw_g (lw_at lw_m4 201 rfl) rfl
theorem q1061 : (Jvm.Cond.soleField "SpectrumAccess$State" "airtime") ∈ lw_all := lw_g (lw_at lw_m4 202 rfl) rfl
theorem q1062 : (Jvm.Cond.laysFinal "SpectrumAccess$State" "SpectrumAccess$State" "events" "[[I") ∈ lw_all := lw_g (lw_at lw_m4 203 rfl) rfl
theorem q1063 : (Jvm.Cond.soleField "SpectrumAccess$State" "events") ∈ lw_all := lw_g (lw_at lw_m4 204 rfl) rfl
theorem q1064 : (Jvm.Cond.lays "SpectrumAccess$State" "SpectrumAccess$State" "time" "I") ∈ lw_all := lw_g (lw_at lw_m4 205 rfl) rfl
theorem q1065 : (Jvm.Cond.soleField "SpectrumAccess$State" "time") ∈ lw_all := lw_g (lw_at lw_m4 206 rfl) rfl
theorem q1066 : (Jvm.Cond.lays "SpectrumAccess$State" "SpectrumAccess$State" "allMoves" "I") ∈ lw_all := lw_g (lw_at lw_m4 207 rfl) rfl
theorem q1067 : (Jvm.Cond.soleField "SpectrumAccess$State" "allMoves") ∈ lw_all := lw_g (lw_at lw_m4 208 rfl) rfl
theorem q1068 : (Jvm.Cond.lays "SpectrumAccess$State" "SpectrumAccess$State" "leaseEnds" "I") ∈ lw_all := lw_g (lw_at lw_m4 209 rfl) rfl
theorem q1069 : (Jvm.Cond.soleField "SpectrumAccess$State" "leaseEnds") ∈ lw_all := lw_g (lw_at lw_m4 210 rfl) rfl
theorem q1070 : (Jvm.Cond.lays "SpectrumAccess$State" "SpectrumAccess$State" "eventCount" "I") ∈ lw_all := lw_g (lw_at lw_m4 211 rfl) rfl
theorem q1071 : (Jvm.Cond.soleField "SpectrumAccess$State" "eventCount") ∈ lw_all := lw_g (lw_at lw_m4 212 rfl) rfl
theorem q1072 : (Jvm.Cond.lays "SpectrumAccess$State" "SpectrumAccess$State" "grantedPower" "I") ∈ lw_all := lw_g (lw_at lw_m4 213 rfl) rfl
theorem q1073 : (Jvm.Cond.soleField "SpectrumAccess$State" "grantedPower") ∈ lw_all := lw_g (lw_at lw_m4 214 rfl) rfl
theorem q1074 : (Jvm.Cond.laysFinal "SpectrumAccess$State" "SpectrumAccess$State" "left" "[[I") ∈ lw_all := lw_g (lw_at lw_m4 215 rfl) rfl
theorem q1075 : (Jvm.Cond.soleField "SpectrumAccess$State" "left") ∈ lw_all := lw_g (lw_at lw_m4 216 rfl) rfl
theorem q1076 : (Jvm.Cond.lays "SpectrumAccess$State" "SpectrumAccess$State" "isLaid" "Z") ∈ lw_all := lw_g (lw_at lw_m4 217 rfl) rfl
theorem q1077 : (Jvm.Cond.soleField "SpectrumAccess$State" "isLaid") ∈ lw_all := lw_g (lw_at lw_m4 218 rfl) rfl
theorem q1078 : (Jvm.Cond.superclass "SpectrumAccess$State" "java/lang/Object") ∈ lw_all := lw_g (lw_at lw_m4 219 rfl) rfl
theorem q1394 : (Jvm.Cond.fieldLinkNest "SpectrumAccess$State" (144 : Nat) "SpectrumAccess$Point" "x" "I" "SpectrumAccess") ∈ lw_tbl := lw_at lw_m6 55 rfl
theorem q1399 : (Jvm.Cond.fieldLinkNest "SpectrumAccess$State" (149 : Nat) "SpectrumAccess$Point" "y" "I" "SpectrumAccess") ∈ lw_tbl := lw_at lw_m6 60 rfl
theorem q1414 : (Jvm.Cond.fieldLinkNest "SpectrumAccess$State" (171 : Nat) "SpectrumAccess$Incumbent" "first" "I" "SpectrumAccess") ∈ lw_tbl := lw_at lw_m6 75 rfl
theorem q1416 : (Jvm.Cond.fieldLinkNest "SpectrumAccess$State" (174 : Nat) "SpectrumAccess$Incumbent" "last" "I" "SpectrumAccess") ∈ lw_tbl := lw_at lw_m6 77 rfl
theorem q1418 : (Jvm.Cond.fieldLinkNest "SpectrumAccess$State" (187 : Nat) "SpectrumAccess$Incumbent" "limit" "I" "SpectrumAccess") ∈ lw_tbl := lw_at lw_m6 79 rfl
theorem q1420 : (Jvm.Cond.fieldLinkNest "SpectrumAccess$State" (161 : Nat) "SpectrumAccess$Incumbent" "from" "I" "SpectrumAccess") ∈ lw_tbl := lw_at lw_m6 81 rfl
theorem q1422 : (Jvm.Cond.fieldLinkNest "SpectrumAccess$State" (158 : Nat) "SpectrumAccess$Incumbent" "isAnnounced" "Z" "SpectrumAccess") ∈ lw_tbl := lw_at lw_m6 83 rfl
theorem q1437 : (Jvm.Cond.instanceMethod ({ cls := "SpectrumAccess$State", name := "add", desc := "(LSpectrumAccess$Incumbent;I)I" } : Jvm.MethodName)) ∈ lw_all := lw_g (lw_at lw_m6 98 rfl) rfl
theorem q1438 : (Jvm.Cond.selects "SpectrumAccess$State" ({ cls := "SpectrumAccess$State", name := "add", desc := "(LSpectrumAccess$Incumbent;I)I" } : Jvm.MethodName) ({ cls := "SpectrumAccess$State", name := "add", desc := "(LSpectrumAccess$Incumbent;I)I" } : Jvm.MethodName)) ∈ lw_all := lw_g (lw_at lw_m6 99 rfl) rfl
theorem q1439 : (Jvm.Cond.code ({ cls := "SpectrumAccess$State", name := "add", desc := "(LSpectrumAccess$Incumbent;I)I" } : Jvm.MethodName) prog_18_method_5_code (3 : Nat) (Option.some Jvm.ClassFile.FieldType.int)) ∈ lw_all := lw_g (lw_at lw_m6 100 rfl) rfl
theorem q1440 : (Jvm.Cond.interfaceEntry "SpectrumAccess$State" (98 : Nat)) ∈ lw_tbl := lw_at lw_m6 101 rfl
theorem q1441 : (Jvm.Cond.methodLink "SpectrumAccess$State" (98 : Nat) ({ cls := "java/util/List", name := "add", desc := "(Ljava/lang/Object;)Z" } : Jvm.MethodName)) ∈ lw_all := lw_g (lw_at lw_m6 102 rfl) rfl
theorem q1671 : (Jvm.Cond.fieldLinkNest "SpectrumAccess$State" (234 : Nat) "SpectrumAccess$Device" "licence" "I" "SpectrumAccess") ∈ lw_tbl := lw_at lw_m7 92 rfl
theorem q1674 : (Jvm.Cond.fieldLinkNest "SpectrumAccess$State" (107 : Nat) "SpectrumAccess$Device" "isOff" "Z" "SpectrumAccess") ∈ lw_tbl := lw_at lw_m7 95 rfl
theorem q1684 : (Jvm.Cond.instanceMethod ({ cls := "SpectrumAccess$State", name := "add", desc := "(LSpectrumAccess$Device;I)V" } : Jvm.MethodName)) ∈ lw_all := lw_g (lw_at lw_m7 105 rfl) rfl
theorem q1685 : (Jvm.Cond.selects "SpectrumAccess$State" ({ cls := "SpectrumAccess$State", name := "add", desc := "(LSpectrumAccess$Device;I)V" } : Jvm.MethodName) ({ cls := "SpectrumAccess$State", name := "add", desc := "(LSpectrumAccess$Device;I)V" } : Jvm.MethodName)) ∈ lw_all := lw_g (lw_at lw_m7 106 rfl) rfl
theorem q1686 : (Jvm.Cond.code ({ cls := "SpectrumAccess$State", name := "add", desc := "(LSpectrumAccess$Device;I)V" } : Jvm.MethodName) prog_18_method_6_code (4 : Nat) (Option.none : Option Jvm.ClassFile.FieldType)) ∈ lw_all := lw_g (lw_at lw_m7 107 rfl) rfl
theorem q1785 : (Jvm.Cond.instanceMethod ({ cls := "SpectrumAccess$State", name := "isProtected", desc := "(I)Z" } : Jvm.MethodName)) ∈ lw_all := lw_g (lw_at lw_m7 206 rfl) rfl
theorem q1786 : (Jvm.Cond.selects "SpectrumAccess$State" ({ cls := "SpectrumAccess$State", name := "isProtected", desc := "(I)Z" } : Jvm.MethodName) ({ cls := "SpectrumAccess$State", name := "isProtected", desc := "(I)Z" } : Jvm.MethodName)) ∈ lw_all := lw_g (lw_at lw_m7 207 rfl) rfl
theorem q1787 : (Jvm.Cond.code ({ cls := "SpectrumAccess$State", name := "isProtected", desc := "(I)Z" } : Jvm.MethodName) prog_18_method_12_code (3 : Nat) (Option.some Jvm.ClassFile.FieldType.boolean)) ∈ lw_all := lw_g (lw_at lw_m7 208 rfl) rfl
theorem q1788 : (Jvm.Cond.interfaceEntry "SpectrumAccess$State" (113 : Nat)) ∈ lw_tbl := lw_at lw_m7 209 rfl
theorem q1789 : (Jvm.Cond.methodLink "SpectrumAccess$State" (113 : Nat) ({ cls := "java/util/List", name := "get", desc := "(I)Ljava/lang/Object;" } : Jvm.MethodName)) ∈ lw_all := lw_g (lw_at lw_m7 210 rfl) rfl
theorem q1790 : (Jvm.Cond.classLink "SpectrumAccess$State" (156 : Nat) "SpectrumAccess$Incumbent") ∈ lw_all := lw_g (lw_at lw_m7 211 rfl) rfl
theorem q1791 : (Jvm.Cond.methodLink "SpectrumAccess$State" (167 : Nat) ({ cls := "SpectrumAccess$Region", name := "isSensed", desc := "(LSpectrumAccess$Incumbent;)Z" } : Jvm.MethodName)) ∈ lw_all := lw_g (lw_at lw_m7 212 rfl) rfl
theorem q1800 : (Jvm.Cond.instanceMethod ({ cls := "SpectrumAccess$State", name := "headroom", desc := "(I)I" } : Jvm.MethodName)) ∈ lw_all := lw_g (lw_at lw_m7 221 rfl) rfl
theorem q1801 : (Jvm.Cond.selects "SpectrumAccess$State" ({ cls := "SpectrumAccess$State", name := "headroom", desc := "(I)I" } : Jvm.MethodName) ({ cls := "SpectrumAccess$State", name := "headroom", desc := "(I)I" } : Jvm.MethodName)) ∈ lw_all := lw_g (lw_at lw_m7 222 rfl) rfl
theorem q1802 : (Jvm.Cond.code ({ cls := "SpectrumAccess$State", name := "headroom", desc := "(I)I" } : Jvm.MethodName) prog_18_method_13_code (5 : Nat) (Option.some Jvm.ClassFile.FieldType.int)) ∈ lw_all := lw_g (lw_at lw_m7 223 rfl) rfl
theorem q1803 : (Jvm.Cond.methodLink "SpectrumAccess$State" (181 : Nat) ({ cls := "SpectrumAccess$State", name := "interference", desc := "(LSpectrumAccess$Point;ILSpectrumAccess$Some;)I" } : Jvm.MethodName)) ∈ lw_all := lw_g (lw_at lw_m7 224 rfl) rfl
theorem q1804 : (Jvm.Cond.privateMethod ({ cls := "SpectrumAccess$State", name := "interference", desc := "(LSpectrumAccess$Point;ILSpectrumAccess$Some;)I" } : Jvm.MethodName)) ∈ lw_tbl := lw_at lw_m7 225 rfl
theorem q1805 : (Jvm.Cond.instanceMethod ({ cls := "SpectrumAccess$State", name := "interference", desc := "(LSpectrumAccess$Point;ILSpectrumAccess$Some;)I" } : Jvm.MethodName)) ∈ lw_all := lw_g (lw_at lw_m7 226 rfl) rfl
theorem q1806 : (Jvm.Cond.code ({ cls := "SpectrumAccess$State", name := "interference", desc := "(LSpectrumAccess$Point;ILSpectrumAccess$Some;)I" } : Jvm.MethodName) prog_18_method_10_code (4 : Nat) (Option.some Jvm.ClassFile.FieldType.int)) ∈ lw_all := lw_g (lw_at lw_m7 227 rfl) rfl
theorem q1807 : (Jvm.Cond.methodLink "SpectrumAccess$State" (152 : Nat) ({ cls := "SpectrumAccess$State", name := "interference", desc := "(IIILSpectrumAccess$Some;)I" } : Jvm.MethodName)) ∈ lw_all := lw_g (lw_at lw_m7 228 rfl) rfl
theorem q1808 : (Jvm.Cond.instanceMethod ({ cls := "SpectrumAccess$State", name := "interference", desc := "(IIILSpectrumAccess$Some;)I" } : Jvm.MethodName)) ∈ lw_all := lw_g (lw_at lw_m7 229 rfl) rfl
theorem q1809 : (Jvm.Cond.selects "SpectrumAccess$State" ({ cls := "SpectrumAccess$State", name := "interference", desc := "(IIILSpectrumAccess$Some;)I" } : Jvm.MethodName) ({ cls := "SpectrumAccess$State", name := "interference", desc := "(IIILSpectrumAccess$Some;)I" } : Jvm.MethodName)) ∈ lw_all := lw_g (lw_at lw_m7 230 rfl) rfl
theorem q1810 : (Jvm.Cond.code ({ cls := "SpectrumAccess$State", name := "interference", desc := "(IIILSpectrumAccess$Some;)I" } : Jvm.MethodName) prog_18_method_9_code (7 : Nat) (Option.some Jvm.ClassFile.FieldType.int)) ∈ lw_all := lw_g (lw_at lw_m7 231 rfl) rfl
theorem q1811 : (Jvm.Cond.interfaceEntry "SpectrumAccess$State" (134 : Nat)) ∈ lw_tbl := lw_at lw_m7 232 rfl
theorem q1812 : (Jvm.Cond.methodLink "SpectrumAccess$State" (134 : Nat) ({ cls := "SpectrumAccess$Some", name := "has", desc := "(I)Z" } : Jvm.MethodName)) ∈ lw_all := lw_g (lw_at lw_m7 233 rfl) rfl
theorem q1815 : (Jvm.Cond.methodLink "SpectrumAccess$State" (140 : Nat) ({ cls := "SpectrumAccess$State", name := "counted", desc := "(IIII)I" } : Jvm.MethodName)) ∈ lw_all := lw_g (lw_at lw_m7 236 rfl) rfl
theorem q1816 : (Jvm.Cond.privateMethod ({ cls := "SpectrumAccess$State", name := "counted", desc := "(IIII)I" } : Jvm.MethodName)) ∈ lw_tbl := lw_at lw_m7 237 rfl
theorem q1817 : (Jvm.Cond.instanceMethod ({ cls := "SpectrumAccess$State", name := "counted", desc := "(IIII)I" } : Jvm.MethodName)) ∈ lw_all := lw_g (lw_at lw_m7 238 rfl) rfl
theorem q1818 : (Jvm.Cond.code ({ cls := "SpectrumAccess$State", name := "counted", desc := "(IIII)I" } : Jvm.MethodName) prog_18_method_8_code (6 : Nat) (Option.some Jvm.ClassFile.FieldType.int)) ∈ lw_all := lw_g (lw_at lw_m7 239 rfl) rfl
theorem q1819 : (Jvm.Cond.methodLink "SpectrumAccess$State" (121 : Nat) ({ cls := "java/lang/Math", name := "abs", desc := "(I)I" } : Jvm.MethodName)) ∈ lw_all := lw_g (lw_at lw_m8 0 rfl) rfl
theorem q1822 : (Jvm.Cond.methodLink "SpectrumAccess$State" (127 : Nat) ({ cls := "SpectrumAccess$State", name := "strength", desc := "(III)I" } : Jvm.MethodName)) ∈ lw_all := lw_g (lw_at lw_m8 3 rfl) rfl
theorem q1823 : (Jvm.Cond.instanceMethod ({ cls := "SpectrumAccess$State", name := "strength", desc := "(III)I" } : Jvm.MethodName)) ∈ lw_all := lw_g (lw_at lw_m8 4 rfl) rfl
theorem q1824 : (Jvm.Cond.selects "SpectrumAccess$State" ({ cls := "SpectrumAccess$State", name := "strength", desc := "(III)I" } : Jvm.MethodName) ({ cls := "SpectrumAccess$State", name := "strength", desc := "(III)I" } : Jvm.MethodName)) ∈ lw_all := lw_g (lw_at lw_m8 5 rfl) rfl
theorem q1825 : (Jvm.Cond.code ({ cls := "SpectrumAccess$State", name := "strength", desc := "(III)I" } : Jvm.MethodName) prog_18_method_7_code (4 : Nat) (Option.some Jvm.ClassFile.FieldType.int)) ∈ lw_all := lw_g (lw_at lw_m8 6 rfl) rfl
theorem q1826 : (Jvm.Cond.classLink "SpectrumAccess$State" (108 : Nat) "SpectrumAccess$Device") ∈ lw_all := lw_g (lw_at lw_m8 7 rfl) rfl
theorem q1827 : (Jvm.Cond.methodLink "SpectrumAccess$State" (117 : Nat) ({ cls := "SpectrumAccess$Device", name := "far", desc := "(II)I" } : Jvm.MethodName)) ∈ lw_all := lw_g (lw_at lw_m8 8 rfl) rfl
theorem q1831 : (Jvm.Cond.methodLink "SpectrumAccess$State" (184 : Nat) ({ cls := "java/lang/Math", name := "max", desc := "(II)I" } : Jvm.MethodName)) ∈ lw_all := lw_g (lw_at lw_m8 12 rfl) rfl
theorem q1982 : (Jvm.Cond.instanceMethod ({ cls := "SpectrumAccess$State", name := "copy", desc := "()LSpectrumAccess$State;" } : Jvm.MethodName)) ∈ lw_all := lw_g (lw_at lw_m8 163 rfl) rfl
theorem q1983 : (Jvm.Cond.selects "SpectrumAccess$State" ({ cls := "SpectrumAccess$State", name := "copy", desc := "()LSpectrumAccess$State;" } : Jvm.MethodName) ({ cls := "SpectrumAccess$State", name := "copy", desc := "()LSpectrumAccess$State;" } : Jvm.MethodName)) ∈ lw_all := lw_g (lw_at lw_m8 164 rfl) rfl
theorem q1984 : (Jvm.Cond.code ({ cls := "SpectrumAccess$State", name := "copy", desc := "()LSpectrumAccess$State;" } : Jvm.MethodName) prog_18_method_4_code (2 : Nat) (Option.some (Jvm.ClassFile.FieldType.object "SpectrumAccess$State"))) ∈ lw_all := lw_g (lw_at lw_m8 165 rfl) rfl
theorem q1985 : (Jvm.Cond.classLink "SpectrumAccess$State" (15 : Nat) "SpectrumAccess$State") ∈ lw_all := lw_g (lw_at lw_m8 166 rfl) rfl
theorem q1986 : (Jvm.Cond.methodLink "SpectrumAccess$State" (64 : Nat) ({ cls := "SpectrumAccess$State", name := "<init>", desc := "(LSpectrumAccess$Region;)V" } : Jvm.MethodName)) ∈ lw_all := lw_g (lw_at lw_m8 167 rfl) rfl
theorem q1987 : (Jvm.Cond.interfaceEntry "SpectrumAccess$State" (67 : Nat)) ∈ lw_tbl := lw_at lw_m8 168 rfl
theorem q1988 : (Jvm.Cond.methodLink "SpectrumAccess$State" (67 : Nat) ({ cls := "java/util/List", name := "addAll", desc := "(Ljava/util/Collection;)Z" } : Jvm.MethodName)) ∈ lw_all := lw_g (lw_at lw_m8 169 rfl) rfl
theorem q2014 : (Jvm.Cond.methodLink "SpectrumAccess$State" (73 : Nat) ({ cls := "SpectrumAccess$State", name := "rows", desc := "()[[I" } : Jvm.MethodName)) ∈ lw_all := lw_g (lw_at lw_m8 195 rfl) rfl
theorem q2015 : (Jvm.Cond.privateMethod ({ cls := "SpectrumAccess$State", name := "rows", desc := "()[[I" } : Jvm.MethodName)) ∈ lw_tbl := lw_at lw_m8 196 rfl
theorem q2016 : (Jvm.Cond.instanceMethod ({ cls := "SpectrumAccess$State", name := "rows", desc := "()[[I" } : Jvm.MethodName)) ∈ lw_all := lw_g (lw_at lw_m8 197 rfl) rfl
theorem q2017 : (Jvm.Cond.code ({ cls := "SpectrumAccess$State", name := "rows", desc := "()[[I" } : Jvm.MethodName) prog_18_method_3_code (1 : Nat) (Option.some (Jvm.ClassFile.FieldType.array (Jvm.ClassFile.FieldType.array Jvm.ClassFile.FieldType.int)))) ∈ lw_all := lw_g (lw_at lw_m8 198 rfl) rfl
theorem q2018 : (Jvm.Cond.classLink "SpectrumAccess$State" (63 : Nat) "[I") ∈ lw_all := lw_g (lw_at lw_m8 199 rfl) rfl
theorem q2019 : (Jvm.Cond.methodLink "SpectrumAccess$State" (77 : Nat) ({ cls := "SpectrumAccess$State", name := "copyRows", desc := "([[I[[I)V" } : Jvm.MethodName)) ∈ lw_all := lw_g (lw_at lw_m8 200 rfl) rfl
theorem q2020 : (Jvm.Cond.static ({ cls := "SpectrumAccess$State", name := "copyRows", desc := "([[I[[I)V" } : Jvm.MethodName)) ∈ lw_all := lw_g (lw_at lw_m8 201 rfl) rfl
theorem q2021 : (Jvm.Cond.code ({ cls := "SpectrumAccess$State", name := "copyRows", desc := "([[I[[I)V" } : Jvm.MethodName) prog_18_method_2_code (3 : Nat) (Option.none : Option Jvm.ClassFile.FieldType)) ∈ lw_all := lw_g (lw_at lw_m8 202 rfl) rfl
theorem q2022 : (Jvm.Cond.methodLink "SpectrumAccess$State" (57 : Nat) ({ cls := "java/lang/System", name := "arraycopy", desc := "(Ljava/lang/Object;ILjava/lang/Object;II)V" } : Jvm.MethodName)) ∈ lw_all := lw_g (lw_at lw_m8 203 rfl) rfl
theorem q2024 : (Jvm.Cond.instanceMethod ({ cls := "SpectrumAccess$State", name := "become", desc := "(II)V" } : Jvm.MethodName)) ∈ lw_all := lw_g (lw_at lw_m8 205 rfl) rfl
theorem q2025 : (Jvm.Cond.selects "SpectrumAccess$State" ({ cls := "SpectrumAccess$State", name := "become", desc := "(II)V" } : Jvm.MethodName) ({ cls := "SpectrumAccess$State", name := "become", desc := "(II)V" } : Jvm.MethodName)) ∈ lw_all := lw_g (lw_at lw_m8 206 rfl) rfl
theorem q2026 : (Jvm.Cond.code ({ cls := "SpectrumAccess$State", name := "become", desc := "(II)V" } : Jvm.MethodName) prog_18_method_27_code (3 : Nat) (Option.none : Option Jvm.ClassFile.FieldType)) ∈ lw_all := lw_g (lw_at lw_m8 207 rfl) rfl
theorem q2027 : (Jvm.Cond.methodLink "SpectrumAccess$State" (284 : Nat) ({ cls := "SpectrumAccess$State", name := "forgetLeft", desc := "()V" } : Jvm.MethodName)) ∈ lw_all := lw_g (lw_at lw_m8 208 rfl) rfl
theorem q2028 : (Jvm.Cond.instanceMethod ({ cls := "SpectrumAccess$State", name := "forgetLeft", desc := "()V" } : Jvm.MethodName)) ∈ lw_all := lw_g (lw_at lw_m8 209 rfl) rfl
theorem q2029 : (Jvm.Cond.selects "SpectrumAccess$State" ({ cls := "SpectrumAccess$State", name := "forgetLeft", desc := "()V" } : Jvm.MethodName) ({ cls := "SpectrumAccess$State", name := "forgetLeft", desc := "()V" } : Jvm.MethodName)) ∈ lw_all := lw_g (lw_at lw_m8 210 rfl) rfl
theorem q2030 : (Jvm.Cond.code ({ cls := "SpectrumAccess$State", name := "forgetLeft", desc := "()V" } : Jvm.MethodName) prog_18_method_15_code (1 : Nat) (Option.none : Option Jvm.ClassFile.FieldType)) ∈ lw_all := lw_g (lw_at lw_m8 211 rfl) rfl
theorem q2032 : (Jvm.Cond.instanceMethod ({ cls := "SpectrumAccess$State", name := "granted", desc := "(I)I" } : Jvm.MethodName)) ∈ lw_all := lw_g (lw_at lw_m8 213 rfl) rfl
theorem q2033 : (Jvm.Cond.selects "SpectrumAccess$State" ({ cls := "SpectrumAccess$State", name := "granted", desc := "(I)I" } : Jvm.MethodName) ({ cls := "SpectrumAccess$State", name := "granted", desc := "(I)I" } : Jvm.MethodName)) ∈ lw_all := lw_g (lw_at lw_m8 214 rfl) rfl
theorem q2034 : (Jvm.Cond.code ({ cls := "SpectrumAccess$State", name := "granted", desc := "(I)I" } : Jvm.MethodName) prog_18_method_23_code (2 : Nat) (Option.some Jvm.ClassFile.FieldType.int)) ∈ lw_all := lw_g (lw_at lw_m8 215 rfl) rfl
theorem q2035 : (Jvm.Cond.methodLink "SpectrumAccess$State" (287 : Nat) ({ cls := "SpectrumAccess$State", name := "searched", desc := "(I)I" } : Jvm.MethodName)) ∈ lw_all := lw_g (lw_at lw_m8 216 rfl) rfl
theorem q2036 : (Jvm.Cond.privateMethod ({ cls := "SpectrumAccess$State", name := "searched", desc := "(I)I" } : Jvm.MethodName)) ∈ lw_tbl := lw_at lw_m8 217 rfl
theorem q2037 : (Jvm.Cond.instanceMethod ({ cls := "SpectrumAccess$State", name := "searched", desc := "(I)I" } : Jvm.MethodName)) ∈ lw_all := lw_g (lw_at lw_m8 218 rfl) rfl
theorem q2038 : (Jvm.Cond.code ({ cls := "SpectrumAccess$State", name := "searched", desc := "(I)I" } : Jvm.MethodName) prog_18_method_24_code (5 : Nat) (Option.some Jvm.ClassFile.FieldType.int)) ∈ lw_all := lw_g (lw_at lw_m8 219 rfl) rfl
theorem q2039 : (Jvm.Cond.methodLink "SpectrumAccess$State" (296 : Nat) ({ cls := "SpectrumAccess$State", name := "allowedPower", desc := "(II)I" } : Jvm.MethodName)) ∈ lw_all := lw_g (lw_at lw_m8 220 rfl) rfl
theorem q2040 : (Jvm.Cond.privateMethod ({ cls := "SpectrumAccess$State", name := "allowedPower", desc := "(II)I" } : Jvm.MethodName)) ∈ lw_tbl := lw_at lw_m8 221 rfl
theorem q2041 : (Jvm.Cond.instanceMethod ({ cls := "SpectrumAccess$State", name := "allowedPower", desc := "(II)I" } : Jvm.MethodName)) ∈ lw_all := lw_g (lw_at lw_m8 222 rfl) rfl
theorem q2042 : (Jvm.Cond.code ({ cls := "SpectrumAccess$State", name := "allowedPower", desc := "(II)I" } : Jvm.MethodName) prog_18_method_22_code (4 : Nat) (Option.some Jvm.ClassFile.FieldType.int)) ∈ lw_all := lw_g (lw_at lw_m8 223 rfl) rfl
theorem q2043 : (Jvm.Cond.methodLink "SpectrumAccess$State" (228 : Nat) ({ cls := "SpectrumAccess$Device", name := "isLicensed", desc := "()Z" } : Jvm.MethodName)) ∈ lw_all := lw_g (lw_at lw_m8 224 rfl) rfl
theorem q2044 : (Jvm.Cond.methodLink "SpectrumAccess$State" (279 : Nat) ({ cls := "SpectrumAccess$State", name := "allowedPower", desc := "(LSpectrumAccess$Point;II)I" } : Jvm.MethodName)) ∈ lw_all := lw_g (lw_at lw_m8 225 rfl) rfl
theorem q2045 : (Jvm.Cond.instanceMethod ({ cls := "SpectrumAccess$State", name := "allowedPower", desc := "(LSpectrumAccess$Point;II)I" } : Jvm.MethodName)) ∈ lw_all := lw_g (lw_at lw_m8 226 rfl) rfl
theorem q2046 : (Jvm.Cond.selects "SpectrumAccess$State" ({ cls := "SpectrumAccess$State", name := "allowedPower", desc := "(LSpectrumAccess$Point;II)I" } : Jvm.MethodName) ({ cls := "SpectrumAccess$State", name := "allowedPower", desc := "(LSpectrumAccess$Point;II)I" } : Jvm.MethodName)) ∈ lw_all := lw_g (lw_at lw_m8 227 rfl) rfl
theorem q2047 : (Jvm.Cond.code ({ cls := "SpectrumAccess$State", name := "allowedPower", desc := "(LSpectrumAccess$Point;II)I" } : Jvm.MethodName) prog_18_method_21_code (4 : Nat) (Option.some Jvm.ClassFile.FieldType.int)) ∈ lw_all := lw_g (lw_at lw_m8 228 rfl) rfl
theorem q2048 : (Jvm.Cond.methodLink "SpectrumAccess$State" (265 : Nat) ({ cls := "SpectrumAccess$State", name := "isDenied", desc := "(LSpectrumAccess$Point;II)Z" } : Jvm.MethodName)) ∈ lw_all := lw_g (lw_at lw_m8 229 rfl) rfl
theorem q2049 : (Jvm.Cond.instanceMethod ({ cls := "SpectrumAccess$State", name := "isDenied", desc := "(LSpectrumAccess$Point;II)Z" } : Jvm.MethodName)) ∈ lw_all := lw_g (lw_at lw_m8 230 rfl) rfl
theorem q2050 : (Jvm.Cond.selects "SpectrumAccess$State" ({ cls := "SpectrumAccess$State", name := "isDenied", desc := "(LSpectrumAccess$Point;II)Z" } : Jvm.MethodName) ({ cls := "SpectrumAccess$State", name := "isDenied", desc := "(LSpectrumAccess$Point;II)Z" } : Jvm.MethodName)) ∈ lw_all := lw_g (lw_at lw_m8 231 rfl) rfl
theorem q2051 : (Jvm.Cond.code ({ cls := "SpectrumAccess$State", name := "isDenied", desc := "(LSpectrumAccess$Point;II)Z" } : Jvm.MethodName) prog_18_method_19_code (6 : Nat) (Option.some Jvm.ClassFile.FieldType.boolean)) ∈ lw_all := lw_g (lw_at lw_m8 232 rfl) rfl
theorem q2052 : (Jvm.Cond.classLink "SpectrumAccess$State" (259 : Nat) "SpectrumAccess$Test") ∈ lw_all := lw_g (lw_at lw_m8 233 rfl) rfl
theorem q2053 : (Jvm.Cond.methodLink "SpectrumAccess$State" (261 : Nat) ({ cls := "SpectrumAccess$Test", name := "holds", desc := "(LSpectrumAccess$Case;)Z" } : Jvm.MethodName)) ∈ lw_all := lw_g (lw_at lw_m8 234 rfl) rfl
theorem q2077 : (Jvm.Cond.methodLink "SpectrumAccess$State" (269 : Nat) ({ cls := "SpectrumAccess$State", name := "allowedByIncumbents", desc := "(LSpectrumAccess$Point;II)J" } : Jvm.MethodName)) ∈ lw_all := lw_g (lw_at lw_m9 18 rfl) rfl
theorem q2078 : (Jvm.Cond.privateMethod ({ cls := "SpectrumAccess$State", name := "allowedByIncumbents", desc := "(LSpectrumAccess$Point;II)J" } : Jvm.MethodName)) ∈ lw_tbl := lw_at lw_m9 19 rfl
theorem q2079 : (Jvm.Cond.instanceMethod ({ cls := "SpectrumAccess$State", name := "allowedByIncumbents", desc := "(LSpectrumAccess$Point;II)J" } : Jvm.MethodName)) ∈ lw_all := lw_g (lw_at lw_m9 20 rfl) rfl
theorem q2080 : (Jvm.Cond.code ({ cls := "SpectrumAccess$State", name := "allowedByIncumbents", desc := "(LSpectrumAccess$Point;II)J" } : Jvm.MethodName) prog_18_method_17_code (9 : Nat) (Option.some Jvm.ClassFile.FieldType.long)) ∈ lw_all := lw_g (lw_at lw_m9 21 rfl) rfl
theorem q2081 : (Jvm.Cond.methodLink "SpectrumAccess$State" (214 : Nat) ({ cls := "SpectrumAccess$State", name := "layLeft", desc := "()V" } : Jvm.MethodName)) ∈ lw_all := lw_g (lw_at lw_m9 22 rfl) rfl
theorem q2082 : (Jvm.Cond.privateMethod ({ cls := "SpectrumAccess$State", name := "layLeft", desc := "()V" } : Jvm.MethodName)) ∈ lw_tbl := lw_at lw_m9 23 rfl
theorem q2083 : (Jvm.Cond.instanceMethod ({ cls := "SpectrumAccess$State", name := "layLeft", desc := "()V" } : Jvm.MethodName)) ∈ lw_all := lw_g (lw_at lw_m9 24 rfl) rfl
theorem q2084 : (Jvm.Cond.code ({ cls := "SpectrumAccess$State", name := "layLeft", desc := "()V" } : Jvm.MethodName) prog_18_method_16_code (4 : Nat) (Option.none : Option Jvm.ClassFile.FieldType)) ∈ lw_all := lw_g (lw_at lw_m9 25 rfl) rfl
theorem q2085 : (Jvm.Cond.methodLink "SpectrumAccess$State" (199 : Nat) ({ cls := "SpectrumAccess$State", name := "isProtected", desc := "(I)Z" } : Jvm.MethodName)) ∈ lw_all := lw_g (lw_at lw_m9 26 rfl) rfl
theorem q2086 : (Jvm.Cond.methodLinkNest "SpectrumAccess$State" (205 : Nat) ({ cls := "SpectrumAccess$Region", name := "isLicensed", desc := "(I)Z" } : Jvm.MethodName) "SpectrumAccess") ∈ lw_tbl := lw_at lw_m9 27 rfl
theorem q2087 : (Jvm.Cond.classLink "SpectrumAccess$State" (145 : Nat) "SpectrumAccess$Point") ∈ lw_all := lw_g (lw_at lw_m9 28 rfl) rfl
theorem q2088 : (Jvm.Cond.constantLong "SpectrumAccess$State" (192 : Nat) (999 : Int64)) ∈ lw_all := lw_g (lw_at lw_m9 29 rfl) rfl
theorem q2089 : (Jvm.Cond.methodLink "SpectrumAccess$State" (217 : Nat) ({ cls := "SpectrumAccess$Point", name := "far", desc := "(LSpectrumAccess$Point;)I" } : Jvm.MethodName)) ∈ lw_all := lw_g (lw_at lw_m9 30 rfl) rfl
theorem q2090 : (Jvm.Cond.methodLink "SpectrumAccess$State" (220 : Nat) ({ cls := "SpectrumAccess$State", name := "allowed", desc := "(III)J" } : Jvm.MethodName)) ∈ lw_all := lw_g (lw_at lw_m9 31 rfl) rfl
theorem q2091 : (Jvm.Cond.privateMethod ({ cls := "SpectrumAccess$State", name := "allowed", desc := "(III)J" } : Jvm.MethodName)) ∈ lw_tbl := lw_at lw_m9 32 rfl
theorem q2092 : (Jvm.Cond.instanceMethod ({ cls := "SpectrumAccess$State", name := "allowed", desc := "(III)J" } : Jvm.MethodName)) ∈ lw_all := lw_g (lw_at lw_m9 33 rfl) rfl
theorem q2093 : (Jvm.Cond.code ({ cls := "SpectrumAccess$State", name := "allowed", desc := "(III)J" } : Jvm.MethodName) prog_18_method_14_code (4 : Nat) (Option.some Jvm.ClassFile.FieldType.long)) ∈ lw_all := lw_g (lw_at lw_m9 34 rfl) rfl
theorem q2094 : (Jvm.Cond.constantLong "SpectrumAccess$State" (190 : Nat) (-1 : Int64)) ∈ lw_all := lw_g (lw_at lw_m9 35 rfl) rfl
theorem q2095 : (Jvm.Cond.constantLong "SpectrumAccess$State" (194 : Nat) (1000 : Int64)) ∈ lw_all := lw_g (lw_at lw_m9 36 rfl) rfl
theorem q2096 : (Jvm.Cond.methodLink "SpectrumAccess$State" (224 : Nat) ({ cls := "java/lang/Math", name := "min", desc := "(JJ)J" } : Jvm.MethodName)) ∈ lw_all := lw_g (lw_at lw_m9 37 rfl) rfl
theorem q2099 : (Jvm.Cond.methodLink "SpectrumAccess$State" (273 : Nat) ({ cls := "SpectrumAccess$State", name := "allowedByLicensed", desc := "(LSpectrumAccess$Point;I)J" } : Jvm.MethodName)) ∈ lw_all := lw_g (lw_at lw_m9 40 rfl) rfl
theorem q2100 : (Jvm.Cond.privateMethod ({ cls := "SpectrumAccess$State", name := "allowedByLicensed", desc := "(LSpectrumAccess$Point;I)J" } : Jvm.MethodName)) ∈ lw_tbl := lw_at lw_m9 41 rfl
theorem q2101 : (Jvm.Cond.instanceMethod ({ cls := "SpectrumAccess$State", name := "allowedByLicensed", desc := "(LSpectrumAccess$Point;I)J" } : Jvm.MethodName)) ∈ lw_all := lw_g (lw_at lw_m9 42 rfl) rfl
theorem q2102 : (Jvm.Cond.code ({ cls := "SpectrumAccess$State", name := "allowedByLicensed", desc := "(LSpectrumAccess$Point;I)J" } : Jvm.MethodName) prog_18_method_18_code (7 : Nat) (Option.some Jvm.ClassFile.FieldType.long)) ∈ lw_all := lw_g (lw_at lw_m9 43 rfl) rfl
theorem q2103 : (Jvm.Cond.classLink "SpectrumAccess$State" (237 : Nat) "SpectrumAccess$Licence") ∈ lw_all := lw_g (lw_at lw_m9 44 rfl) rfl
theorem q2104 : (Jvm.Cond.methodLink "SpectrumAccess$State" (277 : Nat) ({ cls := "java/lang/Math", name := "max", desc := "(JJ)J" } : Jvm.MethodName)) ∈ lw_all := lw_g (lw_at lw_m9 45 rfl) rfl
theorem q2107 : (Jvm.Cond.methodLink "SpectrumAccess$State" (283 : Nat) ({ cls := "SpectrumAccess$Licence", name := "has", desc := "(I)Z" } : Jvm.MethodName)) ∈ lw_all := lw_g (lw_at lw_m9 48 rfl) rfl
theorem q2108 : (Jvm.Cond.methodLink "SpectrumAccess$State" (298 : Nat) ({ cls := "java/lang/Math", name := "min", desc := "(II)I" } : Jvm.MethodName)) ∈ lw_all := lw_g (lw_at lw_m9 49 rfl) rfl
theorem q2124 : (Jvm.Cond.instanceMethod ({ cls := "SpectrumAccess$State", name := "isDenied", desc := "(II)Z" } : Jvm.MethodName)) ∈ lw_all := lw_g (lw_at lw_m9 65 rfl) rfl
theorem q2125 : (Jvm.Cond.selects "SpectrumAccess$State" ({ cls := "SpectrumAccess$State", name := "isDenied", desc := "(II)Z" } : Jvm.MethodName) ({ cls := "SpectrumAccess$State", name := "isDenied", desc := "(II)Z" } : Jvm.MethodName)) ∈ lw_all := lw_g (lw_at lw_m9 66 rfl) rfl
theorem q2126 : (Jvm.Cond.code ({ cls := "SpectrumAccess$State", name := "isDenied", desc := "(II)Z" } : Jvm.MethodName) prog_18_method_20_code (4 : Nat) (Option.some Jvm.ClassFile.FieldType.boolean)) ∈ lw_all := lw_g (lw_at lw_m9 67 rfl) rfl
theorem q2153 : (Jvm.Cond.instanceMethod ({ cls := "SpectrumAccess$State", name := "layQueue", desc := "()I" } : Jvm.MethodName)) ∈ lw_all := lw_g (lw_at lw_m9 94 rfl) rfl
theorem q2154 : (Jvm.Cond.selects "SpectrumAccess$State" ({ cls := "SpectrumAccess$State", name := "layQueue", desc := "()I" } : Jvm.MethodName) ({ cls := "SpectrumAccess$State", name := "layQueue", desc := "()I" } : Jvm.MethodName)) ∈ lw_all := lw_g (lw_at lw_m9 95 rfl) rfl
theorem q2155 : (Jvm.Cond.code ({ cls := "SpectrumAccess$State", name := "layQueue", desc := "()I" } : Jvm.MethodName) prog_18_method_25_code (3 : Nat) (Option.some Jvm.ClassFile.FieldType.int)) ∈ lw_all := lw_g (lw_at lw_m9 96 rfl) rfl
theorem q2156 : (Jvm.Cond.methodLink "SpectrumAccess$State" (307 : Nat) ({ cls := "java/util/PriorityQueue", name := "clear", desc := "()V" } : Jvm.MethodName)) ∈ lw_all := lw_g (lw_at lw_m9 97 rfl) rfl
theorem q2160 : (Jvm.Cond.classLink "SpectrumAccess$State" (315 : Nat) "SpectrumAccess$Waiting") ∈ lw_all := lw_g (lw_at lw_m9 101 rfl) rfl
theorem q2161 : (Jvm.Cond.methodLink "SpectrumAccess$State" (321 : Nat) ({ cls := "java/util/PriorityQueue", name := "add", desc := "(Ljava/lang/Object;)Z" } : Jvm.MethodName)) ∈ lw_all := lw_g (lw_at lw_m9 102 rfl) rfl
theorem q2383 : (Jvm.Cond.methodLink "SpectrumAccess$State" (322 : Nat) ({ cls := "java/util/PriorityQueue", name := "size", desc := "()I" } : Jvm.MethodName)) ∈ lw_all := lw_g (lw_at lw_m10 84 rfl) rfl
theorem q2387 : (Jvm.Cond.methodLink "SpectrumAccess$State" (326 : Nat) ({ cls := "java/util/PriorityQueue", name := "poll", desc := "()Ljava/lang/Object;" } : Jvm.MethodName)) ∈ lw_all := lw_g (lw_at lw_m10 88 rfl) rfl
theorem q2505 : (Jvm.Cond.instanceMethod ({ cls := "SpectrumAccess$State", name := "run", desc := "(I)I" } : Jvm.MethodName)) ∈ lw_all := lw_g (lw_at lw_m10 206 rfl) rfl
theorem q2506 : (Jvm.Cond.selects "SpectrumAccess$State" ({ cls := "SpectrumAccess$State", name := "run", desc := "(I)I" } : Jvm.MethodName) ({ cls := "SpectrumAccess$State", name := "run", desc := "(I)I" } : Jvm.MethodName)) ∈ lw_all := lw_g (lw_at lw_m10 207 rfl) rfl
theorem q2507 : (Jvm.Cond.code ({ cls := "SpectrumAccess$State", name := "run", desc := "(I)I" } : Jvm.MethodName) prog_18_method_35_code (4 : Nat) (Option.some Jvm.ClassFile.FieldType.int)) ∈ lw_all := lw_g (lw_at lw_m10 208 rfl) rfl
theorem q2508 : (Jvm.Cond.methodLink "SpectrumAccess$State" (369 : Nat) ({ cls := "SpectrumAccess$State", name := "tick", desc := "()V" } : Jvm.MethodName)) ∈ lw_all := lw_g (lw_at lw_m10 209 rfl) rfl
theorem q2509 : (Jvm.Cond.instanceMethod ({ cls := "SpectrumAccess$State", name := "tick", desc := "()V" } : Jvm.MethodName)) ∈ lw_all := lw_g (lw_at lw_m10 210 rfl) rfl
theorem q2510 : (Jvm.Cond.selects "SpectrumAccess$State" ({ cls := "SpectrumAccess$State", name := "tick", desc := "()V" } : Jvm.MethodName) ({ cls := "SpectrumAccess$State", name := "tick", desc := "()V" } : Jvm.MethodName)) ∈ lw_all := lw_g (lw_at lw_m10 211 rfl) rfl
theorem q2511 : (Jvm.Cond.code ({ cls := "SpectrumAccess$State", name := "tick", desc := "()V" } : Jvm.MethodName) prog_18_method_34_code (3 : Nat) (Option.none : Option Jvm.ClassFile.FieldType)) ∈ lw_all := lw_g (lw_at lw_m10 212 rfl) rfl
theorem q2512 : (Jvm.Cond.methodLink "SpectrumAccess$State" (333 : Nat) ({ cls := "SpectrumAccess$State", name := "write", desc := "(II)V" } : Jvm.MethodName)) ∈ lw_all := lw_g (lw_at lw_m10 213 rfl) rfl
theorem q2513 : (Jvm.Cond.privateMethod ({ cls := "SpectrumAccess$State", name := "write", desc := "(II)V" } : Jvm.MethodName)) ∈ lw_tbl := lw_at lw_m10 214 rfl
theorem q2514 : (Jvm.Cond.instanceMethod ({ cls := "SpectrumAccess$State", name := "write", desc := "(II)V" } : Jvm.MethodName)) ∈ lw_all := lw_g (lw_at lw_m10 215 rfl) rfl
theorem q2515 : (Jvm.Cond.code ({ cls := "SpectrumAccess$State", name := "write", desc := "(II)V" } : Jvm.MethodName) prog_18_method_26_code (3 : Nat) (Option.none : Option Jvm.ClassFile.FieldType)) ∈ lw_all := lw_g (lw_at lw_m10 216 rfl) rfl
theorem q2516 : (Jvm.Cond.methodLink "SpectrumAccess$State" (337 : Nat) ({ cls := "SpectrumAccess$State", name := "become", desc := "(II)V" } : Jvm.MethodName)) ∈ lw_all := lw_g (lw_at lw_m10 217 rfl) rfl
theorem q2517 : (Jvm.Cond.methodLink "SpectrumAccess$State" (357 : Nat) ({ cls := "SpectrumAccess$State", name := "forceMoves", desc := "()V" } : Jvm.MethodName)) ∈ lw_all := lw_g (lw_at lw_m10 218 rfl) rfl
theorem q2518 : (Jvm.Cond.privateMethod ({ cls := "SpectrumAccess$State", name := "forceMoves", desc := "()V" } : Jvm.MethodName)) ∈ lw_tbl := lw_at lw_m10 219 rfl
theorem q2519 : (Jvm.Cond.instanceMethod ({ cls := "SpectrumAccess$State", name := "forceMoves", desc := "()V" } : Jvm.MethodName)) ∈ lw_all := lw_g (lw_at lw_m10 220 rfl) rfl
theorem q2520 : (Jvm.Cond.code ({ cls := "SpectrumAccess$State", name := "forceMoves", desc := "()V" } : Jvm.MethodName) prog_18_method_32_code (1 : Nat) (Option.none : Option Jvm.ClassFile.FieldType)) ∈ lw_all := lw_g (lw_at lw_m10 221 rfl) rfl
theorem q2521 : (Jvm.Cond.methodLink "SpectrumAccess$State" (348 : Nat) ({ cls := "SpectrumAccess$State", name := "forceDenied", desc := "()V" } : Jvm.MethodName)) ∈ lw_all := lw_g (lw_at lw_m10 222 rfl) rfl
theorem q2522 : (Jvm.Cond.privateMethod ({ cls := "SpectrumAccess$State", name := "forceDenied", desc := "()V" } : Jvm.MethodName)) ∈ lw_tbl := lw_at lw_m10 223 rfl
theorem q2523 : (Jvm.Cond.instanceMethod ({ cls := "SpectrumAccess$State", name := "forceDenied", desc := "()V" } : Jvm.MethodName)) ∈ lw_all := lw_g (lw_at lw_m10 224 rfl) rfl
theorem q2524 : (Jvm.Cond.code ({ cls := "SpectrumAccess$State", name := "forceDenied", desc := "()V" } : Jvm.MethodName) prog_18_method_31_code (2 : Nat) (Option.none : Option Jvm.ClassFile.FieldType)) ∈ lw_all := lw_g (lw_at lw_m10 225 rfl) rfl
theorem q2525 : (Jvm.Cond.methodLink "SpectrumAccess$State" (346 : Nat) ({ cls := "SpectrumAccess$State", name := "isDenied", desc := "(II)Z" } : Jvm.MethodName)) ∈ lw_all := lw_g (lw_at lw_m10 226 rfl) rfl
theorem q2526 : (Jvm.Cond.methodLink "SpectrumAccess$State" (343 : Nat) ({ cls := "SpectrumAccess$State", name := "move", desc := "(I)V" } : Jvm.MethodName)) ∈ lw_all := lw_g (lw_at lw_m10 227 rfl) rfl
theorem q2527 : (Jvm.Cond.privateMethod ({ cls := "SpectrumAccess$State", name := "move", desc := "(I)V" } : Jvm.MethodName)) ∈ lw_tbl := lw_at lw_m10 228 rfl
theorem q2528 : (Jvm.Cond.instanceMethod ({ cls := "SpectrumAccess$State", name := "move", desc := "(I)V" } : Jvm.MethodName)) ∈ lw_all := lw_g (lw_at lw_m10 229 rfl) rfl
theorem q2529 : (Jvm.Cond.code ({ cls := "SpectrumAccess$State", name := "move", desc := "(I)V" } : Jvm.MethodName) prog_18_method_28_code (2 : Nat) (Option.none : Option Jvm.ClassFile.FieldType)) ∈ lw_all := lw_g (lw_at lw_m10 230 rfl) rfl
theorem q2530 : (Jvm.Cond.methodLink "SpectrumAccess$State" (351 : Nat) ({ cls := "SpectrumAccess$State", name := "protectIncumbents", desc := "()V" } : Jvm.MethodName)) ∈ lw_all := lw_g (lw_at lw_m10 231 rfl) rfl
theorem q2531 : (Jvm.Cond.privateMethod ({ cls := "SpectrumAccess$State", name := "protectIncumbents", desc := "()V" } : Jvm.MethodName)) ∈ lw_tbl := lw_at lw_m10 232 rfl
theorem q2532 : (Jvm.Cond.instanceMethod ({ cls := "SpectrumAccess$State", name := "protectIncumbents", desc := "()V" } : Jvm.MethodName)) ∈ lw_all := lw_g (lw_at lw_m10 233 rfl) rfl
theorem q2533 : (Jvm.Cond.code ({ cls := "SpectrumAccess$State", name := "protectIncumbents", desc := "()V" } : Jvm.MethodName) prog_18_method_29_code (5 : Nat) (Option.none : Option Jvm.ClassFile.FieldType)) ∈ lw_all := lw_g (lw_at lw_m10 234 rfl) rfl
theorem q2534 : (Jvm.Cond.methodLink "SpectrumAccess$State" (340 : Nat) ({ cls := "SpectrumAccess$State", name := "loudest", desc := "(LSpectrumAccess$Point;ILSpectrumAccess$Some;)I" } : Jvm.MethodName)) ∈ lw_all := lw_g (lw_at lw_m10 235 rfl) rfl
theorem q2535 : (Jvm.Cond.privateMethod ({ cls := "SpectrumAccess$State", name := "loudest", desc := "(LSpectrumAccess$Point;ILSpectrumAccess$Some;)I" } : Jvm.MethodName)) ∈ lw_tbl := lw_at lw_m10 236 rfl
theorem q2536 : (Jvm.Cond.instanceMethod ({ cls := "SpectrumAccess$State", name := "loudest", desc := "(LSpectrumAccess$Point;ILSpectrumAccess$Some;)I" } : Jvm.MethodName)) ∈ lw_all := lw_g (lw_at lw_m10 237 rfl) rfl
theorem q2537 : (Jvm.Cond.code ({ cls := "SpectrumAccess$State", name := "loudest", desc := "(LSpectrumAccess$Point;ILSpectrumAccess$Some;)I" } : Jvm.MethodName) prog_18_method_11_code (8 : Nat) (Option.some Jvm.ClassFile.FieldType.int)) ∈ lw_all := lw_g (lw_at lw_m10 238 rfl) rfl
theorem q2538 : (Jvm.Cond.methodLink "SpectrumAccess$State" (354 : Nat) ({ cls := "SpectrumAccess$State", name := "protectLicensed", desc := "()V" } : Jvm.MethodName)) ∈ lw_all := lw_g (lw_at lw_m10 239 rfl) rfl
theorem q2539 : (Jvm.Cond.privateMethod ({ cls := "SpectrumAccess$State", name := "protectLicensed", desc := "()V" } : Jvm.MethodName)) ∈ lw_tbl := lw_at lw_m11 0 rfl
theorem q2540 : (Jvm.Cond.instanceMethod ({ cls := "SpectrumAccess$State", name := "protectLicensed", desc := "()V" } : Jvm.MethodName)) ∈ lw_all := lw_g (lw_at lw_m11 1 rfl) rfl
theorem q2541 : (Jvm.Cond.code ({ cls := "SpectrumAccess$State", name := "protectLicensed", desc := "()V" } : Jvm.MethodName) prog_18_method_30_code (6 : Nat) (Option.none : Option Jvm.ClassFile.FieldType)) ∈ lw_all := lw_g (lw_at lw_m11 2 rfl) rfl
theorem q2542 : (Jvm.Cond.methodLink "SpectrumAccess$State" (363 : Nat) ({ cls := "SpectrumAccess$State", name := "layQueue", desc := "()I" } : Jvm.MethodName)) ∈ lw_all := lw_g (lw_at lw_m11 3 rfl) rfl
theorem q2543 : (Jvm.Cond.methodLink "SpectrumAccess$State" (366 : Nat) ({ cls := "SpectrumAccess$State", name := "grant", desc := "(I)V" } : Jvm.MethodName)) ∈ lw_all := lw_g (lw_at lw_m11 4 rfl) rfl
theorem q2544 : (Jvm.Cond.privateMethod ({ cls := "SpectrumAccess$State", name := "grant", desc := "(I)V" } : Jvm.MethodName)) ∈ lw_tbl := lw_at lw_m11 5 rfl
theorem q2545 : (Jvm.Cond.instanceMethod ({ cls := "SpectrumAccess$State", name := "grant", desc := "(I)V" } : Jvm.MethodName)) ∈ lw_all := lw_g (lw_at lw_m11 6 rfl) rfl
theorem q2546 : (Jvm.Cond.code ({ cls := "SpectrumAccess$State", name := "grant", desc := "(I)V" } : Jvm.MethodName) prog_18_method_33_code (3 : Nat) (Option.none : Option Jvm.ClassFile.FieldType)) ∈ lw_all := lw_g (lw_at lw_m11 7 rfl) rfl
theorem q2562 : (Jvm.Cond.instanceMethod ({ cls := "SpectrumAccess$State", name := "allAirtime", desc := "()I" } : Jvm.MethodName)) ∈ lw_all := lw_g (lw_at lw_m11 23 rfl) rfl
theorem q2563 : (Jvm.Cond.selects "SpectrumAccess$State" ({ cls := "SpectrumAccess$State", name := "allAirtime", desc := "()I" } : Jvm.MethodName) ({ cls := "SpectrumAccess$State", name := "allAirtime", desc := "()I" } : Jvm.MethodName)) ∈ lw_all := lw_g (lw_at lw_m11 24 rfl) rfl
theorem q2564 : (Jvm.Cond.code ({ cls := "SpectrumAccess$State", name := "allAirtime", desc := "()I" } : Jvm.MethodName) prog_18_method_36_code (3 : Nat) (Option.some Jvm.ClassFile.FieldType.int)) ∈ lw_all := lw_g (lw_at lw_m11 25 rfl) rfl
theorem q3487 : (Jvm.Cond.castable "SpectrumAccess$State" "java/lang/Object") ∈ lw_tbl := lw_at lw_m14 228 rfl
theorem in_X8 : ∀ w ∈ wsX80, w ∈ lw_all := lw_in wsX80 [1042, 1044, 1046, 1048, 1050, 1052, 1054, 1056, 1058, 1060, 1062, 1064, 1066, 1068, 1070, 1072, 1074, 1076] (by decide +kernel) (by decide +kernel)


/-! SpectrumAccess$Flaw -/
set_option maxRecDepth 100000
def RX9 : String := "SpectrumAccess$Flaw"
def TX9 : u_T := fun k => match k with
  | 0 => ("java/lang/Throwable", "cause", "Ljava/lang/Throwable;", false)
  | 1 => ("java/lang/Throwable", "stackTrace", "[Ljava/lang/StackTraceElement;", false)
  | 2 => ("java/lang/Throwable", "suppressedExceptions", "Ljava/util/List;", false)
  | 3 => ("java/lang/Throwable", "detailMessage", "Ljava/lang/String;", false)
  | 4 => ("java/lang/Throwable", "backtrace", "Ljava/lang/Object;", false)
  | 5 => ("java/lang/Throwable", "depth", "I", false)
  | 6 => ("SpectrumAccess$Flaw", "code", "I", true)
  | _ => ("SpectrumAccess$Flaw", "position", "I", true)
def tyX9 : Nat → FieldType := fun k => match k with
  | 0 => .object "java/lang/Throwable"
  | 1 => .array (.object "java/lang/StackTraceElement")
  | 2 => .object "java/util/List"
  | 3 => .object "java/lang/String"
  | 4 => .object "java/lang/Object"
  | 5 => .int
  | 6 => .int
  | _ => .int
abbrev wsX90 : List Cond := u_ws RX9 TX9 8
theorem nmX9 : ∀ a, a < 8 → ∀ b, b < 8 → a ≠ b → (TX9 a).2.1 ≠ (TX9 b).2.1 := by decide +kernel
theorem tyX9_ok : ∀ k, k < 8 → parseFieldDescriptor (TX9 k).2.2.1 = some (tyX9 k) := by decide +kernel
abbrev cX9_init : ByteArray := prog_7_method_1_code
def yX9_init : MethodName := ⟨RX9, "<init>", "(II)V"⟩
def dkwX9_init_0 : List UInt8 := [42, 1, 1, 3, 3, 183, 0, 1, 42, 27, 181, 0, 7, 42, 28, 181, 0, 13, 177]
abbrev dktX9_init_0 : List UInt8 := dkwX9_init_0 ++ []
theorem dksX9_init_0 : cX9_init.data.toList.drop 0 = dktX9_init_0 := by decide +kernel
theorem dX9_init_0 : decode cX9_init 0 = .ok (.aload_n 0, 1) := dk_42 (dk_at dksX9_init_0 0 rfl rfl)
theorem dX9_init_1 : decode cX9_init 1 = .ok (.aconst_null, 1) := dk_1 (dk_at dksX9_init_0 1 rfl rfl)
theorem dX9_init_2 : decode cX9_init 2 = .ok (.aconst_null, 1) := dk_1 (dk_at dksX9_init_0 2 rfl rfl)
theorem dX9_init_3 : decode cX9_init 3 = .ok (.iconst 0, 1) := dk_3 (dk_at dksX9_init_0 3 rfl rfl)
theorem dX9_init_4 : decode cX9_init 4 = .ok (.iconst 0, 1) := dk_3 (dk_at dksX9_init_0 4 rfl rfl)
theorem dX9_init_5 : decode cX9_init 5 = .ok (.invokespecial 1, 3) := dk_183 0 1 (dk_at dksX9_init_0 5 rfl rfl)
theorem dX9_init_8 : decode cX9_init 8 = .ok (.aload_n 0, 1) := dk_42 (dk_at dksX9_init_0 8 rfl rfl)
theorem dX9_init_9 : decode cX9_init 9 = .ok (.iload_n 1, 1) := dk_27 (dk_at dksX9_init_0 9 rfl rfl)
theorem dX9_init_10 : decode cX9_init 10 = .ok (.putfield 7, 3) := dk_181 0 7 (dk_at dksX9_init_0 10 rfl rfl)
theorem dX9_init_13 : decode cX9_init 13 = .ok (.aload_n 0, 1) := dk_42 (dk_at dksX9_init_0 13 rfl rfl)
theorem dX9_init_14 : decode cX9_init 14 = .ok (.iload_n 2, 1) := dk_28 (dk_at dksX9_init_0 14 rfl rfl)
theorem dX9_init_15 : decode cX9_init 15 = .ok (.putfield 13, 3) := dk_181 0 13 (dk_at dksX9_init_0 15 rfl rfl)
theorem dX9_init_18 : decode cX9_init 18 = .ok (.return_, 1) := dk_177 (dk_at dksX9_init_0 18 rfl rfl)
theorem q173 : (Jvm.Cond.initialized "SpectrumAccess$Flaw") ∈ lw_all := lw_g (lw_at lw_m1 34 rfl) rfl
theorem q388 : (Jvm.Cond.selects "SpectrumAccess$Flaw" ({ cls := "java/lang/Throwable", name := "fillInStackTrace", desc := "()Ljava/lang/Throwable;" } : Jvm.MethodName) ({ cls := "java/lang/Throwable", name := "fillInStackTrace", desc := "()Ljava/lang/Throwable;" } : Jvm.MethodName)) ∈ lw_all := lw_g (lw_at lw_m2 9 rfl) rfl
theorem q874 : (Jvm.Cond.selects "SpectrumAccess$Flaw" ({ cls := "java/lang/Object", name := "getClass", desc := "()Ljava/lang/Class;" } : Jvm.MethodName) ({ cls := "java/lang/Object", name := "getClass", desc := "()Ljava/lang/Class;" } : Jvm.MethodName)) ∈ lw_all := lw_g (lw_at lw_m4 15 rfl) rfl
theorem q1262 : (Jvm.Cond.instantiable "SpectrumAccess$Flaw" (8 : Nat)) ∈ lw_all := lw_g (lw_at lw_m5 163 rfl) rfl
theorem q1263 : (Jvm.Cond.castable "SpectrumAccess$Flaw" "SpectrumAccess$Flaw") ∈ lw_tbl := lw_at lw_m5 164 rfl
theorem q1264 : (Jvm.Cond.selects "SpectrumAccess$Flaw" ({ cls := "java/lang/Throwable", name := "fillInStackTrace", desc := "(I)Ljava/lang/Throwable;" } : Jvm.MethodName) ({ cls := "java/lang/Throwable", name := "fillInStackTrace", desc := "(I)Ljava/lang/Throwable;" } : Jvm.MethodName)) ∈ lw_all := lw_g (lw_at lw_m5 165 rfl) rfl
theorem q1265 : (Jvm.Cond.lays "SpectrumAccess$Flaw" "java/lang/Throwable" "cause" "Ljava/lang/Throwable;") ∈ lw_all := lw_g (lw_at lw_m5 166 rfl) rfl
theorem q1266 : (Jvm.Cond.lays "SpectrumAccess$Flaw" "java/lang/Throwable" "stackTrace" "[Ljava/lang/StackTraceElement;") ∈ lw_all := lw_g (lw_at lw_m5 167 rfl) rfl
theorem q1267 : (Jvm.Cond.lays "SpectrumAccess$Flaw" "java/lang/Throwable" "suppressedExceptions" "Ljava/util/List;") ∈ lw_all := lw_g (lw_at lw_m5 168 rfl) rfl
theorem q1268 : (Jvm.Cond.lays "SpectrumAccess$Flaw" "java/lang/Throwable" "detailMessage" "Ljava/lang/String;") ∈ lw_all := lw_g (lw_at lw_m5 169 rfl) rfl
theorem q1269 : (Jvm.Cond.lays "SpectrumAccess$Flaw" "java/lang/Throwable" "backtrace" "Ljava/lang/Object;") ∈ lw_all := lw_g (lw_at lw_m5 170 rfl) rfl
theorem q1271 : (Jvm.Cond.instanceMethod ({ cls := "SpectrumAccess$Flaw", name := "<init>", desc := "(II)V" } : Jvm.MethodName)) ∈ lw_all := lw_g (lw_at lw_m5 172 rfl) rfl
theorem q1272 : (Jvm.Cond.code ({ cls := "SpectrumAccess$Flaw", name := "<init>", desc := "(II)V" } : Jvm.MethodName) prog_7_method_1_code (3 : Nat) (Option.none : Option Jvm.ClassFile.FieldType)) ∈ lw_all := lw_g (lw_at lw_m5 173 rfl) rfl
theorem q1273 : (Jvm.Cond.methodLink "SpectrumAccess$Flaw" (1 : Nat) ({ cls := "java/lang/Exception", name := "<init>", desc := "(Ljava/lang/String;Ljava/lang/Throwable;ZZ)V" } : Jvm.MethodName)) ∈ lw_all := lw_g (lw_at lw_m5 174 rfl) rfl
theorem q1279 : (Jvm.Cond.fieldLink "SpectrumAccess$Flaw" (7 : Nat) "SpectrumAccess$Flaw" "code" "I") ∈ lw_all := lw_g (lw_at lw_m5 180 rfl) rfl
theorem q1281 : (Jvm.Cond.fieldLink "SpectrumAccess$Flaw" (13 : Nat) "SpectrumAccess$Flaw" "position" "I") ∈ lw_all := lw_g (lw_at lw_m5 182 rfl) rfl
theorem q1283 : (Jvm.Cond.laysFinal "SpectrumAccess$Flaw" "SpectrumAccess$Flaw" "code" "I") ∈ lw_all := lw_g (lw_at lw_m5 184 rfl) rfl
theorem q1284 : (Jvm.Cond.soleField "SpectrumAccess$Flaw" "code") ∈ lw_all := lw_g (lw_at lw_m5 185 rfl) rfl
theorem q1285 : (Jvm.Cond.laysFinal "SpectrumAccess$Flaw" "SpectrumAccess$Flaw" "position" "I") ∈ lw_all := lw_g (lw_at lw_m5 186 rfl) rfl
theorem q1286 : (Jvm.Cond.soleField "SpectrumAccess$Flaw" "position") ∈ lw_all := lw_g (lw_at lw_m5 187 rfl) rfl
theorem q1287 : (Jvm.Cond.lays "SpectrumAccess$Flaw" "java/lang/Throwable" "depth" "I") ∈ lw_all := lw_g (lw_at lw_m5 188 rfl) rfl
theorem q1288 : (Jvm.Cond.superclass "SpectrumAccess$Flaw" "java/lang/Exception") ∈ lw_all := lw_g (lw_at lw_m5 189 rfl) rfl
theorem q3502 : (Jvm.Cond.castable "SpectrumAccess$Flaw" "java/lang/Object") ∈ lw_tbl := lw_at lw_m15 3 rfl
theorem in_X9 : ∀ w ∈ wsX90, w ∈ lw_all := lw_in wsX90 [1265, 1266, 1267, 1268, 1269, 1287, 1283, 1285] (by decide +kernel) (by decide +kernel)


theorem q2549 : (Jvm.Cond.interfaceMethod "SpectrumAccess$Question" "SpectrumAccess$Question" "answer" "(LSpectrumAccess$State;)I") ∈ lw_tbl := lw_at lw_m11 10 rfl
set_option maxRecDepth 100000
theorem q2550 : (Jvm.Cond.declares ({ cls := "SpectrumAccess$Question", name := "answer", desc := "(LSpectrumAccess$State;)I" } : Jvm.MethodName)) ∈ lw_tbl := lw_at lw_m11 11 rfl


theorem q1813 : (Jvm.Cond.interfaceMethod "SpectrumAccess$Some" "SpectrumAccess$Some" "has" "(I)Z") ∈ lw_tbl := lw_at lw_m7 234 rfl
set_option maxRecDepth 100000
theorem q1814 : (Jvm.Cond.declares ({ cls := "SpectrumAccess$Some", name := "has", desc := "(I)Z" } : Jvm.MethodName)) ∈ lw_tbl := lw_at lw_m7 235 rfl


theorem q544 : (Jvm.Cond.sameMethod "[B" "java/lang/Object" "clone" "()Ljava/lang/Object;") ∈ lw_all := lw_g (lw_at lw_m2 165 rfl) rfl
set_option maxRecDepth 100000
theorem q547 : (Jvm.Cond.selects "[B" ({ cls := "[B", name := "clone", desc := "()Ljava/lang/Object;" } : Jvm.MethodName) ({ cls := "java/lang/Object", name := "clone", desc := "()Ljava/lang/Object;" } : Jvm.MethodName)) ∈ lw_all := lw_g (lw_at lw_m2 168 rfl) rfl
theorem q548 : (Jvm.Cond.castable "[B" "java/lang/Cloneable") ∈ lw_tbl := lw_at lw_m2 169 rfl
theorem q3520 : (Jvm.Cond.castable "[B" "java/lang/Object") ∈ lw_tbl := lw_at lw_m15 21 rfl


theorem q3522 : (Jvm.Cond.castable "[I" "java/lang/Object") ∈ lw_tbl := lw_at lw_m15 23 rfl
set_option maxRecDepth 100000


theorem q3527 : (Jvm.Cond.castable "[J" "java/lang/Object") ∈ lw_tbl := lw_at lw_m15 28 rfl
set_option maxRecDepth 100000


theorem q3521 : (Jvm.Cond.castable "[LSpectrumAccess$State;" "java/lang/Object") ∈ lw_tbl := lw_at lw_m15 22 rfl
set_option maxRecDepth 100000


theorem q3517 : (Jvm.Cond.sameMethod "[Ljava/lang/Object;" "java/lang/Object" "getClass" "()Ljava/lang/Class;") ∈ lw_all := lw_g (lw_at lw_m15 18 rfl) rfl
set_option maxRecDepth 100000
theorem q3518 : (Jvm.Cond.selects "[Ljava/lang/Object;" ({ cls := "java/lang/Object", name := "getClass", desc := "()Ljava/lang/Class;" } : Jvm.MethodName) ({ cls := "java/lang/Object", name := "getClass", desc := "()Ljava/lang/Class;" } : Jvm.MethodName)) ∈ lw_all := lw_g (lw_at lw_m15 19 rfl) rfl
theorem q3524 : (Jvm.Cond.castable "[Ljava/lang/Object;" "java/lang/Object") ∈ lw_tbl := lw_at lw_m15 25 rfl


theorem q3526 : (Jvm.Cond.castable "[Ljava/lang/String;" "java/lang/Object") ∈ lw_tbl := lw_at lw_m15 27 rfl
set_option maxRecDepth 100000


theorem q3523 : (Jvm.Cond.castable "[Z" "java/lang/Object") ∈ lw_tbl := lw_at lw_m15 24 rfl
set_option maxRecDepth 100000


theorem q3525 : (Jvm.Cond.castable "[[I" "java/lang/Object") ∈ lw_tbl := lw_at lw_m15 26 rfl
set_option maxRecDepth 100000


theorem q1238 : (Jvm.Cond.interfaceMethod "java/lang/CharSequence" "java/lang/CharSequence" "toString" "()Ljava/lang/String;") ∈ lw_tbl := lw_at lw_m5 139 rfl
set_option maxRecDepth 100000
theorem q1239 : (Jvm.Cond.declares ({ cls := "java/lang/CharSequence", name := "toString", desc := "()Ljava/lang/String;" } : Jvm.MethodName)) ∈ lw_tbl := lw_at lw_m5 140 rfl
theorem q1590 : (Jvm.Cond.interfaceMethod "java/lang/CharSequence" "java/lang/CharSequence" "charAt" "(I)C") ∈ lw_tbl := lw_at lw_m7 11 rfl
theorem q1591 : (Jvm.Cond.declares ({ cls := "java/lang/CharSequence", name := "charAt", desc := "(I)C" } : Jvm.MethodName)) ∈ lw_tbl := lw_at lw_m7 12 rfl
theorem q1689 : (Jvm.Cond.interfaceMethod "java/lang/CharSequence" "java/lang/CharSequence" "length" "()I") ∈ lw_tbl := lw_at lw_m7 110 rfl
theorem q1690 : (Jvm.Cond.declares ({ cls := "java/lang/CharSequence", name := "length", desc := "()I" } : Jvm.MethodName)) ∈ lw_tbl := lw_at lw_m7 111 rfl


theorem q2205 : (Jvm.Cond.interfaceMethod "java/lang/Comparable" "java/lang/Comparable" "compareTo" "(Ljava/lang/Object;)I") ∈ lw_tbl := lw_at lw_m9 146 rfl
set_option maxRecDepth 100000
theorem q2206 : (Jvm.Cond.declares ({ cls := "java/lang/Comparable", name := "compareTo", desc := "(Ljava/lang/Object;)I" } : Jvm.MethodName)) ∈ lw_tbl := lw_at lw_m9 147 rfl


theorem q163 : (Jvm.Cond.initialized "java/lang/Number") ∈ lw_all := lw_g (lw_at lw_m1 24 rfl) rfl
set_option maxRecDepth 100000


theorem q160 : (Jvm.Cond.initialized "java/lang/System") ∈ lw_all := lw_g (lw_at lw_m1 21 rfl) rfl
set_option maxRecDepth 100000
theorem q554 : (Jvm.Cond.static ({ cls := "java/lang/System", name := "arraycopy", desc := "(Ljava/lang/Object;ILjava/lang/Object;II)V" } : Jvm.MethodName)) ∈ lw_all := lw_g (lw_at lw_m2 175 rfl) rfl
theorem q555 : (Jvm.Cond.native ({ cls := "java/lang/System", name := "arraycopy", desc := "(Ljava/lang/Object;ILjava/lang/Object;II)V" } : Jvm.MethodName)) ∈ lw_all := lw_g (lw_at lw_m2 176 rfl) rfl


theorem q1998 : (Jvm.Cond.interfaceMethod "java/util/Collection" "java/util/Collection" "toArray" "()[Ljava/lang/Object;") ∈ lw_tbl := lw_at lw_m8 179 rfl
set_option maxRecDepth 100000
theorem q1999 : (Jvm.Cond.declares ({ cls := "java/util/Collection", name := "toArray", desc := "()[Ljava/lang/Object;" } : Jvm.MethodName)) ∈ lw_tbl := lw_at lw_m8 180 rfl


theorem q2183 : (Jvm.Cond.interfaceMethod "java/util/Comparator" "java/util/Comparator" "compare" "(Ljava/lang/Object;Ljava/lang/Object;)I") ∈ lw_tbl := lw_at lw_m9 124 rfl
set_option maxRecDepth 100000
theorem q2184 : (Jvm.Cond.declares ({ cls := "java/util/Comparator", name := "compare", desc := "(Ljava/lang/Object;Ljava/lang/Object;)I" } : Jvm.MethodName)) ∈ lw_tbl := lw_at lw_m9 125 rfl


theorem q311 : (Jvm.Cond.interfaceMethod "java/util/List" "java/util/List" "size" "()I") ∈ lw_tbl := lw_at lw_m1 172 rfl
set_option maxRecDepth 100000
theorem q312 : (Jvm.Cond.declares ({ cls := "java/util/List", name := "size", desc := "()I" } : Jvm.MethodName)) ∈ lw_tbl := lw_at lw_m1 173 rfl
theorem q760 : (Jvm.Cond.interfaceMethod "java/util/List" "java/util/List" "get" "(I)Ljava/lang/Object;") ∈ lw_tbl := lw_at lw_m3 141 rfl
theorem q761 : (Jvm.Cond.declares ({ cls := "java/util/List", name := "get", desc := "(I)Ljava/lang/Object;" } : Jvm.MethodName)) ∈ lw_tbl := lw_at lw_m3 142 rfl
theorem q843 : (Jvm.Cond.interfaceMethod "java/util/List" "java/util/List" "add" "(Ljava/lang/Object;)Z") ∈ lw_tbl := lw_at lw_m3 224 rfl
theorem q844 : (Jvm.Cond.declares ({ cls := "java/util/List", name := "add", desc := "(Ljava/lang/Object;)Z" } : Jvm.MethodName)) ∈ lw_tbl := lw_at lw_m3 225 rfl
theorem q1699 : (Jvm.Cond.interfaceMethod "java/util/List" "java/util/List" "isEmpty" "()Z") ∈ lw_tbl := lw_at lw_m7 120 rfl
theorem q1700 : (Jvm.Cond.declares ({ cls := "java/util/List", name := "isEmpty", desc := "()Z" } : Jvm.MethodName)) ∈ lw_tbl := lw_at lw_m7 121 rfl
theorem q1708 : (Jvm.Cond.interfaceMethod "java/util/List" "java/util/List" "clear" "()V") ∈ lw_tbl := lw_at lw_m7 129 rfl
theorem q1709 : (Jvm.Cond.declares ({ cls := "java/util/List", name := "clear", desc := "()V" } : Jvm.MethodName)) ∈ lw_tbl := lw_at lw_m7 130 rfl
theorem q1989 : (Jvm.Cond.interfaceMethod "java/util/List" "java/util/List" "addAll" "(Ljava/util/Collection;)Z") ∈ lw_tbl := lw_at lw_m8 170 rfl
theorem q1990 : (Jvm.Cond.declares ({ cls := "java/util/List", name := "addAll", desc := "(Ljava/util/Collection;)Z" } : Jvm.MethodName)) ∈ lw_tbl := lw_at lw_m8 171 rfl
theorem q2625 : (Jvm.Cond.interfaceMethod "java/util/List" "java/util/List" "remove" "(I)Ljava/lang/Object;") ∈ lw_tbl := lw_at lw_m11 86 rfl
theorem q2626 : (Jvm.Cond.declares ({ cls := "java/util/List", name := "remove", desc := "(I)Ljava/lang/Object;" } : Jvm.MethodName)) ∈ lw_tbl := lw_at lw_m11 87 rfl


theorem q1330 : (Jvm.Cond.interfaceMethod "jdk/internal/access/JavaLangAccess" "jdk/internal/access/JavaLangAccess" "getUTF16Char" "([BI)C") ∈ lw_tbl := lw_at lw_m5 231 rfl
set_option maxRecDepth 100000
theorem q1331 : (Jvm.Cond.declares ({ cls := "jdk/internal/access/JavaLangAccess", name := "getUTF16Char", desc := "([BI)C" } : Jvm.MethodName)) ∈ lw_tbl := lw_at lw_m5 232 rfl


theorem q186 : (Jvm.Cond.initialized "jdk/internal/misc/UnsafeConstants") ∈ lw_all := lw_g (lw_at lw_m1 47 rfl) rfl
set_option maxRecDepth 100000
theorem q2263 : (Jvm.Cond.laysStatic "jdk/internal/misc/UnsafeConstants" "BIG_ENDIAN" "Z") ∈ lw_tbl := lw_at lw_m9 204 rfl


theorem q230 : (Jvm.Cond.arrayClass Jvm.ClassFile.FieldType.byte) ∈ lw_all := lw_g (lw_at lw_m1 91 rfl) rfl
set_option maxRecDepth 100000
theorem q258 : (Jvm.Cond.arrayOver (Jvm.ClassFile.FieldType.object "SpectrumAccess$State")) ∈ lw_tbl := lw_at lw_m1 119 rfl
theorem q288 : (Jvm.Cond.arrayClass Jvm.ClassFile.FieldType.int) ∈ lw_all := lw_g (lw_at lw_m1 149 rfl) rfl
theorem q476 : (Jvm.Cond.arrayClass Jvm.ClassFile.FieldType.boolean) ∈ lw_all := lw_g (lw_at lw_m2 97 rfl) rfl
theorem q495 : (Jvm.Cond.arrayOver (Jvm.ClassFile.FieldType.object "java/lang/Object")) ∈ lw_tbl := lw_at lw_m2 116 rfl
theorem q1006 : (Jvm.Cond.arrayOver (Jvm.ClassFile.FieldType.array Jvm.ClassFile.FieldType.int)) ∈ lw_tbl := lw_at lw_m4 147 rfl
theorem q2708 : (Jvm.Cond.arrayOver (Jvm.ClassFile.FieldType.object "java/lang/String")) ∈ lw_tbl := lw_at lw_m11 169 rfl
theorem q3456 : (Jvm.Cond.arrayClass Jvm.ClassFile.FieldType.long) ∈ lw_all := lw_g (lw_at lw_m14 197 rfl) rfl
theorem q3528 : (Jvm.Cond.arrayClass Jvm.ClassFile.FieldType.char) ∈ lw_all := lw_g (lw_at lw_m15 29 rfl) rfl
theorem q3529 : (Jvm.Cond.arrayClass Jvm.ClassFile.FieldType.short) ∈ lw_all := lw_g (lw_at lw_m15 30 rfl) rfl


