set_option maxRecDepth 100000
abbrev cX0_load : ByteArray := method_3_code
def yX0_load : MethodName := ⟨RX0, "load", "(LSpectrumAccess;I[J)I"⟩
def dkwX0_load_0 : List UInt8 := [44, 3, 42, 27, 182, 0, 7, 133, 80, 167, 0, 9, 78, 4, 172, 78, 5, 172, 3, 172]
abbrev dktX0_load_0 : List UInt8 := dkwX0_load_0 ++ []
theorem dksX0_load_0 : cX0_load.data.toList.drop 0 = dktX0_load_0 := by decide +kernel
theorem dX0_load_0 : decode cX0_load 0 = .ok (.aload_n 2, 1) := dk_44 (dk_at dksX0_load_0 0 rfl rfl)
theorem dX0_load_1 : decode cX0_load 1 = .ok (.iconst 0, 1) := dk_3 (dk_at dksX0_load_0 1 rfl rfl)
theorem dX0_load_2 : decode cX0_load 2 = .ok (.aload_n 0, 1) := dk_42 (dk_at dksX0_load_0 2 rfl rfl)
theorem dX0_load_3 : decode cX0_load 3 = .ok (.iload_n 1, 1) := dk_27 (dk_at dksX0_load_0 3 rfl rfl)
theorem dX0_load_4 : decode cX0_load 4 = .ok (.invokevirtual 7, 3) := dk_182 0 7 (dk_at dksX0_load_0 4 rfl rfl)
theorem dX0_load_7 : decode cX0_load 7 = .ok (.i2l, 1) := dk_133 (dk_at dksX0_load_0 7 rfl rfl)
theorem dX0_load_8 : decode cX0_load 8 = .ok (.lastore, 1) := dk_80 (dk_at dksX0_load_0 8 rfl rfl)
theorem dX0_load_9 : decode cX0_load 9 = .ok (.goto 9, 3) := dk_167 0 9 (dk_at dksX0_load_0 9 rfl rfl)
theorem dX0_load_12 : decode cX0_load 12 = .ok (.astore_n 3, 1) := dk_78 (dk_at dksX0_load_0 12 rfl rfl)
theorem dX0_load_13 : decode cX0_load 13 = .ok (.iconst 1, 1) := dk_4 (dk_at dksX0_load_0 13 rfl rfl)
theorem dX0_load_14 : decode cX0_load 14 = .ok (.ireturn, 1) := dk_172 (dk_at dksX0_load_0 14 rfl rfl)
theorem dX0_load_15 : decode cX0_load 15 = .ok (.astore_n 3, 1) := dk_78 (dk_at dksX0_load_0 15 rfl rfl)
theorem dX0_load_16 : decode cX0_load 16 = .ok (.iconst 2, 1) := dk_5 (dk_at dksX0_load_0 16 rfl rfl)
theorem dX0_load_17 : decode cX0_load 17 = .ok (.ireturn, 1) := dk_172 (dk_at dksX0_load_0 17 rfl rfl)
theorem dX0_load_18 : decode cX0_load 18 = .ok (.iconst 0, 1) := dk_3 (dk_at dksX0_load_0 18 rfl rfl)
theorem dX0_load_19 : decode cX0_load 19 = .ok (.ireturn, 1) := dk_172 (dk_at dksX0_load_0 19 rfl rfl)
abbrev cX0_isSensed : ByteArray := method_4_code
def yX0_isSensed : MethodName := ⟨RX0, "isSensed", "(LSpectrumAccess;I[J)I"⟩
def dkwX0_isSensed_1 : List UInt8 := [172, 3, 172]
abbrev dktX0_isSensed_1 : List UInt8 := dkwX0_isSensed_1 ++ []
def dkwX0_isSensed_0 : List UInt8 := [44, 3, 42, 27, 182, 0, 17, 153, 0, 7, 10, 167, 0, 4, 9, 80, 167, 0, 9, 78, 4, 172, 78, 5]
abbrev dktX0_isSensed_0 : List UInt8 := dkwX0_isSensed_0 ++ dktX0_isSensed_1
theorem dksX0_isSensed_0 : cX0_isSensed.data.toList.drop 0 = dktX0_isSensed_0 := by decide +kernel
theorem dksX0_isSensed_1 : cX0_isSensed.data.toList.drop 24 = dktX0_isSensed_1 := dk_seg dksX0_isSensed_0 24 rfl rfl
theorem dX0_isSensed_0 : decode cX0_isSensed 0 = .ok (.aload_n 2, 1) := dk_44 (dk_at dksX0_isSensed_0 0 rfl rfl)
theorem dX0_isSensed_1 : decode cX0_isSensed 1 = .ok (.iconst 0, 1) := dk_3 (dk_at dksX0_isSensed_0 1 rfl rfl)
theorem dX0_isSensed_2 : decode cX0_isSensed 2 = .ok (.aload_n 0, 1) := dk_42 (dk_at dksX0_isSensed_0 2 rfl rfl)
theorem dX0_isSensed_3 : decode cX0_isSensed 3 = .ok (.iload_n 1, 1) := dk_27 (dk_at dksX0_isSensed_0 3 rfl rfl)
theorem dX0_isSensed_4 : decode cX0_isSensed 4 = .ok (.invokevirtual 17, 3) := dk_182 0 17 (dk_at dksX0_isSensed_0 4 rfl rfl)
theorem dX0_isSensed_7 : decode cX0_isSensed 7 = .ok (.ifCond .eq 7, 3) := dk_153 0 7 (dk_at dksX0_isSensed_0 7 rfl rfl)
theorem dX0_isSensed_10 : decode cX0_isSensed 10 = .ok (.lconst 1, 1) := dk_10 (dk_at dksX0_isSensed_0 10 rfl rfl)
theorem dX0_isSensed_11 : decode cX0_isSensed 11 = .ok (.goto 4, 3) := dk_167 0 4 (dk_at dksX0_isSensed_0 11 rfl rfl)
theorem dX0_isSensed_14 : decode cX0_isSensed 14 = .ok (.lconst 0, 1) := dk_9 (dk_at dksX0_isSensed_0 14 rfl rfl)
theorem dX0_isSensed_15 : decode cX0_isSensed 15 = .ok (.lastore, 1) := dk_80 (dk_at dksX0_isSensed_0 15 rfl rfl)
theorem dX0_isSensed_16 : decode cX0_isSensed 16 = .ok (.goto 9, 3) := dk_167 0 9 (dk_at dksX0_isSensed_0 16 rfl rfl)
theorem dX0_isSensed_19 : decode cX0_isSensed 19 = .ok (.astore_n 3, 1) := dk_78 (dk_at dksX0_isSensed_0 19 rfl rfl)
theorem dX0_isSensed_20 : decode cX0_isSensed 20 = .ok (.iconst 1, 1) := dk_4 (dk_at dksX0_isSensed_0 20 rfl rfl)
theorem dX0_isSensed_21 : decode cX0_isSensed 21 = .ok (.ireturn, 1) := dk_172 (dk_at dksX0_isSensed_0 21 rfl rfl)
theorem dX0_isSensed_22 : decode cX0_isSensed 22 = .ok (.astore_n 3, 1) := dk_78 (dk_at dksX0_isSensed_0 22 rfl rfl)
theorem dX0_isSensed_23 : decode cX0_isSensed 23 = .ok (.iconst 2, 1) := dk_5 (dk_at dksX0_isSensed_0 23 rfl rfl)
theorem dX0_isSensed_24 : decode cX0_isSensed 24 = .ok (.ireturn, 1) := dk_172 (dk_at dksX0_isSensed_1 0 rfl rfl)
theorem dX0_isSensed_25 : decode cX0_isSensed 25 = .ok (.iconst 0, 1) := dk_3 (dk_at dksX0_isSensed_1 1 rfl rfl)
theorem dX0_isSensed_26 : decode cX0_isSensed 26 = .ok (.ireturn, 1) := dk_172 (dk_at dksX0_isSensed_1 2 rfl rfl)
abbrev cX0_isProtected : ByteArray := method_5_code
def yX0_isProtected : MethodName := ⟨RX0, "isProtected", "(LSpectrumAccess;I[J)I"⟩
def dkwX0_isProtected_1 : List UInt8 := [172, 3, 172]
abbrev dktX0_isProtected_1 : List UInt8 := dkwX0_isProtected_1 ++ []
def dkwX0_isProtected_0 : List UInt8 := [44, 3, 42, 27, 182, 0, 23, 153, 0, 7, 10, 167, 0, 4, 9, 80, 167, 0, 9, 78, 4, 172, 78, 5]
abbrev dktX0_isProtected_0 : List UInt8 := dkwX0_isProtected_0 ++ dktX0_isProtected_1
theorem dksX0_isProtected_0 : cX0_isProtected.data.toList.drop 0 = dktX0_isProtected_0 := by decide +kernel
theorem dksX0_isProtected_1 : cX0_isProtected.data.toList.drop 24 = dktX0_isProtected_1 := dk_seg dksX0_isProtected_0 24 rfl rfl
theorem dX0_isProtected_0 : decode cX0_isProtected 0 = .ok (.aload_n 2, 1) := dk_44 (dk_at dksX0_isProtected_0 0 rfl rfl)
theorem dX0_isProtected_1 : decode cX0_isProtected 1 = .ok (.iconst 0, 1) := dk_3 (dk_at dksX0_isProtected_0 1 rfl rfl)
theorem dX0_isProtected_2 : decode cX0_isProtected 2 = .ok (.aload_n 0, 1) := dk_42 (dk_at dksX0_isProtected_0 2 rfl rfl)
theorem dX0_isProtected_3 : decode cX0_isProtected 3 = .ok (.iload_n 1, 1) := dk_27 (dk_at dksX0_isProtected_0 3 rfl rfl)
theorem dX0_isProtected_4 : decode cX0_isProtected 4 = .ok (.invokevirtual 23, 3) := dk_182 0 23 (dk_at dksX0_isProtected_0 4 rfl rfl)
theorem dX0_isProtected_7 : decode cX0_isProtected 7 = .ok (.ifCond .eq 7, 3) := dk_153 0 7 (dk_at dksX0_isProtected_0 7 rfl rfl)
theorem dX0_isProtected_10 : decode cX0_isProtected 10 = .ok (.lconst 1, 1) := dk_10 (dk_at dksX0_isProtected_0 10 rfl rfl)
theorem dX0_isProtected_11 : decode cX0_isProtected 11 = .ok (.goto 4, 3) := dk_167 0 4 (dk_at dksX0_isProtected_0 11 rfl rfl)
theorem dX0_isProtected_14 : decode cX0_isProtected 14 = .ok (.lconst 0, 1) := dk_9 (dk_at dksX0_isProtected_0 14 rfl rfl)
theorem dX0_isProtected_15 : decode cX0_isProtected 15 = .ok (.lastore, 1) := dk_80 (dk_at dksX0_isProtected_0 15 rfl rfl)
theorem dX0_isProtected_16 : decode cX0_isProtected 16 = .ok (.goto 9, 3) := dk_167 0 9 (dk_at dksX0_isProtected_0 16 rfl rfl)
theorem dX0_isProtected_19 : decode cX0_isProtected 19 = .ok (.astore_n 3, 1) := dk_78 (dk_at dksX0_isProtected_0 19 rfl rfl)
theorem dX0_isProtected_20 : decode cX0_isProtected 20 = .ok (.iconst 1, 1) := dk_4 (dk_at dksX0_isProtected_0 20 rfl rfl)
theorem dX0_isProtected_21 : decode cX0_isProtected 21 = .ok (.ireturn, 1) := dk_172 (dk_at dksX0_isProtected_0 21 rfl rfl)
theorem dX0_isProtected_22 : decode cX0_isProtected 22 = .ok (.astore_n 3, 1) := dk_78 (dk_at dksX0_isProtected_0 22 rfl rfl)
theorem dX0_isProtected_23 : decode cX0_isProtected 23 = .ok (.iconst 2, 1) := dk_5 (dk_at dksX0_isProtected_0 23 rfl rfl)
theorem dX0_isProtected_24 : decode cX0_isProtected 24 = .ok (.ireturn, 1) := dk_172 (dk_at dksX0_isProtected_1 0 rfl rfl)
theorem dX0_isProtected_25 : decode cX0_isProtected 25 = .ok (.iconst 0, 1) := dk_3 (dk_at dksX0_isProtected_1 1 rfl rfl)
theorem dX0_isProtected_26 : decode cX0_isProtected 26 = .ok (.ireturn, 1) := dk_172 (dk_at dksX0_isProtected_1 2 rfl rfl)
abbrev cX0_headroom : ByteArray := method_6_code
def yX0_headroom : MethodName := ⟨RX0, "headroom", "(LSpectrumAccess;I[J)I"⟩
def dkwX0_headroom_0 : List UInt8 := [44, 3, 42, 27, 182, 0, 26, 133, 80, 167, 0, 9, 78, 4, 172, 78, 5, 172, 3, 172]
abbrev dktX0_headroom_0 : List UInt8 := dkwX0_headroom_0 ++ []
theorem dksX0_headroom_0 : cX0_headroom.data.toList.drop 0 = dktX0_headroom_0 := by decide +kernel
theorem dX0_headroom_0 : decode cX0_headroom 0 = .ok (.aload_n 2, 1) := dk_44 (dk_at dksX0_headroom_0 0 rfl rfl)
theorem dX0_headroom_1 : decode cX0_headroom 1 = .ok (.iconst 0, 1) := dk_3 (dk_at dksX0_headroom_0 1 rfl rfl)
theorem dX0_headroom_2 : decode cX0_headroom 2 = .ok (.aload_n 0, 1) := dk_42 (dk_at dksX0_headroom_0 2 rfl rfl)
theorem dX0_headroom_3 : decode cX0_headroom 3 = .ok (.iload_n 1, 1) := dk_27 (dk_at dksX0_headroom_0 3 rfl rfl)
theorem dX0_headroom_4 : decode cX0_headroom 4 = .ok (.invokevirtual 26, 3) := dk_182 0 26 (dk_at dksX0_headroom_0 4 rfl rfl)
theorem dX0_headroom_7 : decode cX0_headroom 7 = .ok (.i2l, 1) := dk_133 (dk_at dksX0_headroom_0 7 rfl rfl)
theorem dX0_headroom_8 : decode cX0_headroom 8 = .ok (.lastore, 1) := dk_80 (dk_at dksX0_headroom_0 8 rfl rfl)
theorem dX0_headroom_9 : decode cX0_headroom 9 = .ok (.goto 9, 3) := dk_167 0 9 (dk_at dksX0_headroom_0 9 rfl rfl)
theorem dX0_headroom_12 : decode cX0_headroom 12 = .ok (.astore_n 3, 1) := dk_78 (dk_at dksX0_headroom_0 12 rfl rfl)
theorem dX0_headroom_13 : decode cX0_headroom 13 = .ok (.iconst 1, 1) := dk_4 (dk_at dksX0_headroom_0 13 rfl rfl)
theorem dX0_headroom_14 : decode cX0_headroom 14 = .ok (.ireturn, 1) := dk_172 (dk_at dksX0_headroom_0 14 rfl rfl)
theorem dX0_headroom_15 : decode cX0_headroom 15 = .ok (.astore_n 3, 1) := dk_78 (dk_at dksX0_headroom_0 15 rfl rfl)
theorem dX0_headroom_16 : decode cX0_headroom 16 = .ok (.iconst 2, 1) := dk_5 (dk_at dksX0_headroom_0 16 rfl rfl)
theorem dX0_headroom_17 : decode cX0_headroom 17 = .ok (.ireturn, 1) := dk_172 (dk_at dksX0_headroom_0 17 rfl rfl)
theorem dX0_headroom_18 : decode cX0_headroom 18 = .ok (.iconst 0, 1) := dk_3 (dk_at dksX0_headroom_0 18 rfl rfl)
theorem dX0_headroom_19 : decode cX0_headroom 19 = .ok (.ireturn, 1) := dk_172 (dk_at dksX0_headroom_0 19 rfl rfl)
abbrev cX0_licenceChannels : ByteArray := method_7_code
def yX0_licenceChannels : MethodName := ⟨RX0, "licenceChannels", "(LSpectrumAccess;I[J)I"⟩
def dkwX0_licenceChannels_0 : List UInt8 := [44, 3, 42, 27, 182, 0, 29, 133, 80, 167, 0, 9, 78, 4, 172, 78, 5, 172, 3, 172]
abbrev dktX0_licenceChannels_0 : List UInt8 := dkwX0_licenceChannels_0 ++ []
theorem dksX0_licenceChannels_0 : cX0_licenceChannels.data.toList.drop 0 = dktX0_licenceChannels_0 := by decide +kernel
theorem dX0_licenceChannels_0 : decode cX0_licenceChannels 0 = .ok (.aload_n 2, 1) := dk_44 (dk_at dksX0_licenceChannels_0 0 rfl rfl)
theorem dX0_licenceChannels_1 : decode cX0_licenceChannels 1 = .ok (.iconst 0, 1) := dk_3 (dk_at dksX0_licenceChannels_0 1 rfl rfl)
theorem dX0_licenceChannels_2 : decode cX0_licenceChannels 2 = .ok (.aload_n 0, 1) := dk_42 (dk_at dksX0_licenceChannels_0 2 rfl rfl)
theorem dX0_licenceChannels_3 : decode cX0_licenceChannels 3 = .ok (.iload_n 1, 1) := dk_27 (dk_at dksX0_licenceChannels_0 3 rfl rfl)
theorem dX0_licenceChannels_4 : decode cX0_licenceChannels 4 = .ok (.invokevirtual 29, 3) := dk_182 0 29 (dk_at dksX0_licenceChannels_0 4 rfl rfl)
theorem dX0_licenceChannels_7 : decode cX0_licenceChannels 7 = .ok (.i2l, 1) := dk_133 (dk_at dksX0_licenceChannels_0 7 rfl rfl)
theorem dX0_licenceChannels_8 : decode cX0_licenceChannels 8 = .ok (.lastore, 1) := dk_80 (dk_at dksX0_licenceChannels_0 8 rfl rfl)
theorem dX0_licenceChannels_9 : decode cX0_licenceChannels 9 = .ok (.goto 9, 3) := dk_167 0 9 (dk_at dksX0_licenceChannels_0 9 rfl rfl)
theorem dX0_licenceChannels_12 : decode cX0_licenceChannels 12 = .ok (.astore_n 3, 1) := dk_78 (dk_at dksX0_licenceChannels_0 12 rfl rfl)
theorem dX0_licenceChannels_13 : decode cX0_licenceChannels 13 = .ok (.iconst 1, 1) := dk_4 (dk_at dksX0_licenceChannels_0 13 rfl rfl)
theorem dX0_licenceChannels_14 : decode cX0_licenceChannels 14 = .ok (.ireturn, 1) := dk_172 (dk_at dksX0_licenceChannels_0 14 rfl rfl)
theorem dX0_licenceChannels_15 : decode cX0_licenceChannels 15 = .ok (.astore_n 3, 1) := dk_78 (dk_at dksX0_licenceChannels_0 15 rfl rfl)
theorem dX0_licenceChannels_16 : decode cX0_licenceChannels 16 = .ok (.iconst 2, 1) := dk_5 (dk_at dksX0_licenceChannels_0 16 rfl rfl)
theorem dX0_licenceChannels_17 : decode cX0_licenceChannels 17 = .ok (.ireturn, 1) := dk_172 (dk_at dksX0_licenceChannels_0 17 rfl rfl)
theorem dX0_licenceChannels_18 : decode cX0_licenceChannels 18 = .ok (.iconst 0, 1) := dk_3 (dk_at dksX0_licenceChannels_0 18 rfl rfl)
theorem dX0_licenceChannels_19 : decode cX0_licenceChannels 19 = .ok (.ireturn, 1) := dk_172 (dk_at dksX0_licenceChannels_0 19 rfl rfl)
abbrev cX0_licenceAt : ByteArray := method_8_code
def yX0_licenceAt : MethodName := ⟨RX0, "licenceAt", "(LSpectrumAccess;III[J)I"⟩
def dkwX0_licenceAt_1 : List UInt8 := [172]
abbrev dktX0_licenceAt_1 : List UInt8 := dkwX0_licenceAt_1 ++ []
def dkwX0_licenceAt_0 : List UInt8 := [25, 4, 3, 42, 27, 28, 29, 182, 0, 32, 133, 80, 167, 0, 11, 58, 5, 4, 172, 58, 5, 5, 172, 3]
abbrev dktX0_licenceAt_0 : List UInt8 := dkwX0_licenceAt_0 ++ dktX0_licenceAt_1
theorem dksX0_licenceAt_0 : cX0_licenceAt.data.toList.drop 0 = dktX0_licenceAt_0 := by decide +kernel
theorem dksX0_licenceAt_1 : cX0_licenceAt.data.toList.drop 24 = dktX0_licenceAt_1 := dk_seg dksX0_licenceAt_0 24 rfl rfl
theorem dX0_licenceAt_0 : decode cX0_licenceAt 0 = .ok (.aload 4, 2) := dk_25 4 (dk_at dksX0_licenceAt_0 0 rfl rfl)
theorem dX0_licenceAt_2 : decode cX0_licenceAt 2 = .ok (.iconst 0, 1) := dk_3 (dk_at dksX0_licenceAt_0 2 rfl rfl)
theorem dX0_licenceAt_3 : decode cX0_licenceAt 3 = .ok (.aload_n 0, 1) := dk_42 (dk_at dksX0_licenceAt_0 3 rfl rfl)
theorem dX0_licenceAt_4 : decode cX0_licenceAt 4 = .ok (.iload_n 1, 1) := dk_27 (dk_at dksX0_licenceAt_0 4 rfl rfl)
theorem dX0_licenceAt_5 : decode cX0_licenceAt 5 = .ok (.iload_n 2, 1) := dk_28 (dk_at dksX0_licenceAt_0 5 rfl rfl)
theorem dX0_licenceAt_6 : decode cX0_licenceAt 6 = .ok (.iload_n 3, 1) := dk_29 (dk_at dksX0_licenceAt_0 6 rfl rfl)
theorem dX0_licenceAt_7 : decode cX0_licenceAt 7 = .ok (.invokevirtual 32, 3) := dk_182 0 32 (dk_at dksX0_licenceAt_0 7 rfl rfl)
theorem dX0_licenceAt_10 : decode cX0_licenceAt 10 = .ok (.i2l, 1) := dk_133 (dk_at dksX0_licenceAt_0 10 rfl rfl)
theorem dX0_licenceAt_11 : decode cX0_licenceAt 11 = .ok (.lastore, 1) := dk_80 (dk_at dksX0_licenceAt_0 11 rfl rfl)
theorem dX0_licenceAt_12 : decode cX0_licenceAt 12 = .ok (.goto 11, 3) := dk_167 0 11 (dk_at dksX0_licenceAt_0 12 rfl rfl)
theorem dX0_licenceAt_15 : decode cX0_licenceAt 15 = .ok (.astore 5, 2) := dk_58 5 (dk_at dksX0_licenceAt_0 15 rfl rfl)
theorem dX0_licenceAt_17 : decode cX0_licenceAt 17 = .ok (.iconst 1, 1) := dk_4 (dk_at dksX0_licenceAt_0 17 rfl rfl)
theorem dX0_licenceAt_18 : decode cX0_licenceAt 18 = .ok (.ireturn, 1) := dk_172 (dk_at dksX0_licenceAt_0 18 rfl rfl)
theorem dX0_licenceAt_19 : decode cX0_licenceAt 19 = .ok (.astore 5, 2) := dk_58 5 (dk_at dksX0_licenceAt_0 19 rfl rfl)
theorem dX0_licenceAt_21 : decode cX0_licenceAt 21 = .ok (.iconst 2, 1) := dk_5 (dk_at dksX0_licenceAt_0 21 rfl rfl)
theorem dX0_licenceAt_22 : decode cX0_licenceAt 22 = .ok (.ireturn, 1) := dk_172 (dk_at dksX0_licenceAt_0 22 rfl rfl)
theorem dX0_licenceAt_23 : decode cX0_licenceAt 23 = .ok (.iconst 0, 1) := dk_3 (dk_at dksX0_licenceAt_0 23 rfl rfl)
theorem dX0_licenceAt_24 : decode cX0_licenceAt 24 = .ok (.ireturn, 1) := dk_172 (dk_at dksX0_licenceAt_1 0 rfl rfl)
abbrev cX0_stateOf : ByteArray := method_9_code
def yX0_stateOf : MethodName := ⟨RX0, "stateOf", "(LSpectrumAccess;I[J)I"⟩
def dkwX0_stateOf_0 : List UInt8 := [44, 3, 42, 27, 182, 0, 36, 133, 80, 167, 0, 9, 78, 4, 172, 78, 5, 172, 3, 172]
abbrev dktX0_stateOf_0 : List UInt8 := dkwX0_stateOf_0 ++ []
theorem dksX0_stateOf_0 : cX0_stateOf.data.toList.drop 0 = dktX0_stateOf_0 := by decide +kernel
theorem dX0_stateOf_0 : decode cX0_stateOf 0 = .ok (.aload_n 2, 1) := dk_44 (dk_at dksX0_stateOf_0 0 rfl rfl)
theorem dX0_stateOf_1 : decode cX0_stateOf 1 = .ok (.iconst 0, 1) := dk_3 (dk_at dksX0_stateOf_0 1 rfl rfl)
theorem dX0_stateOf_2 : decode cX0_stateOf 2 = .ok (.aload_n 0, 1) := dk_42 (dk_at dksX0_stateOf_0 2 rfl rfl)
theorem dX0_stateOf_3 : decode cX0_stateOf 3 = .ok (.iload_n 1, 1) := dk_27 (dk_at dksX0_stateOf_0 3 rfl rfl)
theorem dX0_stateOf_4 : decode cX0_stateOf 4 = .ok (.invokevirtual 36, 3) := dk_182 0 36 (dk_at dksX0_stateOf_0 4 rfl rfl)
theorem dX0_stateOf_7 : decode cX0_stateOf 7 = .ok (.i2l, 1) := dk_133 (dk_at dksX0_stateOf_0 7 rfl rfl)
theorem dX0_stateOf_8 : decode cX0_stateOf 8 = .ok (.lastore, 1) := dk_80 (dk_at dksX0_stateOf_0 8 rfl rfl)
theorem dX0_stateOf_9 : decode cX0_stateOf 9 = .ok (.goto 9, 3) := dk_167 0 9 (dk_at dksX0_stateOf_0 9 rfl rfl)
theorem dX0_stateOf_12 : decode cX0_stateOf 12 = .ok (.astore_n 3, 1) := dk_78 (dk_at dksX0_stateOf_0 12 rfl rfl)
theorem dX0_stateOf_13 : decode cX0_stateOf 13 = .ok (.iconst 1, 1) := dk_4 (dk_at dksX0_stateOf_0 13 rfl rfl)
theorem dX0_stateOf_14 : decode cX0_stateOf 14 = .ok (.ireturn, 1) := dk_172 (dk_at dksX0_stateOf_0 14 rfl rfl)
theorem dX0_stateOf_15 : decode cX0_stateOf 15 = .ok (.astore_n 3, 1) := dk_78 (dk_at dksX0_stateOf_0 15 rfl rfl)
theorem dX0_stateOf_16 : decode cX0_stateOf 16 = .ok (.iconst 2, 1) := dk_5 (dk_at dksX0_stateOf_0 16 rfl rfl)
theorem dX0_stateOf_17 : decode cX0_stateOf 17 = .ok (.ireturn, 1) := dk_172 (dk_at dksX0_stateOf_0 17 rfl rfl)
theorem dX0_stateOf_18 : decode cX0_stateOf 18 = .ok (.iconst 0, 1) := dk_3 (dk_at dksX0_stateOf_0 18 rfl rfl)
theorem dX0_stateOf_19 : decode cX0_stateOf 19 = .ok (.ireturn, 1) := dk_172 (dk_at dksX0_stateOf_0 19 rfl rfl)
abbrev cX0_licenceOf : ByteArray := method_10_code
def yX0_licenceOf : MethodName := ⟨RX0, "licenceOf", "(LSpectrumAccess;I[J)I"⟩
def dkwX0_licenceOf_0 : List UInt8 := [44, 3, 42, 27, 182, 0, 39, 133, 80, 167, 0, 9, 78, 4, 172, 78, 5, 172, 3, 172]
abbrev dktX0_licenceOf_0 : List UInt8 := dkwX0_licenceOf_0 ++ []
theorem dksX0_licenceOf_0 : cX0_licenceOf.data.toList.drop 0 = dktX0_licenceOf_0 := by decide +kernel
theorem dX0_licenceOf_0 : decode cX0_licenceOf 0 = .ok (.aload_n 2, 1) := dk_44 (dk_at dksX0_licenceOf_0 0 rfl rfl)
theorem dX0_licenceOf_1 : decode cX0_licenceOf 1 = .ok (.iconst 0, 1) := dk_3 (dk_at dksX0_licenceOf_0 1 rfl rfl)
theorem dX0_licenceOf_2 : decode cX0_licenceOf 2 = .ok (.aload_n 0, 1) := dk_42 (dk_at dksX0_licenceOf_0 2 rfl rfl)
theorem dX0_licenceOf_3 : decode cX0_licenceOf 3 = .ok (.iload_n 1, 1) := dk_27 (dk_at dksX0_licenceOf_0 3 rfl rfl)
theorem dX0_licenceOf_4 : decode cX0_licenceOf 4 = .ok (.invokevirtual 39, 3) := dk_182 0 39 (dk_at dksX0_licenceOf_0 4 rfl rfl)
theorem dX0_licenceOf_7 : decode cX0_licenceOf 7 = .ok (.i2l, 1) := dk_133 (dk_at dksX0_licenceOf_0 7 rfl rfl)
theorem dX0_licenceOf_8 : decode cX0_licenceOf 8 = .ok (.lastore, 1) := dk_80 (dk_at dksX0_licenceOf_0 8 rfl rfl)
theorem dX0_licenceOf_9 : decode cX0_licenceOf 9 = .ok (.goto 9, 3) := dk_167 0 9 (dk_at dksX0_licenceOf_0 9 rfl rfl)
theorem dX0_licenceOf_12 : decode cX0_licenceOf 12 = .ok (.astore_n 3, 1) := dk_78 (dk_at dksX0_licenceOf_0 12 rfl rfl)
theorem dX0_licenceOf_13 : decode cX0_licenceOf 13 = .ok (.iconst 1, 1) := dk_4 (dk_at dksX0_licenceOf_0 13 rfl rfl)
theorem dX0_licenceOf_14 : decode cX0_licenceOf 14 = .ok (.ireturn, 1) := dk_172 (dk_at dksX0_licenceOf_0 14 rfl rfl)
theorem dX0_licenceOf_15 : decode cX0_licenceOf 15 = .ok (.astore_n 3, 1) := dk_78 (dk_at dksX0_licenceOf_0 15 rfl rfl)
theorem dX0_licenceOf_16 : decode cX0_licenceOf 16 = .ok (.iconst 2, 1) := dk_5 (dk_at dksX0_licenceOf_0 16 rfl rfl)
theorem dX0_licenceOf_17 : decode cX0_licenceOf 17 = .ok (.ireturn, 1) := dk_172 (dk_at dksX0_licenceOf_0 17 rfl rfl)
theorem dX0_licenceOf_18 : decode cX0_licenceOf 18 = .ok (.iconst 0, 1) := dk_3 (dk_at dksX0_licenceOf_0 18 rfl rfl)
theorem dX0_licenceOf_19 : decode cX0_licenceOf 19 = .ok (.ireturn, 1) := dk_172 (dk_at dksX0_licenceOf_0 19 rfl rfl)
abbrev cX0_channelOf : ByteArray := method_11_code
def yX0_channelOf : MethodName := ⟨RX0, "channelOf", "(LSpectrumAccess;I[J)I"⟩
def dkwX0_channelOf_0 : List UInt8 := [44, 3, 42, 27, 182, 0, 42, 133, 80, 167, 0, 9, 78, 4, 172, 78, 5, 172, 3, 172]
abbrev dktX0_channelOf_0 : List UInt8 := dkwX0_channelOf_0 ++ []
theorem dksX0_channelOf_0 : cX0_channelOf.data.toList.drop 0 = dktX0_channelOf_0 := by decide +kernel
theorem dX0_channelOf_0 : decode cX0_channelOf 0 = .ok (.aload_n 2, 1) := dk_44 (dk_at dksX0_channelOf_0 0 rfl rfl)
theorem dX0_channelOf_1 : decode cX0_channelOf 1 = .ok (.iconst 0, 1) := dk_3 (dk_at dksX0_channelOf_0 1 rfl rfl)
theorem dX0_channelOf_2 : decode cX0_channelOf 2 = .ok (.aload_n 0, 1) := dk_42 (dk_at dksX0_channelOf_0 2 rfl rfl)
theorem dX0_channelOf_3 : decode cX0_channelOf 3 = .ok (.iload_n 1, 1) := dk_27 (dk_at dksX0_channelOf_0 3 rfl rfl)
theorem dX0_channelOf_4 : decode cX0_channelOf 4 = .ok (.invokevirtual 42, 3) := dk_182 0 42 (dk_at dksX0_channelOf_0 4 rfl rfl)
theorem dX0_channelOf_7 : decode cX0_channelOf 7 = .ok (.i2l, 1) := dk_133 (dk_at dksX0_channelOf_0 7 rfl rfl)
theorem dX0_channelOf_8 : decode cX0_channelOf 8 = .ok (.lastore, 1) := dk_80 (dk_at dksX0_channelOf_0 8 rfl rfl)
theorem dX0_channelOf_9 : decode cX0_channelOf 9 = .ok (.goto 9, 3) := dk_167 0 9 (dk_at dksX0_channelOf_0 9 rfl rfl)
theorem dX0_channelOf_12 : decode cX0_channelOf 12 = .ok (.astore_n 3, 1) := dk_78 (dk_at dksX0_channelOf_0 12 rfl rfl)
theorem dX0_channelOf_13 : decode cX0_channelOf 13 = .ok (.iconst 1, 1) := dk_4 (dk_at dksX0_channelOf_0 13 rfl rfl)
theorem dX0_channelOf_14 : decode cX0_channelOf 14 = .ok (.ireturn, 1) := dk_172 (dk_at dksX0_channelOf_0 14 rfl rfl)
theorem dX0_channelOf_15 : decode cX0_channelOf 15 = .ok (.astore_n 3, 1) := dk_78 (dk_at dksX0_channelOf_0 15 rfl rfl)
theorem dX0_channelOf_16 : decode cX0_channelOf 16 = .ok (.iconst 2, 1) := dk_5 (dk_at dksX0_channelOf_0 16 rfl rfl)
theorem dX0_channelOf_17 : decode cX0_channelOf 17 = .ok (.ireturn, 1) := dk_172 (dk_at dksX0_channelOf_0 17 rfl rfl)
theorem dX0_channelOf_18 : decode cX0_channelOf 18 = .ok (.iconst 0, 1) := dk_3 (dk_at dksX0_channelOf_0 18 rfl rfl)
theorem dX0_channelOf_19 : decode cX0_channelOf 19 = .ok (.ireturn, 1) := dk_172 (dk_at dksX0_channelOf_0 19 rfl rfl)
abbrev cX0_powerOf : ByteArray := method_12_code
def yX0_powerOf : MethodName := ⟨RX0, "powerOf", "(LSpectrumAccess;I[J)I"⟩
def dkwX0_powerOf_0 : List UInt8 := [44, 3, 42, 27, 182, 0, 45, 133, 80, 167, 0, 9, 78, 4, 172, 78, 5, 172, 3, 172]
abbrev dktX0_powerOf_0 : List UInt8 := dkwX0_powerOf_0 ++ []
theorem dksX0_powerOf_0 : cX0_powerOf.data.toList.drop 0 = dktX0_powerOf_0 := by decide +kernel
theorem dX0_powerOf_0 : decode cX0_powerOf 0 = .ok (.aload_n 2, 1) := dk_44 (dk_at dksX0_powerOf_0 0 rfl rfl)
theorem dX0_powerOf_1 : decode cX0_powerOf 1 = .ok (.iconst 0, 1) := dk_3 (dk_at dksX0_powerOf_0 1 rfl rfl)
theorem dX0_powerOf_2 : decode cX0_powerOf 2 = .ok (.aload_n 0, 1) := dk_42 (dk_at dksX0_powerOf_0 2 rfl rfl)
theorem dX0_powerOf_3 : decode cX0_powerOf 3 = .ok (.iload_n 1, 1) := dk_27 (dk_at dksX0_powerOf_0 3 rfl rfl)
theorem dX0_powerOf_4 : decode cX0_powerOf 4 = .ok (.invokevirtual 45, 3) := dk_182 0 45 (dk_at dksX0_powerOf_0 4 rfl rfl)
theorem dX0_powerOf_7 : decode cX0_powerOf 7 = .ok (.i2l, 1) := dk_133 (dk_at dksX0_powerOf_0 7 rfl rfl)
theorem dX0_powerOf_8 : decode cX0_powerOf 8 = .ok (.lastore, 1) := dk_80 (dk_at dksX0_powerOf_0 8 rfl rfl)
theorem dX0_powerOf_9 : decode cX0_powerOf 9 = .ok (.goto 9, 3) := dk_167 0 9 (dk_at dksX0_powerOf_0 9 rfl rfl)
theorem dX0_powerOf_12 : decode cX0_powerOf 12 = .ok (.astore_n 3, 1) := dk_78 (dk_at dksX0_powerOf_0 12 rfl rfl)
theorem dX0_powerOf_13 : decode cX0_powerOf 13 = .ok (.iconst 1, 1) := dk_4 (dk_at dksX0_powerOf_0 13 rfl rfl)
theorem dX0_powerOf_14 : decode cX0_powerOf 14 = .ok (.ireturn, 1) := dk_172 (dk_at dksX0_powerOf_0 14 rfl rfl)
theorem dX0_powerOf_15 : decode cX0_powerOf 15 = .ok (.astore_n 3, 1) := dk_78 (dk_at dksX0_powerOf_0 15 rfl rfl)
theorem dX0_powerOf_16 : decode cX0_powerOf 16 = .ok (.iconst 2, 1) := dk_5 (dk_at dksX0_powerOf_0 16 rfl rfl)
theorem dX0_powerOf_17 : decode cX0_powerOf 17 = .ok (.ireturn, 1) := dk_172 (dk_at dksX0_powerOf_0 17 rfl rfl)
theorem dX0_powerOf_18 : decode cX0_powerOf 18 = .ok (.iconst 0, 1) := dk_3 (dk_at dksX0_powerOf_0 18 rfl rfl)
theorem dX0_powerOf_19 : decode cX0_powerOf 19 = .ok (.ireturn, 1) := dk_172 (dk_at dksX0_powerOf_0 19 rfl rfl)
abbrev cX0_sinceOf : ByteArray := method_13_code
def yX0_sinceOf : MethodName := ⟨RX0, "sinceOf", "(LSpectrumAccess;I[J)I"⟩
def dkwX0_sinceOf_0 : List UInt8 := [44, 3, 42, 27, 182, 0, 48, 133, 80, 167, 0, 9, 78, 4, 172, 78, 5, 172, 3, 172]
abbrev dktX0_sinceOf_0 : List UInt8 := dkwX0_sinceOf_0 ++ []
theorem dksX0_sinceOf_0 : cX0_sinceOf.data.toList.drop 0 = dktX0_sinceOf_0 := by decide +kernel
theorem dX0_sinceOf_0 : decode cX0_sinceOf 0 = .ok (.aload_n 2, 1) := dk_44 (dk_at dksX0_sinceOf_0 0 rfl rfl)
theorem dX0_sinceOf_1 : decode cX0_sinceOf 1 = .ok (.iconst 0, 1) := dk_3 (dk_at dksX0_sinceOf_0 1 rfl rfl)
theorem dX0_sinceOf_2 : decode cX0_sinceOf 2 = .ok (.aload_n 0, 1) := dk_42 (dk_at dksX0_sinceOf_0 2 rfl rfl)
theorem dX0_sinceOf_3 : decode cX0_sinceOf 3 = .ok (.iload_n 1, 1) := dk_27 (dk_at dksX0_sinceOf_0 3 rfl rfl)
theorem dX0_sinceOf_4 : decode cX0_sinceOf 4 = .ok (.invokevirtual 48, 3) := dk_182 0 48 (dk_at dksX0_sinceOf_0 4 rfl rfl)
theorem dX0_sinceOf_7 : decode cX0_sinceOf 7 = .ok (.i2l, 1) := dk_133 (dk_at dksX0_sinceOf_0 7 rfl rfl)
theorem dX0_sinceOf_8 : decode cX0_sinceOf 8 = .ok (.lastore, 1) := dk_80 (dk_at dksX0_sinceOf_0 8 rfl rfl)
theorem dX0_sinceOf_9 : decode cX0_sinceOf 9 = .ok (.goto 9, 3) := dk_167 0 9 (dk_at dksX0_sinceOf_0 9 rfl rfl)
theorem dX0_sinceOf_12 : decode cX0_sinceOf 12 = .ok (.astore_n 3, 1) := dk_78 (dk_at dksX0_sinceOf_0 12 rfl rfl)
theorem dX0_sinceOf_13 : decode cX0_sinceOf 13 = .ok (.iconst 1, 1) := dk_4 (dk_at dksX0_sinceOf_0 13 rfl rfl)
theorem dX0_sinceOf_14 : decode cX0_sinceOf 14 = .ok (.ireturn, 1) := dk_172 (dk_at dksX0_sinceOf_0 14 rfl rfl)
theorem dX0_sinceOf_15 : decode cX0_sinceOf 15 = .ok (.astore_n 3, 1) := dk_78 (dk_at dksX0_sinceOf_0 15 rfl rfl)
theorem dX0_sinceOf_16 : decode cX0_sinceOf 16 = .ok (.iconst 2, 1) := dk_5 (dk_at dksX0_sinceOf_0 16 rfl rfl)
theorem dX0_sinceOf_17 : decode cX0_sinceOf 17 = .ok (.ireturn, 1) := dk_172 (dk_at dksX0_sinceOf_0 17 rfl rfl)
theorem dX0_sinceOf_18 : decode cX0_sinceOf 18 = .ok (.iconst 0, 1) := dk_3 (dk_at dksX0_sinceOf_0 18 rfl rfl)
theorem dX0_sinceOf_19 : decode cX0_sinceOf 19 = .ok (.ireturn, 1) := dk_172 (dk_at dksX0_sinceOf_0 19 rfl rfl)
abbrev cX0_movesOf : ByteArray := method_14_code
def yX0_movesOf : MethodName := ⟨RX0, "movesOf", "(LSpectrumAccess;I[J)I"⟩
def dkwX0_movesOf_0 : List UInt8 := [44, 3, 42, 27, 182, 0, 51, 133, 80, 167, 0, 9, 78, 4, 172, 78, 5, 172, 3, 172]
abbrev dktX0_movesOf_0 : List UInt8 := dkwX0_movesOf_0 ++ []
theorem dksX0_movesOf_0 : cX0_movesOf.data.toList.drop 0 = dktX0_movesOf_0 := by decide +kernel
theorem dX0_movesOf_0 : decode cX0_movesOf 0 = .ok (.aload_n 2, 1) := dk_44 (dk_at dksX0_movesOf_0 0 rfl rfl)
theorem dX0_movesOf_1 : decode cX0_movesOf 1 = .ok (.iconst 0, 1) := dk_3 (dk_at dksX0_movesOf_0 1 rfl rfl)
theorem dX0_movesOf_2 : decode cX0_movesOf 2 = .ok (.aload_n 0, 1) := dk_42 (dk_at dksX0_movesOf_0 2 rfl rfl)
theorem dX0_movesOf_3 : decode cX0_movesOf 3 = .ok (.iload_n 1, 1) := dk_27 (dk_at dksX0_movesOf_0 3 rfl rfl)
theorem dX0_movesOf_4 : decode cX0_movesOf 4 = .ok (.invokevirtual 51, 3) := dk_182 0 51 (dk_at dksX0_movesOf_0 4 rfl rfl)
theorem dX0_movesOf_7 : decode cX0_movesOf 7 = .ok (.i2l, 1) := dk_133 (dk_at dksX0_movesOf_0 7 rfl rfl)
theorem dX0_movesOf_8 : decode cX0_movesOf 8 = .ok (.lastore, 1) := dk_80 (dk_at dksX0_movesOf_0 8 rfl rfl)
theorem dX0_movesOf_9 : decode cX0_movesOf 9 = .ok (.goto 9, 3) := dk_167 0 9 (dk_at dksX0_movesOf_0 9 rfl rfl)
theorem dX0_movesOf_12 : decode cX0_movesOf 12 = .ok (.astore_n 3, 1) := dk_78 (dk_at dksX0_movesOf_0 12 rfl rfl)
theorem dX0_movesOf_13 : decode cX0_movesOf 13 = .ok (.iconst 1, 1) := dk_4 (dk_at dksX0_movesOf_0 13 rfl rfl)
theorem dX0_movesOf_14 : decode cX0_movesOf 14 = .ok (.ireturn, 1) := dk_172 (dk_at dksX0_movesOf_0 14 rfl rfl)
theorem dX0_movesOf_15 : decode cX0_movesOf 15 = .ok (.astore_n 3, 1) := dk_78 (dk_at dksX0_movesOf_0 15 rfl rfl)
theorem dX0_movesOf_16 : decode cX0_movesOf 16 = .ok (.iconst 2, 1) := dk_5 (dk_at dksX0_movesOf_0 16 rfl rfl)
theorem dX0_movesOf_17 : decode cX0_movesOf 17 = .ok (.ireturn, 1) := dk_172 (dk_at dksX0_movesOf_0 17 rfl rfl)
theorem dX0_movesOf_18 : decode cX0_movesOf 18 = .ok (.iconst 0, 1) := dk_3 (dk_at dksX0_movesOf_0 18 rfl rfl)
theorem dX0_movesOf_19 : decode cX0_movesOf 19 = .ok (.ireturn, 1) := dk_172 (dk_at dksX0_movesOf_0 19 rfl rfl)
abbrev cX0_airtimeOf : ByteArray := method_15_code
def yX0_airtimeOf : MethodName := ⟨RX0, "airtimeOf", "(LSpectrumAccess;I[J)I"⟩
def dkwX0_airtimeOf_0 : List UInt8 := [44, 3, 42, 27, 182, 0, 54, 133, 80, 167, 0, 9, 78, 4, 172, 78, 5, 172, 3, 172]
abbrev dktX0_airtimeOf_0 : List UInt8 := dkwX0_airtimeOf_0 ++ []
theorem dksX0_airtimeOf_0 : cX0_airtimeOf.data.toList.drop 0 = dktX0_airtimeOf_0 := by decide +kernel
theorem dX0_airtimeOf_0 : decode cX0_airtimeOf 0 = .ok (.aload_n 2, 1) := dk_44 (dk_at dksX0_airtimeOf_0 0 rfl rfl)
theorem dX0_airtimeOf_1 : decode cX0_airtimeOf 1 = .ok (.iconst 0, 1) := dk_3 (dk_at dksX0_airtimeOf_0 1 rfl rfl)
theorem dX0_airtimeOf_2 : decode cX0_airtimeOf 2 = .ok (.aload_n 0, 1) := dk_42 (dk_at dksX0_airtimeOf_0 2 rfl rfl)
theorem dX0_airtimeOf_3 : decode cX0_airtimeOf 3 = .ok (.iload_n 1, 1) := dk_27 (dk_at dksX0_airtimeOf_0 3 rfl rfl)
theorem dX0_airtimeOf_4 : decode cX0_airtimeOf 4 = .ok (.invokevirtual 54, 3) := dk_182 0 54 (dk_at dksX0_airtimeOf_0 4 rfl rfl)
theorem dX0_airtimeOf_7 : decode cX0_airtimeOf 7 = .ok (.i2l, 1) := dk_133 (dk_at dksX0_airtimeOf_0 7 rfl rfl)
theorem dX0_airtimeOf_8 : decode cX0_airtimeOf 8 = .ok (.lastore, 1) := dk_80 (dk_at dksX0_airtimeOf_0 8 rfl rfl)
theorem dX0_airtimeOf_9 : decode cX0_airtimeOf 9 = .ok (.goto 9, 3) := dk_167 0 9 (dk_at dksX0_airtimeOf_0 9 rfl rfl)
theorem dX0_airtimeOf_12 : decode cX0_airtimeOf 12 = .ok (.astore_n 3, 1) := dk_78 (dk_at dksX0_airtimeOf_0 12 rfl rfl)
theorem dX0_airtimeOf_13 : decode cX0_airtimeOf 13 = .ok (.iconst 1, 1) := dk_4 (dk_at dksX0_airtimeOf_0 13 rfl rfl)
theorem dX0_airtimeOf_14 : decode cX0_airtimeOf 14 = .ok (.ireturn, 1) := dk_172 (dk_at dksX0_airtimeOf_0 14 rfl rfl)
theorem dX0_airtimeOf_15 : decode cX0_airtimeOf 15 = .ok (.astore_n 3, 1) := dk_78 (dk_at dksX0_airtimeOf_0 15 rfl rfl)
theorem dX0_airtimeOf_16 : decode cX0_airtimeOf 16 = .ok (.iconst 2, 1) := dk_5 (dk_at dksX0_airtimeOf_0 16 rfl rfl)
theorem dX0_airtimeOf_17 : decode cX0_airtimeOf 17 = .ok (.ireturn, 1) := dk_172 (dk_at dksX0_airtimeOf_0 17 rfl rfl)
theorem dX0_airtimeOf_18 : decode cX0_airtimeOf 18 = .ok (.iconst 0, 1) := dk_3 (dk_at dksX0_airtimeOf_0 18 rfl rfl)
theorem dX0_airtimeOf_19 : decode cX0_airtimeOf 19 = .ok (.ireturn, 1) := dk_172 (dk_at dksX0_airtimeOf_0 19 rfl rfl)
abbrev cX0_leaseEndOf : ByteArray := method_16_code
def yX0_leaseEndOf : MethodName := ⟨RX0, "leaseEndOf", "(LSpectrumAccess;I[J)I"⟩
def dkwX0_leaseEndOf_0 : List UInt8 := [44, 3, 42, 27, 182, 0, 57, 133, 80, 167, 0, 9, 78, 4, 172, 78, 5, 172, 3, 172]
abbrev dktX0_leaseEndOf_0 : List UInt8 := dkwX0_leaseEndOf_0 ++ []
theorem dksX0_leaseEndOf_0 : cX0_leaseEndOf.data.toList.drop 0 = dktX0_leaseEndOf_0 := by decide +kernel
theorem dX0_leaseEndOf_0 : decode cX0_leaseEndOf 0 = .ok (.aload_n 2, 1) := dk_44 (dk_at dksX0_leaseEndOf_0 0 rfl rfl)
theorem dX0_leaseEndOf_1 : decode cX0_leaseEndOf 1 = .ok (.iconst 0, 1) := dk_3 (dk_at dksX0_leaseEndOf_0 1 rfl rfl)
theorem dX0_leaseEndOf_2 : decode cX0_leaseEndOf 2 = .ok (.aload_n 0, 1) := dk_42 (dk_at dksX0_leaseEndOf_0 2 rfl rfl)
theorem dX0_leaseEndOf_3 : decode cX0_leaseEndOf 3 = .ok (.iload_n 1, 1) := dk_27 (dk_at dksX0_leaseEndOf_0 3 rfl rfl)
theorem dX0_leaseEndOf_4 : decode cX0_leaseEndOf 4 = .ok (.invokevirtual 57, 3) := dk_182 0 57 (dk_at dksX0_leaseEndOf_0 4 rfl rfl)
theorem dX0_leaseEndOf_7 : decode cX0_leaseEndOf 7 = .ok (.i2l, 1) := dk_133 (dk_at dksX0_leaseEndOf_0 7 rfl rfl)
theorem dX0_leaseEndOf_8 : decode cX0_leaseEndOf 8 = .ok (.lastore, 1) := dk_80 (dk_at dksX0_leaseEndOf_0 8 rfl rfl)
theorem dX0_leaseEndOf_9 : decode cX0_leaseEndOf 9 = .ok (.goto 9, 3) := dk_167 0 9 (dk_at dksX0_leaseEndOf_0 9 rfl rfl)
theorem dX0_leaseEndOf_12 : decode cX0_leaseEndOf 12 = .ok (.astore_n 3, 1) := dk_78 (dk_at dksX0_leaseEndOf_0 12 rfl rfl)
theorem dX0_leaseEndOf_13 : decode cX0_leaseEndOf 13 = .ok (.iconst 1, 1) := dk_4 (dk_at dksX0_leaseEndOf_0 13 rfl rfl)
theorem dX0_leaseEndOf_14 : decode cX0_leaseEndOf 14 = .ok (.ireturn, 1) := dk_172 (dk_at dksX0_leaseEndOf_0 14 rfl rfl)
theorem dX0_leaseEndOf_15 : decode cX0_leaseEndOf 15 = .ok (.astore_n 3, 1) := dk_78 (dk_at dksX0_leaseEndOf_0 15 rfl rfl)
theorem dX0_leaseEndOf_16 : decode cX0_leaseEndOf 16 = .ok (.iconst 2, 1) := dk_5 (dk_at dksX0_leaseEndOf_0 16 rfl rfl)
theorem dX0_leaseEndOf_17 : decode cX0_leaseEndOf 17 = .ok (.ireturn, 1) := dk_172 (dk_at dksX0_leaseEndOf_0 17 rfl rfl)
theorem dX0_leaseEndOf_18 : decode cX0_leaseEndOf 18 = .ok (.iconst 0, 1) := dk_3 (dk_at dksX0_leaseEndOf_0 18 rfl rfl)
theorem dX0_leaseEndOf_19 : decode cX0_leaseEndOf 19 = .ok (.ireturn, 1) := dk_172 (dk_at dksX0_leaseEndOf_0 19 rfl rfl)
abbrev cX0_strengthOf : ByteArray := method_17_code
def yX0_strengthOf : MethodName := ⟨RX0, "strengthOf", "(LSpectrumAccess;III[J)I"⟩
def dkwX0_strengthOf_1 : List UInt8 := [172]
abbrev dktX0_strengthOf_1 : List UInt8 := dkwX0_strengthOf_1 ++ []
def dkwX0_strengthOf_0 : List UInt8 := [25, 4, 3, 42, 27, 28, 29, 182, 0, 60, 133, 80, 167, 0, 11, 58, 5, 4, 172, 58, 5, 5, 172, 3]
abbrev dktX0_strengthOf_0 : List UInt8 := dkwX0_strengthOf_0 ++ dktX0_strengthOf_1
theorem dksX0_strengthOf_0 : cX0_strengthOf.data.toList.drop 0 = dktX0_strengthOf_0 := by decide +kernel
theorem dksX0_strengthOf_1 : cX0_strengthOf.data.toList.drop 24 = dktX0_strengthOf_1 := dk_seg dksX0_strengthOf_0 24 rfl rfl
theorem dX0_strengthOf_0 : decode cX0_strengthOf 0 = .ok (.aload 4, 2) := dk_25 4 (dk_at dksX0_strengthOf_0 0 rfl rfl)
theorem dX0_strengthOf_2 : decode cX0_strengthOf 2 = .ok (.iconst 0, 1) := dk_3 (dk_at dksX0_strengthOf_0 2 rfl rfl)
theorem dX0_strengthOf_3 : decode cX0_strengthOf 3 = .ok (.aload_n 0, 1) := dk_42 (dk_at dksX0_strengthOf_0 3 rfl rfl)
theorem dX0_strengthOf_4 : decode cX0_strengthOf 4 = .ok (.iload_n 1, 1) := dk_27 (dk_at dksX0_strengthOf_0 4 rfl rfl)
theorem dX0_strengthOf_5 : decode cX0_strengthOf 5 = .ok (.iload_n 2, 1) := dk_28 (dk_at dksX0_strengthOf_0 5 rfl rfl)
theorem dX0_strengthOf_6 : decode cX0_strengthOf 6 = .ok (.iload_n 3, 1) := dk_29 (dk_at dksX0_strengthOf_0 6 rfl rfl)
theorem dX0_strengthOf_7 : decode cX0_strengthOf 7 = .ok (.invokevirtual 60, 3) := dk_182 0 60 (dk_at dksX0_strengthOf_0 7 rfl rfl)
theorem dX0_strengthOf_10 : decode cX0_strengthOf 10 = .ok (.i2l, 1) := dk_133 (dk_at dksX0_strengthOf_0 10 rfl rfl)
theorem dX0_strengthOf_11 : decode cX0_strengthOf 11 = .ok (.lastore, 1) := dk_80 (dk_at dksX0_strengthOf_0 11 rfl rfl)
theorem dX0_strengthOf_12 : decode cX0_strengthOf 12 = .ok (.goto 11, 3) := dk_167 0 11 (dk_at dksX0_strengthOf_0 12 rfl rfl)
theorem dX0_strengthOf_15 : decode cX0_strengthOf 15 = .ok (.astore 5, 2) := dk_58 5 (dk_at dksX0_strengthOf_0 15 rfl rfl)
theorem dX0_strengthOf_17 : decode cX0_strengthOf 17 = .ok (.iconst 1, 1) := dk_4 (dk_at dksX0_strengthOf_0 17 rfl rfl)
theorem dX0_strengthOf_18 : decode cX0_strengthOf 18 = .ok (.ireturn, 1) := dk_172 (dk_at dksX0_strengthOf_0 18 rfl rfl)
theorem dX0_strengthOf_19 : decode cX0_strengthOf 19 = .ok (.astore 5, 2) := dk_58 5 (dk_at dksX0_strengthOf_0 19 rfl rfl)
theorem dX0_strengthOf_21 : decode cX0_strengthOf 21 = .ok (.iconst 2, 1) := dk_5 (dk_at dksX0_strengthOf_0 21 rfl rfl)
theorem dX0_strengthOf_22 : decode cX0_strengthOf 22 = .ok (.ireturn, 1) := dk_172 (dk_at dksX0_strengthOf_0 22 rfl rfl)
theorem dX0_strengthOf_23 : decode cX0_strengthOf 23 = .ok (.iconst 0, 1) := dk_3 (dk_at dksX0_strengthOf_0 23 rfl rfl)
theorem dX0_strengthOf_24 : decode cX0_strengthOf 24 = .ok (.ireturn, 1) := dk_172 (dk_at dksX0_strengthOf_1 0 rfl rfl)
abbrev cX0_interference : ByteArray := method_18_code
def yX0_interference : MethodName := ⟨RX0, "interference", "(LSpectrumAccess;IIII[J)I"⟩
def dkwX0_interference_1 : List UInt8 := [172, 58, 6, 6, 172, 3, 172]
abbrev dktX0_interference_1 : List UInt8 := dkwX0_interference_1 ++ []
def dkwX0_interference_0 : List UInt8 := [25, 5, 3, 42, 27, 28, 29, 21, 4, 182, 0, 63, 133, 80, 167, 0, 15, 58, 6, 4, 172, 58, 6, 5]
abbrev dktX0_interference_0 : List UInt8 := dkwX0_interference_0 ++ dktX0_interference_1
theorem dksX0_interference_0 : cX0_interference.data.toList.drop 0 = dktX0_interference_0 := by decide +kernel
theorem dksX0_interference_1 : cX0_interference.data.toList.drop 24 = dktX0_interference_1 := dk_seg dksX0_interference_0 24 rfl rfl
theorem dX0_interference_0 : decode cX0_interference 0 = .ok (.aload 5, 2) := dk_25 5 (dk_at dksX0_interference_0 0 rfl rfl)
theorem dX0_interference_2 : decode cX0_interference 2 = .ok (.iconst 0, 1) := dk_3 (dk_at dksX0_interference_0 2 rfl rfl)
theorem dX0_interference_3 : decode cX0_interference 3 = .ok (.aload_n 0, 1) := dk_42 (dk_at dksX0_interference_0 3 rfl rfl)
theorem dX0_interference_4 : decode cX0_interference 4 = .ok (.iload_n 1, 1) := dk_27 (dk_at dksX0_interference_0 4 rfl rfl)
theorem dX0_interference_5 : decode cX0_interference 5 = .ok (.iload_n 2, 1) := dk_28 (dk_at dksX0_interference_0 5 rfl rfl)
theorem dX0_interference_6 : decode cX0_interference 6 = .ok (.iload_n 3, 1) := dk_29 (dk_at dksX0_interference_0 6 rfl rfl)
theorem dX0_interference_7 : decode cX0_interference 7 = .ok (.iload 4, 2) := dk_21 4 (dk_at dksX0_interference_0 7 rfl rfl)
theorem dX0_interference_9 : decode cX0_interference 9 = .ok (.invokevirtual 63, 3) := dk_182 0 63 (dk_at dksX0_interference_0 9 rfl rfl)
theorem dX0_interference_12 : decode cX0_interference 12 = .ok (.i2l, 1) := dk_133 (dk_at dksX0_interference_0 12 rfl rfl)
theorem dX0_interference_13 : decode cX0_interference 13 = .ok (.lastore, 1) := dk_80 (dk_at dksX0_interference_0 13 rfl rfl)
theorem dX0_interference_14 : decode cX0_interference 14 = .ok (.goto 15, 3) := dk_167 0 15 (dk_at dksX0_interference_0 14 rfl rfl)
theorem dX0_interference_17 : decode cX0_interference 17 = .ok (.astore 6, 2) := dk_58 6 (dk_at dksX0_interference_0 17 rfl rfl)
theorem dX0_interference_19 : decode cX0_interference 19 = .ok (.iconst 1, 1) := dk_4 (dk_at dksX0_interference_0 19 rfl rfl)
theorem dX0_interference_20 : decode cX0_interference 20 = .ok (.ireturn, 1) := dk_172 (dk_at dksX0_interference_0 20 rfl rfl)
theorem dX0_interference_21 : decode cX0_interference 21 = .ok (.astore 6, 2) := dk_58 6 (dk_at dksX0_interference_0 21 rfl rfl)
theorem dX0_interference_23 : decode cX0_interference 23 = .ok (.iconst 2, 1) := dk_5 (dk_at dksX0_interference_0 23 rfl rfl)
theorem dX0_interference_24 : decode cX0_interference 24 = .ok (.ireturn, 1) := dk_172 (dk_at dksX0_interference_1 0 rfl rfl)
theorem dX0_interference_25 : decode cX0_interference 25 = .ok (.astore 6, 2) := dk_58 6 (dk_at dksX0_interference_1 1 rfl rfl)
theorem dX0_interference_27 : decode cX0_interference 27 = .ok (.iconst 3, 1) := dk_6 (dk_at dksX0_interference_1 3 rfl rfl)
theorem dX0_interference_28 : decode cX0_interference 28 = .ok (.ireturn, 1) := dk_172 (dk_at dksX0_interference_1 4 rfl rfl)
theorem dX0_interference_29 : decode cX0_interference 29 = .ok (.iconst 0, 1) := dk_3 (dk_at dksX0_interference_1 5 rfl rfl)
theorem dX0_interference_30 : decode cX0_interference 30 = .ok (.ireturn, 1) := dk_172 (dk_at dksX0_interference_1 6 rfl rfl)
abbrev cX0_quietest : ByteArray := method_19_code
def yX0_quietest : MethodName := ⟨RX0, "quietest", "(LSpectrumAccess;II[J)I"⟩
def dkwX0_quietest_0 : List UInt8 := [45, 3, 42, 27, 28, 182, 0, 67, 133, 80, 167, 0, 11, 58, 4, 4, 172, 58, 4, 5, 172, 3, 172]
abbrev dktX0_quietest_0 : List UInt8 := dkwX0_quietest_0 ++ []
theorem dksX0_quietest_0 : cX0_quietest.data.toList.drop 0 = dktX0_quietest_0 := by decide +kernel
theorem dX0_quietest_0 : decode cX0_quietest 0 = .ok (.aload_n 3, 1) := dk_45 (dk_at dksX0_quietest_0 0 rfl rfl)
theorem dX0_quietest_1 : decode cX0_quietest 1 = .ok (.iconst 0, 1) := dk_3 (dk_at dksX0_quietest_0 1 rfl rfl)
theorem dX0_quietest_2 : decode cX0_quietest 2 = .ok (.aload_n 0, 1) := dk_42 (dk_at dksX0_quietest_0 2 rfl rfl)
theorem dX0_quietest_3 : decode cX0_quietest 3 = .ok (.iload_n 1, 1) := dk_27 (dk_at dksX0_quietest_0 3 rfl rfl)
theorem dX0_quietest_4 : decode cX0_quietest 4 = .ok (.iload_n 2, 1) := dk_28 (dk_at dksX0_quietest_0 4 rfl rfl)
theorem dX0_quietest_5 : decode cX0_quietest 5 = .ok (.invokevirtual 67, 3) := dk_182 0 67 (dk_at dksX0_quietest_0 5 rfl rfl)
theorem dX0_quietest_8 : decode cX0_quietest 8 = .ok (.i2l, 1) := dk_133 (dk_at dksX0_quietest_0 8 rfl rfl)
theorem dX0_quietest_9 : decode cX0_quietest 9 = .ok (.lastore, 1) := dk_80 (dk_at dksX0_quietest_0 9 rfl rfl)
theorem dX0_quietest_10 : decode cX0_quietest 10 = .ok (.goto 11, 3) := dk_167 0 11 (dk_at dksX0_quietest_0 10 rfl rfl)
theorem dX0_quietest_13 : decode cX0_quietest 13 = .ok (.astore 4, 2) := dk_58 4 (dk_at dksX0_quietest_0 13 rfl rfl)
theorem dX0_quietest_15 : decode cX0_quietest 15 = .ok (.iconst 1, 1) := dk_4 (dk_at dksX0_quietest_0 15 rfl rfl)
theorem dX0_quietest_16 : decode cX0_quietest 16 = .ok (.ireturn, 1) := dk_172 (dk_at dksX0_quietest_0 16 rfl rfl)
theorem dX0_quietest_17 : decode cX0_quietest 17 = .ok (.astore 4, 2) := dk_58 4 (dk_at dksX0_quietest_0 17 rfl rfl)
theorem dX0_quietest_19 : decode cX0_quietest 19 = .ok (.iconst 2, 1) := dk_5 (dk_at dksX0_quietest_0 19 rfl rfl)
theorem dX0_quietest_20 : decode cX0_quietest 20 = .ok (.ireturn, 1) := dk_172 (dk_at dksX0_quietest_0 20 rfl rfl)
theorem dX0_quietest_21 : decode cX0_quietest 21 = .ok (.iconst 0, 1) := dk_3 (dk_at dksX0_quietest_0 21 rfl rfl)
theorem dX0_quietest_22 : decode cX0_quietest 22 = .ok (.ireturn, 1) := dk_172 (dk_at dksX0_quietest_0 22 rfl rfl)
abbrev cX0_mostMoved : ByteArray := method_20_code
def yX0_mostMoved : MethodName := ⟨RX0, "mostMoved", "(LSpectrumAccess;I[J)I"⟩
def dkwX0_mostMoved_0 : List UInt8 := [44, 3, 42, 27, 182, 0, 71, 133, 80, 167, 0, 9, 78, 4, 172, 78, 5, 172, 3, 172]
abbrev dktX0_mostMoved_0 : List UInt8 := dkwX0_mostMoved_0 ++ []
theorem dksX0_mostMoved_0 : cX0_mostMoved.data.toList.drop 0 = dktX0_mostMoved_0 := by decide +kernel
theorem dX0_mostMoved_0 : decode cX0_mostMoved 0 = .ok (.aload_n 2, 1) := dk_44 (dk_at dksX0_mostMoved_0 0 rfl rfl)
theorem dX0_mostMoved_1 : decode cX0_mostMoved 1 = .ok (.iconst 0, 1) := dk_3 (dk_at dksX0_mostMoved_0 1 rfl rfl)
theorem dX0_mostMoved_2 : decode cX0_mostMoved 2 = .ok (.aload_n 0, 1) := dk_42 (dk_at dksX0_mostMoved_0 2 rfl rfl)
theorem dX0_mostMoved_3 : decode cX0_mostMoved 3 = .ok (.iload_n 1, 1) := dk_27 (dk_at dksX0_mostMoved_0 3 rfl rfl)
theorem dX0_mostMoved_4 : decode cX0_mostMoved 4 = .ok (.invokevirtual 71, 3) := dk_182 0 71 (dk_at dksX0_mostMoved_0 4 rfl rfl)
theorem dX0_mostMoved_7 : decode cX0_mostMoved 7 = .ok (.i2l, 1) := dk_133 (dk_at dksX0_mostMoved_0 7 rfl rfl)
theorem dX0_mostMoved_8 : decode cX0_mostMoved 8 = .ok (.lastore, 1) := dk_80 (dk_at dksX0_mostMoved_0 8 rfl rfl)
theorem dX0_mostMoved_9 : decode cX0_mostMoved 9 = .ok (.goto 9, 3) := dk_167 0 9 (dk_at dksX0_mostMoved_0 9 rfl rfl)
theorem dX0_mostMoved_12 : decode cX0_mostMoved 12 = .ok (.astore_n 3, 1) := dk_78 (dk_at dksX0_mostMoved_0 12 rfl rfl)
theorem dX0_mostMoved_13 : decode cX0_mostMoved 13 = .ok (.iconst 1, 1) := dk_4 (dk_at dksX0_mostMoved_0 13 rfl rfl)
theorem dX0_mostMoved_14 : decode cX0_mostMoved 14 = .ok (.ireturn, 1) := dk_172 (dk_at dksX0_mostMoved_0 14 rfl rfl)
theorem dX0_mostMoved_15 : decode cX0_mostMoved 15 = .ok (.astore_n 3, 1) := dk_78 (dk_at dksX0_mostMoved_0 15 rfl rfl)
theorem dX0_mostMoved_16 : decode cX0_mostMoved 16 = .ok (.iconst 2, 1) := dk_5 (dk_at dksX0_mostMoved_0 16 rfl rfl)
theorem dX0_mostMoved_17 : decode cX0_mostMoved 17 = .ok (.ireturn, 1) := dk_172 (dk_at dksX0_mostMoved_0 17 rfl rfl)
theorem dX0_mostMoved_18 : decode cX0_mostMoved 18 = .ok (.iconst 0, 1) := dk_3 (dk_at dksX0_mostMoved_0 18 rfl rfl)
theorem dX0_mostMoved_19 : decode cX0_mostMoved 19 = .ok (.ireturn, 1) := dk_172 (dk_at dksX0_mostMoved_0 19 rfl rfl)
abbrev cX0_offeredChannel : ByteArray := method_21_code
def yX0_offeredChannel : MethodName := ⟨RX0, "offeredChannel", "(LSpectrumAccess;I[J)I"⟩
def dkwX0_offeredChannel_0 : List UInt8 := [44, 3, 42, 27, 182, 0, 74, 133, 80, 167, 0, 9, 78, 4, 172, 78, 5, 172, 3, 172]
abbrev dktX0_offeredChannel_0 : List UInt8 := dkwX0_offeredChannel_0 ++ []
theorem dksX0_offeredChannel_0 : cX0_offeredChannel.data.toList.drop 0 = dktX0_offeredChannel_0 := by decide +kernel
theorem dX0_offeredChannel_0 : decode cX0_offeredChannel 0 = .ok (.aload_n 2, 1) := dk_44 (dk_at dksX0_offeredChannel_0 0 rfl rfl)
theorem dX0_offeredChannel_1 : decode cX0_offeredChannel 1 = .ok (.iconst 0, 1) := dk_3 (dk_at dksX0_offeredChannel_0 1 rfl rfl)
theorem dX0_offeredChannel_2 : decode cX0_offeredChannel 2 = .ok (.aload_n 0, 1) := dk_42 (dk_at dksX0_offeredChannel_0 2 rfl rfl)
theorem dX0_offeredChannel_3 : decode cX0_offeredChannel 3 = .ok (.iload_n 1, 1) := dk_27 (dk_at dksX0_offeredChannel_0 3 rfl rfl)
theorem dX0_offeredChannel_4 : decode cX0_offeredChannel 4 = .ok (.invokevirtual 74, 3) := dk_182 0 74 (dk_at dksX0_offeredChannel_0 4 rfl rfl)
theorem dX0_offeredChannel_7 : decode cX0_offeredChannel 7 = .ok (.i2l, 1) := dk_133 (dk_at dksX0_offeredChannel_0 7 rfl rfl)
theorem dX0_offeredChannel_8 : decode cX0_offeredChannel 8 = .ok (.lastore, 1) := dk_80 (dk_at dksX0_offeredChannel_0 8 rfl rfl)
theorem dX0_offeredChannel_9 : decode cX0_offeredChannel 9 = .ok (.goto 9, 3) := dk_167 0 9 (dk_at dksX0_offeredChannel_0 9 rfl rfl)
theorem dX0_offeredChannel_12 : decode cX0_offeredChannel 12 = .ok (.astore_n 3, 1) := dk_78 (dk_at dksX0_offeredChannel_0 12 rfl rfl)
theorem dX0_offeredChannel_13 : decode cX0_offeredChannel 13 = .ok (.iconst 1, 1) := dk_4 (dk_at dksX0_offeredChannel_0 13 rfl rfl)
theorem dX0_offeredChannel_14 : decode cX0_offeredChannel 14 = .ok (.ireturn, 1) := dk_172 (dk_at dksX0_offeredChannel_0 14 rfl rfl)
theorem dX0_offeredChannel_15 : decode cX0_offeredChannel 15 = .ok (.astore_n 3, 1) := dk_78 (dk_at dksX0_offeredChannel_0 15 rfl rfl)
theorem dX0_offeredChannel_16 : decode cX0_offeredChannel 16 = .ok (.iconst 2, 1) := dk_5 (dk_at dksX0_offeredChannel_0 16 rfl rfl)
theorem dX0_offeredChannel_17 : decode cX0_offeredChannel 17 = .ok (.ireturn, 1) := dk_172 (dk_at dksX0_offeredChannel_0 17 rfl rfl)
theorem dX0_offeredChannel_18 : decode cX0_offeredChannel 18 = .ok (.iconst 0, 1) := dk_3 (dk_at dksX0_offeredChannel_0 18 rfl rfl)
theorem dX0_offeredChannel_19 : decode cX0_offeredChannel 19 = .ok (.ireturn, 1) := dk_172 (dk_at dksX0_offeredChannel_0 19 rfl rfl)
abbrev cX0_offeredPower : ByteArray := method_22_code
def yX0_offeredPower : MethodName := ⟨RX0, "offeredPower", "(LSpectrumAccess;I[J)I"⟩
def dkwX0_offeredPower_0 : List UInt8 := [44, 3, 42, 27, 182, 0, 77, 133, 80, 167, 0, 9, 78, 4, 172, 78, 5, 172, 3, 172]
abbrev dktX0_offeredPower_0 : List UInt8 := dkwX0_offeredPower_0 ++ []
theorem dksX0_offeredPower_0 : cX0_offeredPower.data.toList.drop 0 = dktX0_offeredPower_0 := by decide +kernel
theorem dX0_offeredPower_0 : decode cX0_offeredPower 0 = .ok (.aload_n 2, 1) := dk_44 (dk_at dksX0_offeredPower_0 0 rfl rfl)
theorem dX0_offeredPower_1 : decode cX0_offeredPower 1 = .ok (.iconst 0, 1) := dk_3 (dk_at dksX0_offeredPower_0 1 rfl rfl)
theorem dX0_offeredPower_2 : decode cX0_offeredPower 2 = .ok (.aload_n 0, 1) := dk_42 (dk_at dksX0_offeredPower_0 2 rfl rfl)
theorem dX0_offeredPower_3 : decode cX0_offeredPower 3 = .ok (.iload_n 1, 1) := dk_27 (dk_at dksX0_offeredPower_0 3 rfl rfl)
theorem dX0_offeredPower_4 : decode cX0_offeredPower 4 = .ok (.invokevirtual 77, 3) := dk_182 0 77 (dk_at dksX0_offeredPower_0 4 rfl rfl)
theorem dX0_offeredPower_7 : decode cX0_offeredPower 7 = .ok (.i2l, 1) := dk_133 (dk_at dksX0_offeredPower_0 7 rfl rfl)
theorem dX0_offeredPower_8 : decode cX0_offeredPower 8 = .ok (.lastore, 1) := dk_80 (dk_at dksX0_offeredPower_0 8 rfl rfl)
theorem dX0_offeredPower_9 : decode cX0_offeredPower 9 = .ok (.goto 9, 3) := dk_167 0 9 (dk_at dksX0_offeredPower_0 9 rfl rfl)
theorem dX0_offeredPower_12 : decode cX0_offeredPower 12 = .ok (.astore_n 3, 1) := dk_78 (dk_at dksX0_offeredPower_0 12 rfl rfl)
theorem dX0_offeredPower_13 : decode cX0_offeredPower 13 = .ok (.iconst 1, 1) := dk_4 (dk_at dksX0_offeredPower_0 13 rfl rfl)
theorem dX0_offeredPower_14 : decode cX0_offeredPower 14 = .ok (.ireturn, 1) := dk_172 (dk_at dksX0_offeredPower_0 14 rfl rfl)
theorem dX0_offeredPower_15 : decode cX0_offeredPower 15 = .ok (.astore_n 3, 1) := dk_78 (dk_at dksX0_offeredPower_0 15 rfl rfl)
theorem dX0_offeredPower_16 : decode cX0_offeredPower 16 = .ok (.iconst 2, 1) := dk_5 (dk_at dksX0_offeredPower_0 16 rfl rfl)
theorem dX0_offeredPower_17 : decode cX0_offeredPower 17 = .ok (.ireturn, 1) := dk_172 (dk_at dksX0_offeredPower_0 17 rfl rfl)
theorem dX0_offeredPower_18 : decode cX0_offeredPower 18 = .ok (.iconst 0, 1) := dk_3 (dk_at dksX0_offeredPower_0 18 rfl rfl)
theorem dX0_offeredPower_19 : decode cX0_offeredPower 19 = .ok (.ireturn, 1) := dk_172 (dk_at dksX0_offeredPower_0 19 rfl rfl)
abbrev cX0_isDenied : ByteArray := method_23_code
def yX0_isDenied : MethodName := ⟨RX0, "isDenied", "(LSpectrumAccess;II[J)I"⟩
def dkwX0_isDenied_1 : List UInt8 := [58, 4, 5, 172, 3, 172]
abbrev dktX0_isDenied_1 : List UInt8 := dkwX0_isDenied_1 ++ []
def dkwX0_isDenied_0 : List UInt8 := [45, 3, 42, 27, 28, 182, 0, 80, 153, 0, 7, 10, 167, 0, 4, 9, 80, 167, 0, 11, 58, 4, 4, 172]
abbrev dktX0_isDenied_0 : List UInt8 := dkwX0_isDenied_0 ++ dktX0_isDenied_1
theorem dksX0_isDenied_0 : cX0_isDenied.data.toList.drop 0 = dktX0_isDenied_0 := by decide +kernel
theorem dksX0_isDenied_1 : cX0_isDenied.data.toList.drop 24 = dktX0_isDenied_1 := dk_seg dksX0_isDenied_0 24 rfl rfl
theorem dX0_isDenied_0 : decode cX0_isDenied 0 = .ok (.aload_n 3, 1) := dk_45 (dk_at dksX0_isDenied_0 0 rfl rfl)
theorem dX0_isDenied_1 : decode cX0_isDenied 1 = .ok (.iconst 0, 1) := dk_3 (dk_at dksX0_isDenied_0 1 rfl rfl)
theorem dX0_isDenied_2 : decode cX0_isDenied 2 = .ok (.aload_n 0, 1) := dk_42 (dk_at dksX0_isDenied_0 2 rfl rfl)
theorem dX0_isDenied_3 : decode cX0_isDenied 3 = .ok (.iload_n 1, 1) := dk_27 (dk_at dksX0_isDenied_0 3 rfl rfl)
theorem dX0_isDenied_4 : decode cX0_isDenied 4 = .ok (.iload_n 2, 1) := dk_28 (dk_at dksX0_isDenied_0 4 rfl rfl)
theorem dX0_isDenied_5 : decode cX0_isDenied 5 = .ok (.invokevirtual 80, 3) := dk_182 0 80 (dk_at dksX0_isDenied_0 5 rfl rfl)
theorem dX0_isDenied_8 : decode cX0_isDenied 8 = .ok (.ifCond .eq 7, 3) := dk_153 0 7 (dk_at dksX0_isDenied_0 8 rfl rfl)
theorem dX0_isDenied_11 : decode cX0_isDenied 11 = .ok (.lconst 1, 1) := dk_10 (dk_at dksX0_isDenied_0 11 rfl rfl)
theorem dX0_isDenied_12 : decode cX0_isDenied 12 = .ok (.goto 4, 3) := dk_167 0 4 (dk_at dksX0_isDenied_0 12 rfl rfl)
theorem dX0_isDenied_15 : decode cX0_isDenied 15 = .ok (.lconst 0, 1) := dk_9 (dk_at dksX0_isDenied_0 15 rfl rfl)
theorem dX0_isDenied_16 : decode cX0_isDenied 16 = .ok (.lastore, 1) := dk_80 (dk_at dksX0_isDenied_0 16 rfl rfl)
theorem dX0_isDenied_17 : decode cX0_isDenied 17 = .ok (.goto 11, 3) := dk_167 0 11 (dk_at dksX0_isDenied_0 17 rfl rfl)
theorem dX0_isDenied_20 : decode cX0_isDenied 20 = .ok (.astore 4, 2) := dk_58 4 (dk_at dksX0_isDenied_0 20 rfl rfl)
theorem dX0_isDenied_22 : decode cX0_isDenied 22 = .ok (.iconst 1, 1) := dk_4 (dk_at dksX0_isDenied_0 22 rfl rfl)
theorem dX0_isDenied_23 : decode cX0_isDenied 23 = .ok (.ireturn, 1) := dk_172 (dk_at dksX0_isDenied_0 23 rfl rfl)
theorem dX0_isDenied_24 : decode cX0_isDenied 24 = .ok (.astore 4, 2) := dk_58 4 (dk_at dksX0_isDenied_1 0 rfl rfl)
theorem dX0_isDenied_26 : decode cX0_isDenied 26 = .ok (.iconst 2, 1) := dk_5 (dk_at dksX0_isDenied_1 2 rfl rfl)
theorem dX0_isDenied_27 : decode cX0_isDenied 27 = .ok (.ireturn, 1) := dk_172 (dk_at dksX0_isDenied_1 3 rfl rfl)
theorem dX0_isDenied_28 : decode cX0_isDenied 28 = .ok (.iconst 0, 1) := dk_3 (dk_at dksX0_isDenied_1 4 rfl rfl)
theorem dX0_isDenied_29 : decode cX0_isDenied 29 = .ok (.ireturn, 1) := dk_172 (dk_at dksX0_isDenied_1 5 rfl rfl)
abbrev cX0_allowedPower : ByteArray := method_24_code
def yX0_allowedPower : MethodName := ⟨RX0, "allowedPower", "(LSpectrumAccess;III[J)I"⟩
def dkwX0_allowedPower_1 : List UInt8 := [172]
abbrev dktX0_allowedPower_1 : List UInt8 := dkwX0_allowedPower_1 ++ []
def dkwX0_allowedPower_0 : List UInt8 := [25, 4, 3, 42, 27, 28, 29, 182, 0, 84, 133, 80, 167, 0, 11, 58, 5, 4, 172, 58, 5, 5, 172, 3]
abbrev dktX0_allowedPower_0 : List UInt8 := dkwX0_allowedPower_0 ++ dktX0_allowedPower_1
theorem dksX0_allowedPower_0 : cX0_allowedPower.data.toList.drop 0 = dktX0_allowedPower_0 := by decide +kernel
theorem dksX0_allowedPower_1 : cX0_allowedPower.data.toList.drop 24 = dktX0_allowedPower_1 := dk_seg dksX0_allowedPower_0 24 rfl rfl
theorem dX0_allowedPower_0 : decode cX0_allowedPower 0 = .ok (.aload 4, 2) := dk_25 4 (dk_at dksX0_allowedPower_0 0 rfl rfl)
theorem dX0_allowedPower_2 : decode cX0_allowedPower 2 = .ok (.iconst 0, 1) := dk_3 (dk_at dksX0_allowedPower_0 2 rfl rfl)
theorem dX0_allowedPower_3 : decode cX0_allowedPower 3 = .ok (.aload_n 0, 1) := dk_42 (dk_at dksX0_allowedPower_0 3 rfl rfl)
theorem dX0_allowedPower_4 : decode cX0_allowedPower 4 = .ok (.iload_n 1, 1) := dk_27 (dk_at dksX0_allowedPower_0 4 rfl rfl)
theorem dX0_allowedPower_5 : decode cX0_allowedPower 5 = .ok (.iload_n 2, 1) := dk_28 (dk_at dksX0_allowedPower_0 5 rfl rfl)
theorem dX0_allowedPower_6 : decode cX0_allowedPower 6 = .ok (.iload_n 3, 1) := dk_29 (dk_at dksX0_allowedPower_0 6 rfl rfl)
theorem dX0_allowedPower_7 : decode cX0_allowedPower 7 = .ok (.invokevirtual 84, 3) := dk_182 0 84 (dk_at dksX0_allowedPower_0 7 rfl rfl)
theorem dX0_allowedPower_10 : decode cX0_allowedPower 10 = .ok (.i2l, 1) := dk_133 (dk_at dksX0_allowedPower_0 10 rfl rfl)
theorem dX0_allowedPower_11 : decode cX0_allowedPower 11 = .ok (.lastore, 1) := dk_80 (dk_at dksX0_allowedPower_0 11 rfl rfl)
theorem dX0_allowedPower_12 : decode cX0_allowedPower 12 = .ok (.goto 11, 3) := dk_167 0 11 (dk_at dksX0_allowedPower_0 12 rfl rfl)
theorem dX0_allowedPower_15 : decode cX0_allowedPower 15 = .ok (.astore 5, 2) := dk_58 5 (dk_at dksX0_allowedPower_0 15 rfl rfl)
theorem dX0_allowedPower_17 : decode cX0_allowedPower 17 = .ok (.iconst 1, 1) := dk_4 (dk_at dksX0_allowedPower_0 17 rfl rfl)
theorem dX0_allowedPower_18 : decode cX0_allowedPower 18 = .ok (.ireturn, 1) := dk_172 (dk_at dksX0_allowedPower_0 18 rfl rfl)
theorem dX0_allowedPower_19 : decode cX0_allowedPower 19 = .ok (.astore 5, 2) := dk_58 5 (dk_at dksX0_allowedPower_0 19 rfl rfl)
theorem dX0_allowedPower_21 : decode cX0_allowedPower 21 = .ok (.iconst 2, 1) := dk_5 (dk_at dksX0_allowedPower_0 21 rfl rfl)
theorem dX0_allowedPower_22 : decode cX0_allowedPower 22 = .ok (.ireturn, 1) := dk_172 (dk_at dksX0_allowedPower_0 22 rfl rfl)
theorem dX0_allowedPower_23 : decode cX0_allowedPower 23 = .ok (.iconst 0, 1) := dk_3 (dk_at dksX0_allowedPower_0 23 rfl rfl)
theorem dX0_allowedPower_24 : decode cX0_allowedPower 24 = .ok (.ireturn, 1) := dk_172 (dk_at dksX0_allowedPower_1 0 rfl rfl)
abbrev cX0_bestSite : ByteArray := method_25_code
def yX0_bestSite : MethodName := ⟨RX0, "bestSite", "(LSpectrumAccess;I[J)I"⟩
def dkwX0_bestSite_0 : List UInt8 := [44, 3, 42, 27, 182, 0, 87, 133, 80, 167, 0, 9, 78, 4, 172, 78, 5, 172, 3, 172]
abbrev dktX0_bestSite_0 : List UInt8 := dkwX0_bestSite_0 ++ []
theorem dksX0_bestSite_0 : cX0_bestSite.data.toList.drop 0 = dktX0_bestSite_0 := by decide +kernel
theorem dX0_bestSite_0 : decode cX0_bestSite 0 = .ok (.aload_n 2, 1) := dk_44 (dk_at dksX0_bestSite_0 0 rfl rfl)
theorem dX0_bestSite_1 : decode cX0_bestSite 1 = .ok (.iconst 0, 1) := dk_3 (dk_at dksX0_bestSite_0 1 rfl rfl)
theorem dX0_bestSite_2 : decode cX0_bestSite 2 = .ok (.aload_n 0, 1) := dk_42 (dk_at dksX0_bestSite_0 2 rfl rfl)
theorem dX0_bestSite_3 : decode cX0_bestSite 3 = .ok (.iload_n 1, 1) := dk_27 (dk_at dksX0_bestSite_0 3 rfl rfl)
theorem dX0_bestSite_4 : decode cX0_bestSite 4 = .ok (.invokevirtual 87, 3) := dk_182 0 87 (dk_at dksX0_bestSite_0 4 rfl rfl)
theorem dX0_bestSite_7 : decode cX0_bestSite 7 = .ok (.i2l, 1) := dk_133 (dk_at dksX0_bestSite_0 7 rfl rfl)
theorem dX0_bestSite_8 : decode cX0_bestSite 8 = .ok (.lastore, 1) := dk_80 (dk_at dksX0_bestSite_0 8 rfl rfl)
theorem dX0_bestSite_9 : decode cX0_bestSite 9 = .ok (.goto 9, 3) := dk_167 0 9 (dk_at dksX0_bestSite_0 9 rfl rfl)
theorem dX0_bestSite_12 : decode cX0_bestSite 12 = .ok (.astore_n 3, 1) := dk_78 (dk_at dksX0_bestSite_0 12 rfl rfl)
theorem dX0_bestSite_13 : decode cX0_bestSite 13 = .ok (.iconst 1, 1) := dk_4 (dk_at dksX0_bestSite_0 13 rfl rfl)
theorem dX0_bestSite_14 : decode cX0_bestSite 14 = .ok (.ireturn, 1) := dk_172 (dk_at dksX0_bestSite_0 14 rfl rfl)
theorem dX0_bestSite_15 : decode cX0_bestSite 15 = .ok (.astore_n 3, 1) := dk_78 (dk_at dksX0_bestSite_0 15 rfl rfl)
theorem dX0_bestSite_16 : decode cX0_bestSite 16 = .ok (.iconst 2, 1) := dk_5 (dk_at dksX0_bestSite_0 16 rfl rfl)
theorem dX0_bestSite_17 : decode cX0_bestSite 17 = .ok (.ireturn, 1) := dk_172 (dk_at dksX0_bestSite_0 17 rfl rfl)
theorem dX0_bestSite_18 : decode cX0_bestSite 18 = .ok (.iconst 0, 1) := dk_3 (dk_at dksX0_bestSite_0 18 rfl rfl)
theorem dX0_bestSite_19 : decode cX0_bestSite 19 = .ok (.ireturn, 1) := dk_172 (dk_at dksX0_bestSite_0 19 rfl rfl)
abbrev cX0_queueAt : ByteArray := method_26_code
def yX0_queueAt : MethodName := ⟨RX0, "queueAt", "(LSpectrumAccess;I[J)I"⟩
def dkwX0_queueAt_0 : List UInt8 := [44, 3, 42, 27, 182, 0, 90, 133, 80, 167, 0, 9, 78, 4, 172, 78, 5, 172, 3, 172]
abbrev dktX0_queueAt_0 : List UInt8 := dkwX0_queueAt_0 ++ []
theorem dksX0_queueAt_0 : cX0_queueAt.data.toList.drop 0 = dktX0_queueAt_0 := by decide +kernel
theorem dX0_queueAt_0 : decode cX0_queueAt 0 = .ok (.aload_n 2, 1) := dk_44 (dk_at dksX0_queueAt_0 0 rfl rfl)
theorem dX0_queueAt_1 : decode cX0_queueAt 1 = .ok (.iconst 0, 1) := dk_3 (dk_at dksX0_queueAt_0 1 rfl rfl)
theorem dX0_queueAt_2 : decode cX0_queueAt 2 = .ok (.aload_n 0, 1) := dk_42 (dk_at dksX0_queueAt_0 2 rfl rfl)
theorem dX0_queueAt_3 : decode cX0_queueAt 3 = .ok (.iload_n 1, 1) := dk_27 (dk_at dksX0_queueAt_0 3 rfl rfl)
theorem dX0_queueAt_4 : decode cX0_queueAt 4 = .ok (.invokevirtual 90, 3) := dk_182 0 90 (dk_at dksX0_queueAt_0 4 rfl rfl)
theorem dX0_queueAt_7 : decode cX0_queueAt 7 = .ok (.i2l, 1) := dk_133 (dk_at dksX0_queueAt_0 7 rfl rfl)
theorem dX0_queueAt_8 : decode cX0_queueAt 8 = .ok (.lastore, 1) := dk_80 (dk_at dksX0_queueAt_0 8 rfl rfl)
theorem dX0_queueAt_9 : decode cX0_queueAt 9 = .ok (.goto 9, 3) := dk_167 0 9 (dk_at dksX0_queueAt_0 9 rfl rfl)
theorem dX0_queueAt_12 : decode cX0_queueAt 12 = .ok (.astore_n 3, 1) := dk_78 (dk_at dksX0_queueAt_0 12 rfl rfl)
theorem dX0_queueAt_13 : decode cX0_queueAt 13 = .ok (.iconst 1, 1) := dk_4 (dk_at dksX0_queueAt_0 13 rfl rfl)
theorem dX0_queueAt_14 : decode cX0_queueAt 14 = .ok (.ireturn, 1) := dk_172 (dk_at dksX0_queueAt_0 14 rfl rfl)
theorem dX0_queueAt_15 : decode cX0_queueAt 15 = .ok (.astore_n 3, 1) := dk_78 (dk_at dksX0_queueAt_0 15 rfl rfl)
theorem dX0_queueAt_16 : decode cX0_queueAt 16 = .ok (.iconst 2, 1) := dk_5 (dk_at dksX0_queueAt_0 16 rfl rfl)
theorem dX0_queueAt_17 : decode cX0_queueAt 17 = .ok (.ireturn, 1) := dk_172 (dk_at dksX0_queueAt_0 17 rfl rfl)
theorem dX0_queueAt_18 : decode cX0_queueAt 18 = .ok (.iconst 0, 1) := dk_3 (dk_at dksX0_queueAt_0 18 rfl rfl)
theorem dX0_queueAt_19 : decode cX0_queueAt 19 = .ok (.ireturn, 1) := dk_172 (dk_at dksX0_queueAt_0 19 rfl rfl)
abbrev cX0_transmitting : ByteArray := method_27_code
def yX0_transmitting : MethodName := ⟨RX0, "transmitting", "(LSpectrumAccess;I[J)I"⟩
def dkwX0_transmitting_0 : List UInt8 := [44, 3, 42, 27, 182, 0, 93, 133, 80, 167, 0, 9, 78, 4, 172, 78, 5, 172, 3, 172]
abbrev dktX0_transmitting_0 : List UInt8 := dkwX0_transmitting_0 ++ []
theorem dksX0_transmitting_0 : cX0_transmitting.data.toList.drop 0 = dktX0_transmitting_0 := by decide +kernel
theorem dX0_transmitting_0 : decode cX0_transmitting 0 = .ok (.aload_n 2, 1) := dk_44 (dk_at dksX0_transmitting_0 0 rfl rfl)
theorem dX0_transmitting_1 : decode cX0_transmitting 1 = .ok (.iconst 0, 1) := dk_3 (dk_at dksX0_transmitting_0 1 rfl rfl)
theorem dX0_transmitting_2 : decode cX0_transmitting 2 = .ok (.aload_n 0, 1) := dk_42 (dk_at dksX0_transmitting_0 2 rfl rfl)
theorem dX0_transmitting_3 : decode cX0_transmitting 3 = .ok (.iload_n 1, 1) := dk_27 (dk_at dksX0_transmitting_0 3 rfl rfl)
theorem dX0_transmitting_4 : decode cX0_transmitting 4 = .ok (.invokevirtual 93, 3) := dk_182 0 93 (dk_at dksX0_transmitting_0 4 rfl rfl)
theorem dX0_transmitting_7 : decode cX0_transmitting 7 = .ok (.i2l, 1) := dk_133 (dk_at dksX0_transmitting_0 7 rfl rfl)
theorem dX0_transmitting_8 : decode cX0_transmitting 8 = .ok (.lastore, 1) := dk_80 (dk_at dksX0_transmitting_0 8 rfl rfl)
theorem dX0_transmitting_9 : decode cX0_transmitting 9 = .ok (.goto 9, 3) := dk_167 0 9 (dk_at dksX0_transmitting_0 9 rfl rfl)
theorem dX0_transmitting_12 : decode cX0_transmitting 12 = .ok (.astore_n 3, 1) := dk_78 (dk_at dksX0_transmitting_0 12 rfl rfl)
theorem dX0_transmitting_13 : decode cX0_transmitting 13 = .ok (.iconst 1, 1) := dk_4 (dk_at dksX0_transmitting_0 13 rfl rfl)
theorem dX0_transmitting_14 : decode cX0_transmitting 14 = .ok (.ireturn, 1) := dk_172 (dk_at dksX0_transmitting_0 14 rfl rfl)
theorem dX0_transmitting_15 : decode cX0_transmitting 15 = .ok (.astore_n 3, 1) := dk_78 (dk_at dksX0_transmitting_0 15 rfl rfl)
theorem dX0_transmitting_16 : decode cX0_transmitting 16 = .ok (.iconst 2, 1) := dk_5 (dk_at dksX0_transmitting_0 16 rfl rfl)
theorem dX0_transmitting_17 : decode cX0_transmitting 17 = .ok (.ireturn, 1) := dk_172 (dk_at dksX0_transmitting_0 17 rfl rfl)
theorem dX0_transmitting_18 : decode cX0_transmitting 18 = .ok (.iconst 0, 1) := dk_3 (dk_at dksX0_transmitting_0 18 rfl rfl)
theorem dX0_transmitting_19 : decode cX0_transmitting 19 = .ok (.ireturn, 1) := dk_172 (dk_at dksX0_transmitting_0 19 rfl rfl)
abbrev cX0_event : ByteArray := method_28_code
def yX0_event : MethodName := ⟨RX0, "event", "(LSpectrumAccess;II[J)I"⟩
def dkwX0_event_1 : List UInt8 := [172, 3, 172]
abbrev dktX0_event_1 : List UInt8 := dkwX0_event_1 ++ []
def dkwX0_event_0 : List UInt8 := [45, 3, 42, 27, 28, 182, 0, 96, 133, 80, 167, 0, 15, 58, 4, 4, 172, 58, 4, 5, 172, 58, 4, 6]
abbrev dktX0_event_0 : List UInt8 := dkwX0_event_0 ++ dktX0_event_1
theorem dksX0_event_0 : cX0_event.data.toList.drop 0 = dktX0_event_0 := by decide +kernel
theorem dksX0_event_1 : cX0_event.data.toList.drop 24 = dktX0_event_1 := dk_seg dksX0_event_0 24 rfl rfl
theorem dX0_event_0 : decode cX0_event 0 = .ok (.aload_n 3, 1) := dk_45 (dk_at dksX0_event_0 0 rfl rfl)
theorem dX0_event_1 : decode cX0_event 1 = .ok (.iconst 0, 1) := dk_3 (dk_at dksX0_event_0 1 rfl rfl)
theorem dX0_event_2 : decode cX0_event 2 = .ok (.aload_n 0, 1) := dk_42 (dk_at dksX0_event_0 2 rfl rfl)
theorem dX0_event_3 : decode cX0_event 3 = .ok (.iload_n 1, 1) := dk_27 (dk_at dksX0_event_0 3 rfl rfl)
theorem dX0_event_4 : decode cX0_event 4 = .ok (.iload_n 2, 1) := dk_28 (dk_at dksX0_event_0 4 rfl rfl)
theorem dX0_event_5 : decode cX0_event 5 = .ok (.invokevirtual 96, 3) := dk_182 0 96 (dk_at dksX0_event_0 5 rfl rfl)
theorem dX0_event_8 : decode cX0_event 8 = .ok (.i2l, 1) := dk_133 (dk_at dksX0_event_0 8 rfl rfl)
theorem dX0_event_9 : decode cX0_event 9 = .ok (.lastore, 1) := dk_80 (dk_at dksX0_event_0 9 rfl rfl)
theorem dX0_event_10 : decode cX0_event 10 = .ok (.goto 15, 3) := dk_167 0 15 (dk_at dksX0_event_0 10 rfl rfl)
theorem dX0_event_13 : decode cX0_event 13 = .ok (.astore 4, 2) := dk_58 4 (dk_at dksX0_event_0 13 rfl rfl)
theorem dX0_event_15 : decode cX0_event 15 = .ok (.iconst 1, 1) := dk_4 (dk_at dksX0_event_0 15 rfl rfl)
theorem dX0_event_16 : decode cX0_event 16 = .ok (.ireturn, 1) := dk_172 (dk_at dksX0_event_0 16 rfl rfl)
theorem dX0_event_17 : decode cX0_event 17 = .ok (.astore 4, 2) := dk_58 4 (dk_at dksX0_event_0 17 rfl rfl)
theorem dX0_event_19 : decode cX0_event 19 = .ok (.iconst 2, 1) := dk_5 (dk_at dksX0_event_0 19 rfl rfl)
theorem dX0_event_20 : decode cX0_event 20 = .ok (.ireturn, 1) := dk_172 (dk_at dksX0_event_0 20 rfl rfl)
theorem dX0_event_21 : decode cX0_event 21 = .ok (.astore 4, 2) := dk_58 4 (dk_at dksX0_event_0 21 rfl rfl)
theorem dX0_event_23 : decode cX0_event 23 = .ok (.iconst 3, 1) := dk_6 (dk_at dksX0_event_0 23 rfl rfl)
theorem dX0_event_24 : decode cX0_event 24 = .ok (.ireturn, 1) := dk_172 (dk_at dksX0_event_1 0 rfl rfl)
theorem dX0_event_25 : decode cX0_event 25 = .ok (.iconst 0, 1) := dk_3 (dk_at dksX0_event_1 1 rfl rfl)
theorem dX0_event_26 : decode cX0_event 26 = .ok (.ireturn, 1) := dk_172 (dk_at dksX0_event_1 2 rfl rfl)
abbrev cX0_report : ByteArray := method_29_code
def yX0_report : MethodName := ⟨RX0, "report", "(LSpectrumAccess;[J)I"⟩
def dkwX0_report_0 : List UInt8 := [43, 3, 42, 182, 0, 99, 133, 80, 167, 0, 6, 77, 4, 172, 3, 172]
abbrev dktX0_report_0 : List UInt8 := dkwX0_report_0 ++ []
theorem dksX0_report_0 : cX0_report.data.toList.drop 0 = dktX0_report_0 := by decide +kernel
theorem dX0_report_0 : decode cX0_report 0 = .ok (.aload_n 1, 1) := dk_43 (dk_at dksX0_report_0 0 rfl rfl)
theorem dX0_report_1 : decode cX0_report 1 = .ok (.iconst 0, 1) := dk_3 (dk_at dksX0_report_0 1 rfl rfl)
theorem dX0_report_2 : decode cX0_report 2 = .ok (.aload_n 0, 1) := dk_42 (dk_at dksX0_report_0 2 rfl rfl)
theorem dX0_report_3 : decode cX0_report 3 = .ok (.invokevirtual 99, 3) := dk_182 0 99 (dk_at dksX0_report_0 3 rfl rfl)
theorem dX0_report_6 : decode cX0_report 6 = .ok (.i2l, 1) := dk_133 (dk_at dksX0_report_0 6 rfl rfl)
theorem dX0_report_7 : decode cX0_report 7 = .ok (.lastore, 1) := dk_80 (dk_at dksX0_report_0 7 rfl rfl)
theorem dX0_report_8 : decode cX0_report 8 = .ok (.goto 6, 3) := dk_167 0 6 (dk_at dksX0_report_0 8 rfl rfl)
theorem dX0_report_11 : decode cX0_report 11 = .ok (.astore_n 2, 1) := dk_77 (dk_at dksX0_report_0 11 rfl rfl)
theorem dX0_report_12 : decode cX0_report 12 = .ok (.iconst 1, 1) := dk_4 (dk_at dksX0_report_0 12 rfl rfl)
theorem dX0_report_13 : decode cX0_report 13 = .ok (.ireturn, 1) := dk_172 (dk_at dksX0_report_0 13 rfl rfl)
theorem dX0_report_14 : decode cX0_report 14 = .ok (.iconst 0, 1) := dk_3 (dk_at dksX0_report_0 14 rfl rfl)
theorem dX0_report_15 : decode cX0_report 15 = .ok (.ireturn, 1) := dk_172 (dk_at dksX0_report_0 15 rfl rfl)
abbrev cX0_reportByte : ByteArray := method_30_code
def yX0_reportByte : MethodName := ⟨RX0, "reportByte", "(LSpectrumAccess;I[J)I"⟩
def dkwX0_reportByte_0 : List UInt8 := [44, 3, 42, 27, 182, 0, 103, 133, 80, 167, 0, 6, 78, 4, 172, 3, 172]
abbrev dktX0_reportByte_0 : List UInt8 := dkwX0_reportByte_0 ++ []
theorem dksX0_reportByte_0 : cX0_reportByte.data.toList.drop 0 = dktX0_reportByte_0 := by decide +kernel
theorem dX0_reportByte_0 : decode cX0_reportByte 0 = .ok (.aload_n 2, 1) := dk_44 (dk_at dksX0_reportByte_0 0 rfl rfl)
theorem dX0_reportByte_1 : decode cX0_reportByte 1 = .ok (.iconst 0, 1) := dk_3 (dk_at dksX0_reportByte_0 1 rfl rfl)
theorem dX0_reportByte_2 : decode cX0_reportByte 2 = .ok (.aload_n 0, 1) := dk_42 (dk_at dksX0_reportByte_0 2 rfl rfl)
theorem dX0_reportByte_3 : decode cX0_reportByte 3 = .ok (.iload_n 1, 1) := dk_27 (dk_at dksX0_reportByte_0 3 rfl rfl)
theorem dX0_reportByte_4 : decode cX0_reportByte 4 = .ok (.invokevirtual 103, 3) := dk_182 0 103 (dk_at dksX0_reportByte_0 4 rfl rfl)
theorem dX0_reportByte_7 : decode cX0_reportByte 7 = .ok (.i2l, 1) := dk_133 (dk_at dksX0_reportByte_0 7 rfl rfl)
theorem dX0_reportByte_8 : decode cX0_reportByte 8 = .ok (.lastore, 1) := dk_80 (dk_at dksX0_reportByte_0 8 rfl rfl)
theorem dX0_reportByte_9 : decode cX0_reportByte 9 = .ok (.goto 6, 3) := dk_167 0 6 (dk_at dksX0_reportByte_0 9 rfl rfl)
theorem dX0_reportByte_12 : decode cX0_reportByte 12 = .ok (.astore_n 3, 1) := dk_78 (dk_at dksX0_reportByte_0 12 rfl rfl)
theorem dX0_reportByte_13 : decode cX0_reportByte 13 = .ok (.iconst 1, 1) := dk_4 (dk_at dksX0_reportByte_0 13 rfl rfl)
theorem dX0_reportByte_14 : decode cX0_reportByte 14 = .ok (.ireturn, 1) := dk_172 (dk_at dksX0_reportByte_0 14 rfl rfl)
theorem dX0_reportByte_15 : decode cX0_reportByte 15 = .ok (.iconst 0, 1) := dk_3 (dk_at dksX0_reportByte_0 15 rfl rfl)
theorem dX0_reportByte_16 : decode cX0_reportByte 16 = .ok (.ireturn, 1) := dk_172 (dk_at dksX0_reportByte_0 16 rfl rfl)
abbrev cX0_movesIn : ByteArray := method_31_code
def yX0_movesIn : MethodName := ⟨RX0, "movesIn", "(LSpectrumAccess;I[J)I"⟩
def dkwX0_movesIn_0 : List UInt8 := [44, 3, 42, 27, 182, 0, 106, 133, 80, 167, 0, 9, 78, 4, 172, 78, 5, 172, 3, 172]
abbrev dktX0_movesIn_0 : List UInt8 := dkwX0_movesIn_0 ++ []
theorem dksX0_movesIn_0 : cX0_movesIn.data.toList.drop 0 = dktX0_movesIn_0 := by decide +kernel
theorem dX0_movesIn_0 : decode cX0_movesIn 0 = .ok (.aload_n 2, 1) := dk_44 (dk_at dksX0_movesIn_0 0 rfl rfl)
theorem dX0_movesIn_1 : decode cX0_movesIn 1 = .ok (.iconst 0, 1) := dk_3 (dk_at dksX0_movesIn_0 1 rfl rfl)
theorem dX0_movesIn_2 : decode cX0_movesIn 2 = .ok (.aload_n 0, 1) := dk_42 (dk_at dksX0_movesIn_0 2 rfl rfl)
theorem dX0_movesIn_3 : decode cX0_movesIn 3 = .ok (.iload_n 1, 1) := dk_27 (dk_at dksX0_movesIn_0 3 rfl rfl)
theorem dX0_movesIn_4 : decode cX0_movesIn 4 = .ok (.invokevirtual 106, 3) := dk_182 0 106 (dk_at dksX0_movesIn_0 4 rfl rfl)
theorem dX0_movesIn_7 : decode cX0_movesIn 7 = .ok (.i2l, 1) := dk_133 (dk_at dksX0_movesIn_0 7 rfl rfl)
theorem dX0_movesIn_8 : decode cX0_movesIn 8 = .ok (.lastore, 1) := dk_80 (dk_at dksX0_movesIn_0 8 rfl rfl)
theorem dX0_movesIn_9 : decode cX0_movesIn 9 = .ok (.goto 9, 3) := dk_167 0 9 (dk_at dksX0_movesIn_0 9 rfl rfl)
theorem dX0_movesIn_12 : decode cX0_movesIn 12 = .ok (.astore_n 3, 1) := dk_78 (dk_at dksX0_movesIn_0 12 rfl rfl)
theorem dX0_movesIn_13 : decode cX0_movesIn 13 = .ok (.iconst 1, 1) := dk_4 (dk_at dksX0_movesIn_0 13 rfl rfl)
theorem dX0_movesIn_14 : decode cX0_movesIn 14 = .ok (.ireturn, 1) := dk_172 (dk_at dksX0_movesIn_0 14 rfl rfl)
theorem dX0_movesIn_15 : decode cX0_movesIn 15 = .ok (.astore_n 3, 1) := dk_78 (dk_at dksX0_movesIn_0 15 rfl rfl)
theorem dX0_movesIn_16 : decode cX0_movesIn 16 = .ok (.iconst 2, 1) := dk_5 (dk_at dksX0_movesIn_0 16 rfl rfl)
theorem dX0_movesIn_17 : decode cX0_movesIn 17 = .ok (.ireturn, 1) := dk_172 (dk_at dksX0_movesIn_0 17 rfl rfl)
theorem dX0_movesIn_18 : decode cX0_movesIn 18 = .ok (.iconst 0, 1) := dk_3 (dk_at dksX0_movesIn_0 18 rfl rfl)
theorem dX0_movesIn_19 : decode cX0_movesIn 19 = .ok (.ireturn, 1) := dk_172 (dk_at dksX0_movesIn_0 19 rfl rfl)
abbrev cX0_airtimeIn : ByteArray := method_32_code
def yX0_airtimeIn : MethodName := ⟨RX0, "airtimeIn", "(LSpectrumAccess;I[J)I"⟩
def dkwX0_airtimeIn_0 : List UInt8 := [44, 3, 42, 27, 182, 0, 109, 133, 80, 167, 0, 9, 78, 4, 172, 78, 5, 172, 3, 172]
abbrev dktX0_airtimeIn_0 : List UInt8 := dkwX0_airtimeIn_0 ++ []
theorem dksX0_airtimeIn_0 : cX0_airtimeIn.data.toList.drop 0 = dktX0_airtimeIn_0 := by decide +kernel
theorem dX0_airtimeIn_0 : decode cX0_airtimeIn 0 = .ok (.aload_n 2, 1) := dk_44 (dk_at dksX0_airtimeIn_0 0 rfl rfl)
theorem dX0_airtimeIn_1 : decode cX0_airtimeIn 1 = .ok (.iconst 0, 1) := dk_3 (dk_at dksX0_airtimeIn_0 1 rfl rfl)
theorem dX0_airtimeIn_2 : decode cX0_airtimeIn 2 = .ok (.aload_n 0, 1) := dk_42 (dk_at dksX0_airtimeIn_0 2 rfl rfl)
theorem dX0_airtimeIn_3 : decode cX0_airtimeIn 3 = .ok (.iload_n 1, 1) := dk_27 (dk_at dksX0_airtimeIn_0 3 rfl rfl)
theorem dX0_airtimeIn_4 : decode cX0_airtimeIn 4 = .ok (.invokevirtual 109, 3) := dk_182 0 109 (dk_at dksX0_airtimeIn_0 4 rfl rfl)
theorem dX0_airtimeIn_7 : decode cX0_airtimeIn 7 = .ok (.i2l, 1) := dk_133 (dk_at dksX0_airtimeIn_0 7 rfl rfl)
theorem dX0_airtimeIn_8 : decode cX0_airtimeIn 8 = .ok (.lastore, 1) := dk_80 (dk_at dksX0_airtimeIn_0 8 rfl rfl)
theorem dX0_airtimeIn_9 : decode cX0_airtimeIn 9 = .ok (.goto 9, 3) := dk_167 0 9 (dk_at dksX0_airtimeIn_0 9 rfl rfl)
theorem dX0_airtimeIn_12 : decode cX0_airtimeIn 12 = .ok (.astore_n 3, 1) := dk_78 (dk_at dksX0_airtimeIn_0 12 rfl rfl)
theorem dX0_airtimeIn_13 : decode cX0_airtimeIn 13 = .ok (.iconst 1, 1) := dk_4 (dk_at dksX0_airtimeIn_0 13 rfl rfl)
theorem dX0_airtimeIn_14 : decode cX0_airtimeIn 14 = .ok (.ireturn, 1) := dk_172 (dk_at dksX0_airtimeIn_0 14 rfl rfl)
theorem dX0_airtimeIn_15 : decode cX0_airtimeIn 15 = .ok (.astore_n 3, 1) := dk_78 (dk_at dksX0_airtimeIn_0 15 rfl rfl)
theorem dX0_airtimeIn_16 : decode cX0_airtimeIn 16 = .ok (.iconst 2, 1) := dk_5 (dk_at dksX0_airtimeIn_0 16 rfl rfl)
theorem dX0_airtimeIn_17 : decode cX0_airtimeIn 17 = .ok (.ireturn, 1) := dk_172 (dk_at dksX0_airtimeIn_0 17 rfl rfl)
theorem dX0_airtimeIn_18 : decode cX0_airtimeIn 18 = .ok (.iconst 0, 1) := dk_3 (dk_at dksX0_airtimeIn_0 18 rfl rfl)
theorem dX0_airtimeIn_19 : decode cX0_airtimeIn 19 = .ok (.ireturn, 1) := dk_172 (dk_at dksX0_airtimeIn_0 19 rfl rfl)
abbrev cX0_firstMove : ByteArray := method_33_code
def yX0_firstMove : MethodName := ⟨RX0, "firstMove", "(LSpectrumAccess;I[J)I"⟩
def dkwX0_firstMove_0 : List UInt8 := [44, 3, 42, 27, 182, 0, 112, 133, 80, 167, 0, 9, 78, 4, 172, 78, 5, 172, 3, 172]
abbrev dktX0_firstMove_0 : List UInt8 := dkwX0_firstMove_0 ++ []
theorem dksX0_firstMove_0 : cX0_firstMove.data.toList.drop 0 = dktX0_firstMove_0 := by decide +kernel
theorem dX0_firstMove_0 : decode cX0_firstMove 0 = .ok (.aload_n 2, 1) := dk_44 (dk_at dksX0_firstMove_0 0 rfl rfl)
theorem dX0_firstMove_1 : decode cX0_firstMove 1 = .ok (.iconst 0, 1) := dk_3 (dk_at dksX0_firstMove_0 1 rfl rfl)
theorem dX0_firstMove_2 : decode cX0_firstMove 2 = .ok (.aload_n 0, 1) := dk_42 (dk_at dksX0_firstMove_0 2 rfl rfl)
theorem dX0_firstMove_3 : decode cX0_firstMove 3 = .ok (.iload_n 1, 1) := dk_27 (dk_at dksX0_firstMove_0 3 rfl rfl)
theorem dX0_firstMove_4 : decode cX0_firstMove 4 = .ok (.invokevirtual 112, 3) := dk_182 0 112 (dk_at dksX0_firstMove_0 4 rfl rfl)
theorem dX0_firstMove_7 : decode cX0_firstMove 7 = .ok (.i2l, 1) := dk_133 (dk_at dksX0_firstMove_0 7 rfl rfl)
theorem dX0_firstMove_8 : decode cX0_firstMove 8 = .ok (.lastore, 1) := dk_80 (dk_at dksX0_firstMove_0 8 rfl rfl)
theorem dX0_firstMove_9 : decode cX0_firstMove 9 = .ok (.goto 9, 3) := dk_167 0 9 (dk_at dksX0_firstMove_0 9 rfl rfl)
theorem dX0_firstMove_12 : decode cX0_firstMove 12 = .ok (.astore_n 3, 1) := dk_78 (dk_at dksX0_firstMove_0 12 rfl rfl)
theorem dX0_firstMove_13 : decode cX0_firstMove 13 = .ok (.iconst 1, 1) := dk_4 (dk_at dksX0_firstMove_0 13 rfl rfl)
theorem dX0_firstMove_14 : decode cX0_firstMove 14 = .ok (.ireturn, 1) := dk_172 (dk_at dksX0_firstMove_0 14 rfl rfl)
theorem dX0_firstMove_15 : decode cX0_firstMove 15 = .ok (.astore_n 3, 1) := dk_78 (dk_at dksX0_firstMove_0 15 rfl rfl)
theorem dX0_firstMove_16 : decode cX0_firstMove 16 = .ok (.iconst 2, 1) := dk_5 (dk_at dksX0_firstMove_0 16 rfl rfl)
theorem dX0_firstMove_17 : decode cX0_firstMove 17 = .ok (.ireturn, 1) := dk_172 (dk_at dksX0_firstMove_0 17 rfl rfl)
theorem dX0_firstMove_18 : decode cX0_firstMove 18 = .ok (.iconst 0, 1) := dk_3 (dk_at dksX0_firstMove_0 18 rfl rfl)
theorem dX0_firstMove_19 : decode cX0_firstMove 19 = .ok (.ireturn, 1) := dk_172 (dk_at dksX0_firstMove_0 19 rfl rfl)
abbrev cX0_waitingAfter : ByteArray := method_34_code
def yX0_waitingAfter : MethodName := ⟨RX0, "waitingAfter", "(LSpectrumAccess;I[J)I"⟩
def dkwX0_waitingAfter_0 : List UInt8 := [44, 3, 42, 27, 182, 0, 115, 133, 80, 167, 0, 9, 78, 4, 172, 78, 5, 172, 3, 172]
abbrev dktX0_waitingAfter_0 : List UInt8 := dkwX0_waitingAfter_0 ++ []
theorem dksX0_waitingAfter_0 : cX0_waitingAfter.data.toList.drop 0 = dktX0_waitingAfter_0 := by decide +kernel
theorem dX0_waitingAfter_0 : decode cX0_waitingAfter 0 = .ok (.aload_n 2, 1) := dk_44 (dk_at dksX0_waitingAfter_0 0 rfl rfl)
theorem dX0_waitingAfter_1 : decode cX0_waitingAfter 1 = .ok (.iconst 0, 1) := dk_3 (dk_at dksX0_waitingAfter_0 1 rfl rfl)
theorem dX0_waitingAfter_2 : decode cX0_waitingAfter 2 = .ok (.aload_n 0, 1) := dk_42 (dk_at dksX0_waitingAfter_0 2 rfl rfl)
theorem dX0_waitingAfter_3 : decode cX0_waitingAfter 3 = .ok (.iload_n 1, 1) := dk_27 (dk_at dksX0_waitingAfter_0 3 rfl rfl)
theorem dX0_waitingAfter_4 : decode cX0_waitingAfter 4 = .ok (.invokevirtual 115, 3) := dk_182 0 115 (dk_at dksX0_waitingAfter_0 4 rfl rfl)
theorem dX0_waitingAfter_7 : decode cX0_waitingAfter 7 = .ok (.i2l, 1) := dk_133 (dk_at dksX0_waitingAfter_0 7 rfl rfl)
theorem dX0_waitingAfter_8 : decode cX0_waitingAfter 8 = .ok (.lastore, 1) := dk_80 (dk_at dksX0_waitingAfter_0 8 rfl rfl)
theorem dX0_waitingAfter_9 : decode cX0_waitingAfter 9 = .ok (.goto 9, 3) := dk_167 0 9 (dk_at dksX0_waitingAfter_0 9 rfl rfl)
theorem dX0_waitingAfter_12 : decode cX0_waitingAfter 12 = .ok (.astore_n 3, 1) := dk_78 (dk_at dksX0_waitingAfter_0 12 rfl rfl)
theorem dX0_waitingAfter_13 : decode cX0_waitingAfter 13 = .ok (.iconst 1, 1) := dk_4 (dk_at dksX0_waitingAfter_0 13 rfl rfl)
theorem dX0_waitingAfter_14 : decode cX0_waitingAfter 14 = .ok (.ireturn, 1) := dk_172 (dk_at dksX0_waitingAfter_0 14 rfl rfl)
theorem dX0_waitingAfter_15 : decode cX0_waitingAfter 15 = .ok (.astore_n 3, 1) := dk_78 (dk_at dksX0_waitingAfter_0 15 rfl rfl)
theorem dX0_waitingAfter_16 : decode cX0_waitingAfter 16 = .ok (.iconst 2, 1) := dk_5 (dk_at dksX0_waitingAfter_0 16 rfl rfl)
theorem dX0_waitingAfter_17 : decode cX0_waitingAfter 17 = .ok (.ireturn, 1) := dk_172 (dk_at dksX0_waitingAfter_0 17 rfl rfl)
theorem dX0_waitingAfter_18 : decode cX0_waitingAfter 18 = .ok (.iconst 0, 1) := dk_3 (dk_at dksX0_waitingAfter_0 18 rfl rfl)
theorem dX0_waitingAfter_19 : decode cX0_waitingAfter 19 = .ok (.ireturn, 1) := dk_172 (dk_at dksX0_waitingAfter_0 19 rfl rfl)
abbrev cX0_troublemaker : ByteArray := method_35_code
def yX0_troublemaker : MethodName := ⟨RX0, "troublemaker", "(LSpectrumAccess;I[J)I"⟩
def dkwX0_troublemaker_0 : List UInt8 := [44, 3, 42, 27, 182, 0, 118, 133, 80, 167, 0, 12, 78, 4, 172, 78, 5, 172, 78, 6, 172, 3, 172]
abbrev dktX0_troublemaker_0 : List UInt8 := dkwX0_troublemaker_0 ++ []
theorem dksX0_troublemaker_0 : cX0_troublemaker.data.toList.drop 0 = dktX0_troublemaker_0 := by decide +kernel
theorem dX0_troublemaker_0 : decode cX0_troublemaker 0 = .ok (.aload_n 2, 1) := dk_44 (dk_at dksX0_troublemaker_0 0 rfl rfl)
theorem dX0_troublemaker_1 : decode cX0_troublemaker 1 = .ok (.iconst 0, 1) := dk_3 (dk_at dksX0_troublemaker_0 1 rfl rfl)
theorem dX0_troublemaker_2 : decode cX0_troublemaker 2 = .ok (.aload_n 0, 1) := dk_42 (dk_at dksX0_troublemaker_0 2 rfl rfl)
theorem dX0_troublemaker_3 : decode cX0_troublemaker 3 = .ok (.iload_n 1, 1) := dk_27 (dk_at dksX0_troublemaker_0 3 rfl rfl)
theorem dX0_troublemaker_4 : decode cX0_troublemaker 4 = .ok (.invokevirtual 118, 3) := dk_182 0 118 (dk_at dksX0_troublemaker_0 4 rfl rfl)
theorem dX0_troublemaker_7 : decode cX0_troublemaker 7 = .ok (.i2l, 1) := dk_133 (dk_at dksX0_troublemaker_0 7 rfl rfl)
theorem dX0_troublemaker_8 : decode cX0_troublemaker 8 = .ok (.lastore, 1) := dk_80 (dk_at dksX0_troublemaker_0 8 rfl rfl)
theorem dX0_troublemaker_9 : decode cX0_troublemaker 9 = .ok (.goto 12, 3) := dk_167 0 12 (dk_at dksX0_troublemaker_0 9 rfl rfl)
theorem dX0_troublemaker_12 : decode cX0_troublemaker 12 = .ok (.astore_n 3, 1) := dk_78 (dk_at dksX0_troublemaker_0 12 rfl rfl)
theorem dX0_troublemaker_13 : decode cX0_troublemaker 13 = .ok (.iconst 1, 1) := dk_4 (dk_at dksX0_troublemaker_0 13 rfl rfl)
theorem dX0_troublemaker_14 : decode cX0_troublemaker 14 = .ok (.ireturn, 1) := dk_172 (dk_at dksX0_troublemaker_0 14 rfl rfl)
theorem dX0_troublemaker_15 : decode cX0_troublemaker 15 = .ok (.astore_n 3, 1) := dk_78 (dk_at dksX0_troublemaker_0 15 rfl rfl)
theorem dX0_troublemaker_16 : decode cX0_troublemaker 16 = .ok (.iconst 2, 1) := dk_5 (dk_at dksX0_troublemaker_0 16 rfl rfl)
theorem dX0_troublemaker_17 : decode cX0_troublemaker 17 = .ok (.ireturn, 1) := dk_172 (dk_at dksX0_troublemaker_0 17 rfl rfl)
theorem dX0_troublemaker_18 : decode cX0_troublemaker 18 = .ok (.astore_n 3, 1) := dk_78 (dk_at dksX0_troublemaker_0 18 rfl rfl)
theorem dX0_troublemaker_19 : decode cX0_troublemaker 19 = .ok (.iconst 3, 1) := dk_6 (dk_at dksX0_troublemaker_0 19 rfl rfl)
theorem dX0_troublemaker_20 : decode cX0_troublemaker 20 = .ok (.ireturn, 1) := dk_172 (dk_at dksX0_troublemaker_0 20 rfl rfl)
theorem dX0_troublemaker_21 : decode cX0_troublemaker 21 = .ok (.iconst 0, 1) := dk_3 (dk_at dksX0_troublemaker_0 21 rfl rfl)
theorem dX0_troublemaker_22 : decode cX0_troublemaker 22 = .ok (.ireturn, 1) := dk_172 (dk_at dksX0_troublemaker_0 22 rfl rfl)
abbrev cX0_tightest : ByteArray := method_36_code
def yX0_tightest : MethodName := ⟨RX0, "tightest", "(LSpectrumAccess;[J)I"⟩
def dkwX0_tightest_0 : List UInt8 := [43, 3, 42, 182, 0, 123, 133, 80, 167, 0, 9, 77, 4, 172, 77, 5, 172, 3, 172]
abbrev dktX0_tightest_0 : List UInt8 := dkwX0_tightest_0 ++ []
theorem dksX0_tightest_0 : cX0_tightest.data.toList.drop 0 = dktX0_tightest_0 := by decide +kernel
theorem dX0_tightest_0 : decode cX0_tightest 0 = .ok (.aload_n 1, 1) := dk_43 (dk_at dksX0_tightest_0 0 rfl rfl)
theorem dX0_tightest_1 : decode cX0_tightest 1 = .ok (.iconst 0, 1) := dk_3 (dk_at dksX0_tightest_0 1 rfl rfl)
theorem dX0_tightest_2 : decode cX0_tightest 2 = .ok (.aload_n 0, 1) := dk_42 (dk_at dksX0_tightest_0 2 rfl rfl)
theorem dX0_tightest_3 : decode cX0_tightest 3 = .ok (.invokevirtual 123, 3) := dk_182 0 123 (dk_at dksX0_tightest_0 3 rfl rfl)
theorem dX0_tightest_6 : decode cX0_tightest 6 = .ok (.i2l, 1) := dk_133 (dk_at dksX0_tightest_0 6 rfl rfl)
theorem dX0_tightest_7 : decode cX0_tightest 7 = .ok (.lastore, 1) := dk_80 (dk_at dksX0_tightest_0 7 rfl rfl)
theorem dX0_tightest_8 : decode cX0_tightest 8 = .ok (.goto 9, 3) := dk_167 0 9 (dk_at dksX0_tightest_0 8 rfl rfl)
theorem dX0_tightest_11 : decode cX0_tightest 11 = .ok (.astore_n 2, 1) := dk_77 (dk_at dksX0_tightest_0 11 rfl rfl)
theorem dX0_tightest_12 : decode cX0_tightest 12 = .ok (.iconst 1, 1) := dk_4 (dk_at dksX0_tightest_0 12 rfl rfl)
theorem dX0_tightest_13 : decode cX0_tightest 13 = .ok (.ireturn, 1) := dk_172 (dk_at dksX0_tightest_0 13 rfl rfl)
theorem dX0_tightest_14 : decode cX0_tightest 14 = .ok (.astore_n 2, 1) := dk_77 (dk_at dksX0_tightest_0 14 rfl rfl)
theorem dX0_tightest_15 : decode cX0_tightest 15 = .ok (.iconst 2, 1) := dk_5 (dk_at dksX0_tightest_0 15 rfl rfl)
theorem dX0_tightest_16 : decode cX0_tightest 16 = .ok (.ireturn, 1) := dk_172 (dk_at dksX0_tightest_0 16 rfl rfl)
theorem dX0_tightest_17 : decode cX0_tightest 17 = .ok (.iconst 0, 1) := dk_3 (dk_at dksX0_tightest_0 17 rfl rfl)
theorem dX0_tightest_18 : decode cX0_tightest 18 = .ok (.ireturn, 1) := dk_172 (dk_at dksX0_tightest_0 18 rfl rfl)
abbrev cX0_advance : ByteArray := method_37_code
def yX0_advance : MethodName := ⟨RX0, "advance", "(LSpectrumAccess;I[J)I"⟩
def dkwX0_advance_0 : List UInt8 := [44, 3, 42, 27, 182, 0, 126, 133, 80, 167, 0, 9, 78, 4, 172, 78, 5, 172, 3, 172]
abbrev dktX0_advance_0 : List UInt8 := dkwX0_advance_0 ++ []
theorem dksX0_advance_0 : cX0_advance.data.toList.drop 0 = dktX0_advance_0 := by decide +kernel
theorem dX0_advance_0 : decode cX0_advance 0 = .ok (.aload_n 2, 1) := dk_44 (dk_at dksX0_advance_0 0 rfl rfl)
theorem dX0_advance_1 : decode cX0_advance 1 = .ok (.iconst 0, 1) := dk_3 (dk_at dksX0_advance_0 1 rfl rfl)
theorem dX0_advance_2 : decode cX0_advance 2 = .ok (.aload_n 0, 1) := dk_42 (dk_at dksX0_advance_0 2 rfl rfl)
theorem dX0_advance_3 : decode cX0_advance 3 = .ok (.iload_n 1, 1) := dk_27 (dk_at dksX0_advance_0 3 rfl rfl)
theorem dX0_advance_4 : decode cX0_advance 4 = .ok (.invokevirtual 126, 3) := dk_182 0 126 (dk_at dksX0_advance_0 4 rfl rfl)
theorem dX0_advance_7 : decode cX0_advance 7 = .ok (.i2l, 1) := dk_133 (dk_at dksX0_advance_0 7 rfl rfl)
theorem dX0_advance_8 : decode cX0_advance 8 = .ok (.lastore, 1) := dk_80 (dk_at dksX0_advance_0 8 rfl rfl)
theorem dX0_advance_9 : decode cX0_advance 9 = .ok (.goto 9, 3) := dk_167 0 9 (dk_at dksX0_advance_0 9 rfl rfl)
theorem dX0_advance_12 : decode cX0_advance 12 = .ok (.astore_n 3, 1) := dk_78 (dk_at dksX0_advance_0 12 rfl rfl)
theorem dX0_advance_13 : decode cX0_advance 13 = .ok (.iconst 1, 1) := dk_4 (dk_at dksX0_advance_0 13 rfl rfl)
theorem dX0_advance_14 : decode cX0_advance 14 = .ok (.ireturn, 1) := dk_172 (dk_at dksX0_advance_0 14 rfl rfl)
theorem dX0_advance_15 : decode cX0_advance 15 = .ok (.astore_n 3, 1) := dk_78 (dk_at dksX0_advance_0 15 rfl rfl)
theorem dX0_advance_16 : decode cX0_advance 16 = .ok (.iconst 2, 1) := dk_5 (dk_at dksX0_advance_0 16 rfl rfl)
theorem dX0_advance_17 : decode cX0_advance 17 = .ok (.ireturn, 1) := dk_172 (dk_at dksX0_advance_0 17 rfl rfl)
theorem dX0_advance_18 : decode cX0_advance 18 = .ok (.iconst 0, 1) := dk_3 (dk_at dksX0_advance_0 18 rfl rfl)
theorem dX0_advance_19 : decode cX0_advance 19 = .ok (.ireturn, 1) := dk_172 (dk_at dksX0_advance_0 19 rfl rfl)
abbrev cX0_start : ByteArray := method_38_code
def yX0_start : MethodName := ⟨RX0, "start", "(LSpectrumAccess;I[J)I"⟩
def dkwX0_start_0 : List UInt8 := [44, 3, 42, 27, 182, 0, 129, 133, 80, 167, 0, 12, 78, 4, 172, 78, 5, 172, 78, 6, 172, 3, 172]
abbrev dktX0_start_0 : List UInt8 := dkwX0_start_0 ++ []
theorem dksX0_start_0 : cX0_start.data.toList.drop 0 = dktX0_start_0 := by decide +kernel
theorem dX0_start_0 : decode cX0_start 0 = .ok (.aload_n 2, 1) := dk_44 (dk_at dksX0_start_0 0 rfl rfl)
theorem dX0_start_1 : decode cX0_start 1 = .ok (.iconst 0, 1) := dk_3 (dk_at dksX0_start_0 1 rfl rfl)
theorem dX0_start_2 : decode cX0_start 2 = .ok (.aload_n 0, 1) := dk_42 (dk_at dksX0_start_0 2 rfl rfl)
theorem dX0_start_3 : decode cX0_start 3 = .ok (.iload_n 1, 1) := dk_27 (dk_at dksX0_start_0 3 rfl rfl)
theorem dX0_start_4 : decode cX0_start 4 = .ok (.invokevirtual 129, 3) := dk_182 0 129 (dk_at dksX0_start_0 4 rfl rfl)
theorem dX0_start_7 : decode cX0_start 7 = .ok (.i2l, 1) := dk_133 (dk_at dksX0_start_0 7 rfl rfl)
theorem dX0_start_8 : decode cX0_start 8 = .ok (.lastore, 1) := dk_80 (dk_at dksX0_start_0 8 rfl rfl)
theorem dX0_start_9 : decode cX0_start 9 = .ok (.goto 12, 3) := dk_167 0 12 (dk_at dksX0_start_0 9 rfl rfl)
theorem dX0_start_12 : decode cX0_start 12 = .ok (.astore_n 3, 1) := dk_78 (dk_at dksX0_start_0 12 rfl rfl)
theorem dX0_start_13 : decode cX0_start 13 = .ok (.iconst 1, 1) := dk_4 (dk_at dksX0_start_0 13 rfl rfl)
theorem dX0_start_14 : decode cX0_start 14 = .ok (.ireturn, 1) := dk_172 (dk_at dksX0_start_0 14 rfl rfl)
theorem dX0_start_15 : decode cX0_start 15 = .ok (.astore_n 3, 1) := dk_78 (dk_at dksX0_start_0 15 rfl rfl)
theorem dX0_start_16 : decode cX0_start 16 = .ok (.iconst 2, 1) := dk_5 (dk_at dksX0_start_0 16 rfl rfl)
theorem dX0_start_17 : decode cX0_start 17 = .ok (.ireturn, 1) := dk_172 (dk_at dksX0_start_0 17 rfl rfl)
theorem dX0_start_18 : decode cX0_start 18 = .ok (.astore_n 3, 1) := dk_78 (dk_at dksX0_start_0 18 rfl rfl)
theorem dX0_start_19 : decode cX0_start 19 = .ok (.iconst 3, 1) := dk_6 (dk_at dksX0_start_0 19 rfl rfl)
theorem dX0_start_20 : decode cX0_start 20 = .ok (.ireturn, 1) := dk_172 (dk_at dksX0_start_0 20 rfl rfl)
theorem dX0_start_21 : decode cX0_start 21 = .ok (.iconst 0, 1) := dk_3 (dk_at dksX0_start_0 21 rfl rfl)
theorem dX0_start_22 : decode cX0_start 22 = .ok (.ireturn, 1) := dk_172 (dk_at dksX0_start_0 22 rfl rfl)
abbrev cX0_stop : ByteArray := method_39_code
def yX0_stop : MethodName := ⟨RX0, "stop", "(LSpectrumAccess;I[J)I"⟩
def dkwX0_stop_0 : List UInt8 := [44, 3, 42, 27, 182, 0, 132, 133, 80, 167, 0, 12, 78, 4, 172, 78, 5, 172, 78, 6, 172, 3, 172]
abbrev dktX0_stop_0 : List UInt8 := dkwX0_stop_0 ++ []
theorem dksX0_stop_0 : cX0_stop.data.toList.drop 0 = dktX0_stop_0 := by decide +kernel
theorem dX0_stop_0 : decode cX0_stop 0 = .ok (.aload_n 2, 1) := dk_44 (dk_at dksX0_stop_0 0 rfl rfl)
theorem dX0_stop_1 : decode cX0_stop 1 = .ok (.iconst 0, 1) := dk_3 (dk_at dksX0_stop_0 1 rfl rfl)
theorem dX0_stop_2 : decode cX0_stop 2 = .ok (.aload_n 0, 1) := dk_42 (dk_at dksX0_stop_0 2 rfl rfl)
theorem dX0_stop_3 : decode cX0_stop 3 = .ok (.iload_n 1, 1) := dk_27 (dk_at dksX0_stop_0 3 rfl rfl)
theorem dX0_stop_4 : decode cX0_stop 4 = .ok (.invokevirtual 132, 3) := dk_182 0 132 (dk_at dksX0_stop_0 4 rfl rfl)
theorem dX0_stop_7 : decode cX0_stop 7 = .ok (.i2l, 1) := dk_133 (dk_at dksX0_stop_0 7 rfl rfl)
theorem dX0_stop_8 : decode cX0_stop 8 = .ok (.lastore, 1) := dk_80 (dk_at dksX0_stop_0 8 rfl rfl)
theorem dX0_stop_9 : decode cX0_stop 9 = .ok (.goto 12, 3) := dk_167 0 12 (dk_at dksX0_stop_0 9 rfl rfl)
theorem dX0_stop_12 : decode cX0_stop 12 = .ok (.astore_n 3, 1) := dk_78 (dk_at dksX0_stop_0 12 rfl rfl)
theorem dX0_stop_13 : decode cX0_stop 13 = .ok (.iconst 1, 1) := dk_4 (dk_at dksX0_stop_0 13 rfl rfl)
theorem dX0_stop_14 : decode cX0_stop 14 = .ok (.ireturn, 1) := dk_172 (dk_at dksX0_stop_0 14 rfl rfl)
theorem dX0_stop_15 : decode cX0_stop 15 = .ok (.astore_n 3, 1) := dk_78 (dk_at dksX0_stop_0 15 rfl rfl)
theorem dX0_stop_16 : decode cX0_stop 16 = .ok (.iconst 2, 1) := dk_5 (dk_at dksX0_stop_0 16 rfl rfl)
theorem dX0_stop_17 : decode cX0_stop 17 = .ok (.ireturn, 1) := dk_172 (dk_at dksX0_stop_0 17 rfl rfl)
theorem dX0_stop_18 : decode cX0_stop 18 = .ok (.astore_n 3, 1) := dk_78 (dk_at dksX0_stop_0 18 rfl rfl)
theorem dX0_stop_19 : decode cX0_stop 19 = .ok (.iconst 3, 1) := dk_6 (dk_at dksX0_stop_0 19 rfl rfl)
theorem dX0_stop_20 : decode cX0_stop 20 = .ok (.ireturn, 1) := dk_172 (dk_at dksX0_stop_0 20 rfl rfl)
theorem dX0_stop_21 : decode cX0_stop 21 = .ok (.iconst 0, 1) := dk_3 (dk_at dksX0_stop_0 21 rfl rfl)
theorem dX0_stop_22 : decode cX0_stop 22 = .ok (.ireturn, 1) := dk_172 (dk_at dksX0_stop_0 22 rfl rfl)
abbrev cX0_setPower : ByteArray := method_40_code
def yX0_setPower : MethodName := ⟨RX0, "setPower", "(LSpectrumAccess;II[J)I"⟩
def dkwX0_setPower_1 : List UInt8 := [172, 3, 172]
abbrev dktX0_setPower_1 : List UInt8 := dkwX0_setPower_1 ++ []
def dkwX0_setPower_0 : List UInt8 := [45, 3, 42, 27, 28, 182, 0, 135, 133, 80, 167, 0, 15, 58, 4, 4, 172, 58, 4, 5, 172, 58, 4, 6]
abbrev dktX0_setPower_0 : List UInt8 := dkwX0_setPower_0 ++ dktX0_setPower_1
theorem dksX0_setPower_0 : cX0_setPower.data.toList.drop 0 = dktX0_setPower_0 := by decide +kernel
theorem dksX0_setPower_1 : cX0_setPower.data.toList.drop 24 = dktX0_setPower_1 := dk_seg dksX0_setPower_0 24 rfl rfl
theorem dX0_setPower_0 : decode cX0_setPower 0 = .ok (.aload_n 3, 1) := dk_45 (dk_at dksX0_setPower_0 0 rfl rfl)
theorem dX0_setPower_1 : decode cX0_setPower 1 = .ok (.iconst 0, 1) := dk_3 (dk_at dksX0_setPower_0 1 rfl rfl)
theorem dX0_setPower_2 : decode cX0_setPower 2 = .ok (.aload_n 0, 1) := dk_42 (dk_at dksX0_setPower_0 2 rfl rfl)
theorem dX0_setPower_3 : decode cX0_setPower 3 = .ok (.iload_n 1, 1) := dk_27 (dk_at dksX0_setPower_0 3 rfl rfl)
theorem dX0_setPower_4 : decode cX0_setPower 4 = .ok (.iload_n 2, 1) := dk_28 (dk_at dksX0_setPower_0 4 rfl rfl)
theorem dX0_setPower_5 : decode cX0_setPower 5 = .ok (.invokevirtual 135, 3) := dk_182 0 135 (dk_at dksX0_setPower_0 5 rfl rfl)
theorem dX0_setPower_8 : decode cX0_setPower 8 = .ok (.i2l, 1) := dk_133 (dk_at dksX0_setPower_0 8 rfl rfl)
theorem dX0_setPower_9 : decode cX0_setPower 9 = .ok (.lastore, 1) := dk_80 (dk_at dksX0_setPower_0 9 rfl rfl)
theorem dX0_setPower_10 : decode cX0_setPower 10 = .ok (.goto 15, 3) := dk_167 0 15 (dk_at dksX0_setPower_0 10 rfl rfl)
theorem dX0_setPower_13 : decode cX0_setPower 13 = .ok (.astore 4, 2) := dk_58 4 (dk_at dksX0_setPower_0 13 rfl rfl)
theorem dX0_setPower_15 : decode cX0_setPower 15 = .ok (.iconst 1, 1) := dk_4 (dk_at dksX0_setPower_0 15 rfl rfl)
theorem dX0_setPower_16 : decode cX0_setPower 16 = .ok (.ireturn, 1) := dk_172 (dk_at dksX0_setPower_0 16 rfl rfl)
theorem dX0_setPower_17 : decode cX0_setPower 17 = .ok (.astore 4, 2) := dk_58 4 (dk_at dksX0_setPower_0 17 rfl rfl)
theorem dX0_setPower_19 : decode cX0_setPower 19 = .ok (.iconst 2, 1) := dk_5 (dk_at dksX0_setPower_0 19 rfl rfl)
theorem dX0_setPower_20 : decode cX0_setPower 20 = .ok (.ireturn, 1) := dk_172 (dk_at dksX0_setPower_0 20 rfl rfl)
theorem dX0_setPower_21 : decode cX0_setPower 21 = .ok (.astore 4, 2) := dk_58 4 (dk_at dksX0_setPower_0 21 rfl rfl)
theorem dX0_setPower_23 : decode cX0_setPower 23 = .ok (.iconst 3, 1) := dk_6 (dk_at dksX0_setPower_0 23 rfl rfl)
theorem dX0_setPower_24 : decode cX0_setPower 24 = .ok (.ireturn, 1) := dk_172 (dk_at dksX0_setPower_1 0 rfl rfl)
theorem dX0_setPower_25 : decode cX0_setPower 25 = .ok (.iconst 0, 1) := dk_3 (dk_at dksX0_setPower_1 1 rfl rfl)
theorem dX0_setPower_26 : decode cX0_setPower 26 = .ok (.ireturn, 1) := dk_172 (dk_at dksX0_setPower_1 2 rfl rfl)
abbrev cX0_addIncumbent : ByteArray := method_41_code
def yX0_addIncumbent : MethodName := ⟨RX0, "addIncumbent", "(LSpectrumAccess;IIIIII[J)I"⟩
def dkwX0_addIncumbent_1 : List UInt8 := [172, 58, 8, 5, 172, 58, 8, 6, 172, 3, 172]
abbrev dktX0_addIncumbent_1 : List UInt8 := dkwX0_addIncumbent_1 ++ []
def dkwX0_addIncumbent_0 : List UInt8 := [25, 7, 3, 42, 27, 28, 29, 21, 4, 21, 5, 21, 6, 182, 0, 138, 133, 80, 167, 0, 15, 58, 8, 4]
abbrev dktX0_addIncumbent_0 : List UInt8 := dkwX0_addIncumbent_0 ++ dktX0_addIncumbent_1
theorem dksX0_addIncumbent_0 : cX0_addIncumbent.data.toList.drop 0 = dktX0_addIncumbent_0 := by decide +kernel
theorem dksX0_addIncumbent_1 : cX0_addIncumbent.data.toList.drop 24 = dktX0_addIncumbent_1 := dk_seg dksX0_addIncumbent_0 24 rfl rfl
theorem dX0_addIncumbent_0 : decode cX0_addIncumbent 0 = .ok (.aload 7, 2) := dk_25 7 (dk_at dksX0_addIncumbent_0 0 rfl rfl)
theorem dX0_addIncumbent_2 : decode cX0_addIncumbent 2 = .ok (.iconst 0, 1) := dk_3 (dk_at dksX0_addIncumbent_0 2 rfl rfl)
theorem dX0_addIncumbent_3 : decode cX0_addIncumbent 3 = .ok (.aload_n 0, 1) := dk_42 (dk_at dksX0_addIncumbent_0 3 rfl rfl)
theorem dX0_addIncumbent_4 : decode cX0_addIncumbent 4 = .ok (.iload_n 1, 1) := dk_27 (dk_at dksX0_addIncumbent_0 4 rfl rfl)
theorem dX0_addIncumbent_5 : decode cX0_addIncumbent 5 = .ok (.iload_n 2, 1) := dk_28 (dk_at dksX0_addIncumbent_0 5 rfl rfl)
theorem dX0_addIncumbent_6 : decode cX0_addIncumbent 6 = .ok (.iload_n 3, 1) := dk_29 (dk_at dksX0_addIncumbent_0 6 rfl rfl)
theorem dX0_addIncumbent_7 : decode cX0_addIncumbent 7 = .ok (.iload 4, 2) := dk_21 4 (dk_at dksX0_addIncumbent_0 7 rfl rfl)
theorem dX0_addIncumbent_9 : decode cX0_addIncumbent 9 = .ok (.iload 5, 2) := dk_21 5 (dk_at dksX0_addIncumbent_0 9 rfl rfl)
theorem dX0_addIncumbent_11 : decode cX0_addIncumbent 11 = .ok (.iload 6, 2) := dk_21 6 (dk_at dksX0_addIncumbent_0 11 rfl rfl)
theorem dX0_addIncumbent_13 : decode cX0_addIncumbent 13 = .ok (.invokevirtual 138, 3) := dk_182 0 138 (dk_at dksX0_addIncumbent_0 13 rfl rfl)
theorem dX0_addIncumbent_16 : decode cX0_addIncumbent 16 = .ok (.i2l, 1) := dk_133 (dk_at dksX0_addIncumbent_0 16 rfl rfl)
theorem dX0_addIncumbent_17 : decode cX0_addIncumbent 17 = .ok (.lastore, 1) := dk_80 (dk_at dksX0_addIncumbent_0 17 rfl rfl)
theorem dX0_addIncumbent_18 : decode cX0_addIncumbent 18 = .ok (.goto 15, 3) := dk_167 0 15 (dk_at dksX0_addIncumbent_0 18 rfl rfl)
theorem dX0_addIncumbent_21 : decode cX0_addIncumbent 21 = .ok (.astore 8, 2) := dk_58 8 (dk_at dksX0_addIncumbent_0 21 rfl rfl)
theorem dX0_addIncumbent_23 : decode cX0_addIncumbent 23 = .ok (.iconst 1, 1) := dk_4 (dk_at dksX0_addIncumbent_0 23 rfl rfl)
theorem dX0_addIncumbent_24 : decode cX0_addIncumbent 24 = .ok (.ireturn, 1) := dk_172 (dk_at dksX0_addIncumbent_1 0 rfl rfl)
theorem dX0_addIncumbent_25 : decode cX0_addIncumbent 25 = .ok (.astore 8, 2) := dk_58 8 (dk_at dksX0_addIncumbent_1 1 rfl rfl)
theorem dX0_addIncumbent_27 : decode cX0_addIncumbent 27 = .ok (.iconst 2, 1) := dk_5 (dk_at dksX0_addIncumbent_1 3 rfl rfl)
theorem dX0_addIncumbent_28 : decode cX0_addIncumbent 28 = .ok (.ireturn, 1) := dk_172 (dk_at dksX0_addIncumbent_1 4 rfl rfl)
theorem dX0_addIncumbent_29 : decode cX0_addIncumbent 29 = .ok (.astore 8, 2) := dk_58 8 (dk_at dksX0_addIncumbent_1 5 rfl rfl)
theorem dX0_addIncumbent_31 : decode cX0_addIncumbent 31 = .ok (.iconst 3, 1) := dk_6 (dk_at dksX0_addIncumbent_1 7 rfl rfl)
theorem dX0_addIncumbent_32 : decode cX0_addIncumbent 32 = .ok (.ireturn, 1) := dk_172 (dk_at dksX0_addIncumbent_1 8 rfl rfl)
theorem dX0_addIncumbent_33 : decode cX0_addIncumbent 33 = .ok (.iconst 0, 1) := dk_3 (dk_at dksX0_addIncumbent_1 9 rfl rfl)
theorem dX0_addIncumbent_34 : decode cX0_addIncumbent 34 = .ok (.ireturn, 1) := dk_172 (dk_at dksX0_addIncumbent_1 10 rfl rfl)
abbrev cX0_endIncumbent : ByteArray := method_42_code
def yX0_endIncumbent : MethodName := ⟨RX0, "endIncumbent", "(LSpectrumAccess;I[J)I"⟩
def dkwX0_endIncumbent_0 : List UInt8 := [44, 3, 42, 27, 182, 0, 142, 133, 80, 167, 0, 12, 78, 4, 172, 78, 5, 172, 78, 6, 172, 3, 172]
abbrev dktX0_endIncumbent_0 : List UInt8 := dkwX0_endIncumbent_0 ++ []
theorem dksX0_endIncumbent_0 : cX0_endIncumbent.data.toList.drop 0 = dktX0_endIncumbent_0 := by decide +kernel
theorem dX0_endIncumbent_0 : decode cX0_endIncumbent 0 = .ok (.aload_n 2, 1) := dk_44 (dk_at dksX0_endIncumbent_0 0 rfl rfl)
theorem dX0_endIncumbent_1 : decode cX0_endIncumbent 1 = .ok (.iconst 0, 1) := dk_3 (dk_at dksX0_endIncumbent_0 1 rfl rfl)
theorem dX0_endIncumbent_2 : decode cX0_endIncumbent 2 = .ok (.aload_n 0, 1) := dk_42 (dk_at dksX0_endIncumbent_0 2 rfl rfl)
theorem dX0_endIncumbent_3 : decode cX0_endIncumbent 3 = .ok (.iload_n 1, 1) := dk_27 (dk_at dksX0_endIncumbent_0 3 rfl rfl)
theorem dX0_endIncumbent_4 : decode cX0_endIncumbent 4 = .ok (.invokevirtual 142, 3) := dk_182 0 142 (dk_at dksX0_endIncumbent_0 4 rfl rfl)
theorem dX0_endIncumbent_7 : decode cX0_endIncumbent 7 = .ok (.i2l, 1) := dk_133 (dk_at dksX0_endIncumbent_0 7 rfl rfl)
theorem dX0_endIncumbent_8 : decode cX0_endIncumbent 8 = .ok (.lastore, 1) := dk_80 (dk_at dksX0_endIncumbent_0 8 rfl rfl)
theorem dX0_endIncumbent_9 : decode cX0_endIncumbent 9 = .ok (.goto 12, 3) := dk_167 0 12 (dk_at dksX0_endIncumbent_0 9 rfl rfl)
theorem dX0_endIncumbent_12 : decode cX0_endIncumbent 12 = .ok (.astore_n 3, 1) := dk_78 (dk_at dksX0_endIncumbent_0 12 rfl rfl)
theorem dX0_endIncumbent_13 : decode cX0_endIncumbent 13 = .ok (.iconst 1, 1) := dk_4 (dk_at dksX0_endIncumbent_0 13 rfl rfl)
theorem dX0_endIncumbent_14 : decode cX0_endIncumbent 14 = .ok (.ireturn, 1) := dk_172 (dk_at dksX0_endIncumbent_0 14 rfl rfl)
theorem dX0_endIncumbent_15 : decode cX0_endIncumbent 15 = .ok (.astore_n 3, 1) := dk_78 (dk_at dksX0_endIncumbent_0 15 rfl rfl)
theorem dX0_endIncumbent_16 : decode cX0_endIncumbent 16 = .ok (.iconst 2, 1) := dk_5 (dk_at dksX0_endIncumbent_0 16 rfl rfl)
theorem dX0_endIncumbent_17 : decode cX0_endIncumbent 17 = .ok (.ireturn, 1) := dk_172 (dk_at dksX0_endIncumbent_0 17 rfl rfl)
theorem dX0_endIncumbent_18 : decode cX0_endIncumbent 18 = .ok (.astore_n 3, 1) := dk_78 (dk_at dksX0_endIncumbent_0 18 rfl rfl)
theorem dX0_endIncumbent_19 : decode cX0_endIncumbent 19 = .ok (.iconst 3, 1) := dk_6 (dk_at dksX0_endIncumbent_0 19 rfl rfl)
theorem dX0_endIncumbent_20 : decode cX0_endIncumbent 20 = .ok (.ireturn, 1) := dk_172 (dk_at dksX0_endIncumbent_0 20 rfl rfl)
theorem dX0_endIncumbent_21 : decode cX0_endIncumbent 21 = .ok (.iconst 0, 1) := dk_3 (dk_at dksX0_endIncumbent_0 21 rfl rfl)
theorem dX0_endIncumbent_22 : decode cX0_endIncumbent 22 = .ok (.ireturn, 1) := dk_172 (dk_at dksX0_endIncumbent_0 22 rfl rfl)
abbrev cX0_undo : ByteArray := method_43_code
def yX0_undo : MethodName := ⟨RX0, "undo", "(LSpectrumAccess;[J)I"⟩
def dkwX0_undo_0 : List UInt8 := [43, 3, 42, 182, 0, 145, 133, 80, 167, 0, 6, 77, 4, 172, 3, 172]
abbrev dktX0_undo_0 : List UInt8 := dkwX0_undo_0 ++ []
theorem dksX0_undo_0 : cX0_undo.data.toList.drop 0 = dktX0_undo_0 := by decide +kernel
theorem dX0_undo_0 : decode cX0_undo 0 = .ok (.aload_n 1, 1) := dk_43 (dk_at dksX0_undo_0 0 rfl rfl)
theorem dX0_undo_1 : decode cX0_undo 1 = .ok (.iconst 0, 1) := dk_3 (dk_at dksX0_undo_0 1 rfl rfl)
theorem dX0_undo_2 : decode cX0_undo 2 = .ok (.aload_n 0, 1) := dk_42 (dk_at dksX0_undo_0 2 rfl rfl)
theorem dX0_undo_3 : decode cX0_undo 3 = .ok (.invokevirtual 145, 3) := dk_182 0 145 (dk_at dksX0_undo_0 3 rfl rfl)
theorem dX0_undo_6 : decode cX0_undo 6 = .ok (.i2l, 1) := dk_133 (dk_at dksX0_undo_0 6 rfl rfl)
theorem dX0_undo_7 : decode cX0_undo 7 = .ok (.lastore, 1) := dk_80 (dk_at dksX0_undo_0 7 rfl rfl)
theorem dX0_undo_8 : decode cX0_undo 8 = .ok (.goto 6, 3) := dk_167 0 6 (dk_at dksX0_undo_0 8 rfl rfl)
theorem dX0_undo_11 : decode cX0_undo 11 = .ok (.astore_n 2, 1) := dk_77 (dk_at dksX0_undo_0 11 rfl rfl)
theorem dX0_undo_12 : decode cX0_undo 12 = .ok (.iconst 1, 1) := dk_4 (dk_at dksX0_undo_0 12 rfl rfl)
theorem dX0_undo_13 : decode cX0_undo 13 = .ok (.ireturn, 1) := dk_172 (dk_at dksX0_undo_0 13 rfl rfl)
theorem dX0_undo_14 : decode cX0_undo 14 = .ok (.iconst 0, 1) := dk_3 (dk_at dksX0_undo_0 14 rfl rfl)
theorem dX0_undo_15 : decode cX0_undo 15 = .ok (.ireturn, 1) := dk_172 (dk_at dksX0_undo_0 15 rfl rfl)
abbrev cX0_save : ByteArray := method_44_code
def yX0_save : MethodName := ⟨RX0, "save", "(LSpectrumAccess;I[J)I"⟩
def dkwX0_save_0 : List UInt8 := [44, 3, 42, 27, 182, 0, 148, 133, 80, 167, 0, 9, 78, 4, 172, 78, 5, 172, 3, 172]
abbrev dktX0_save_0 : List UInt8 := dkwX0_save_0 ++ []
theorem dksX0_save_0 : cX0_save.data.toList.drop 0 = dktX0_save_0 := by decide +kernel
theorem dX0_save_0 : decode cX0_save 0 = .ok (.aload_n 2, 1) := dk_44 (dk_at dksX0_save_0 0 rfl rfl)
theorem dX0_save_1 : decode cX0_save 1 = .ok (.iconst 0, 1) := dk_3 (dk_at dksX0_save_0 1 rfl rfl)
theorem dX0_save_2 : decode cX0_save 2 = .ok (.aload_n 0, 1) := dk_42 (dk_at dksX0_save_0 2 rfl rfl)
theorem dX0_save_3 : decode cX0_save 3 = .ok (.iload_n 1, 1) := dk_27 (dk_at dksX0_save_0 3 rfl rfl)
theorem dX0_save_4 : decode cX0_save 4 = .ok (.invokevirtual 148, 3) := dk_182 0 148 (dk_at dksX0_save_0 4 rfl rfl)
theorem dX0_save_7 : decode cX0_save 7 = .ok (.i2l, 1) := dk_133 (dk_at dksX0_save_0 7 rfl rfl)
theorem dX0_save_8 : decode cX0_save 8 = .ok (.lastore, 1) := dk_80 (dk_at dksX0_save_0 8 rfl rfl)
theorem dX0_save_9 : decode cX0_save 9 = .ok (.goto 9, 3) := dk_167 0 9 (dk_at dksX0_save_0 9 rfl rfl)
theorem dX0_save_12 : decode cX0_save 12 = .ok (.astore_n 3, 1) := dk_78 (dk_at dksX0_save_0 12 rfl rfl)
theorem dX0_save_13 : decode cX0_save 13 = .ok (.iconst 1, 1) := dk_4 (dk_at dksX0_save_0 13 rfl rfl)
theorem dX0_save_14 : decode cX0_save 14 = .ok (.ireturn, 1) := dk_172 (dk_at dksX0_save_0 14 rfl rfl)
theorem dX0_save_15 : decode cX0_save 15 = .ok (.astore_n 3, 1) := dk_78 (dk_at dksX0_save_0 15 rfl rfl)
theorem dX0_save_16 : decode cX0_save 16 = .ok (.iconst 2, 1) := dk_5 (dk_at dksX0_save_0 16 rfl rfl)
theorem dX0_save_17 : decode cX0_save 17 = .ok (.ireturn, 1) := dk_172 (dk_at dksX0_save_0 17 rfl rfl)
theorem dX0_save_18 : decode cX0_save 18 = .ok (.iconst 0, 1) := dk_3 (dk_at dksX0_save_0 18 rfl rfl)
theorem dX0_save_19 : decode cX0_save 19 = .ok (.ireturn, 1) := dk_172 (dk_at dksX0_save_0 19 rfl rfl)
abbrev cX0_restore : ByteArray := method_45_code
def yX0_restore : MethodName := ⟨RX0, "restore", "(LSpectrumAccess;I[J)I"⟩
def dkwX0_restore_0 : List UInt8 := [44, 3, 42, 27, 182, 0, 151, 133, 80, 167, 0, 9, 78, 4, 172, 78, 5, 172, 3, 172]
abbrev dktX0_restore_0 : List UInt8 := dkwX0_restore_0 ++ []
theorem dksX0_restore_0 : cX0_restore.data.toList.drop 0 = dktX0_restore_0 := by decide +kernel
theorem dX0_restore_0 : decode cX0_restore 0 = .ok (.aload_n 2, 1) := dk_44 (dk_at dksX0_restore_0 0 rfl rfl)
theorem dX0_restore_1 : decode cX0_restore 1 = .ok (.iconst 0, 1) := dk_3 (dk_at dksX0_restore_0 1 rfl rfl)
theorem dX0_restore_2 : decode cX0_restore 2 = .ok (.aload_n 0, 1) := dk_42 (dk_at dksX0_restore_0 2 rfl rfl)
theorem dX0_restore_3 : decode cX0_restore 3 = .ok (.iload_n 1, 1) := dk_27 (dk_at dksX0_restore_0 3 rfl rfl)
theorem dX0_restore_4 : decode cX0_restore 4 = .ok (.invokevirtual 151, 3) := dk_182 0 151 (dk_at dksX0_restore_0 4 rfl rfl)
theorem dX0_restore_7 : decode cX0_restore 7 = .ok (.i2l, 1) := dk_133 (dk_at dksX0_restore_0 7 rfl rfl)
theorem dX0_restore_8 : decode cX0_restore 8 = .ok (.lastore, 1) := dk_80 (dk_at dksX0_restore_0 8 rfl rfl)
theorem dX0_restore_9 : decode cX0_restore 9 = .ok (.goto 9, 3) := dk_167 0 9 (dk_at dksX0_restore_0 9 rfl rfl)
theorem dX0_restore_12 : decode cX0_restore 12 = .ok (.astore_n 3, 1) := dk_78 (dk_at dksX0_restore_0 12 rfl rfl)
theorem dX0_restore_13 : decode cX0_restore 13 = .ok (.iconst 1, 1) := dk_4 (dk_at dksX0_restore_0 13 rfl rfl)
theorem dX0_restore_14 : decode cX0_restore 14 = .ok (.ireturn, 1) := dk_172 (dk_at dksX0_restore_0 14 rfl rfl)
theorem dX0_restore_15 : decode cX0_restore 15 = .ok (.astore_n 3, 1) := dk_78 (dk_at dksX0_restore_0 15 rfl rfl)
theorem dX0_restore_16 : decode cX0_restore 16 = .ok (.iconst 2, 1) := dk_5 (dk_at dksX0_restore_0 16 rfl rfl)
theorem dX0_restore_17 : decode cX0_restore 17 = .ok (.ireturn, 1) := dk_172 (dk_at dksX0_restore_0 17 rfl rfl)
theorem dX0_restore_18 : decode cX0_restore 18 = .ok (.iconst 0, 1) := dk_3 (dk_at dksX0_restore_0 18 rfl rfl)
theorem dX0_restore_19 : decode cX0_restore 19 = .ok (.ireturn, 1) := dk_172 (dk_at dksX0_restore_0 19 rfl rfl)
theorem q139 : (Jvm.Cond.initialized "SpectrumAccessLaw") ∈ lw_all := lw_g (lw_at lw_m1 0 rfl) rfl
theorem q190 : (Jvm.Cond.classLink "SpectrumAccessLaw" (8 : Nat) "SpectrumAccess") ∈ lw_all := lw_g (lw_at lw_m1 51 rfl) rfl
theorem q192 : (Jvm.Cond.methodLink "SpectrumAccessLaw" (154 : Nat) ({ cls := "SpectrumAccess", name := "<init>", desc := "()V" } : Jvm.MethodName)) ∈ lw_all := lw_g (lw_at lw_m1 53 rfl) rfl
theorem q284 : (Jvm.Cond.methodLink "SpectrumAccessLaw" (158 : Nat) ({ cls := "SpectrumAccess", name := "append", desc := "(IIIII)I" } : Jvm.MethodName)) ∈ lw_all := lw_g (lw_at lw_m1 145 rfl) rfl
theorem q289 : (Jvm.Cond.methodLink "SpectrumAccessLaw" (172 : Nat) ({ cls := "SpectrumAccess", name := "parseError", desc := "()I" } : Jvm.MethodName)) ∈ lw_all := lw_g (lw_at lw_m1 150 rfl) rfl
theorem q293 : (Jvm.Cond.methodLink "SpectrumAccessLaw" (176 : Nat) ({ cls := "SpectrumAccess", name := "errorPosition", desc := "()I" } : Jvm.MethodName)) ∈ lw_all := lw_g (lw_at lw_m1 154 rfl) rfl
theorem q297 : (Jvm.Cond.methodLink "SpectrumAccessLaw" (180 : Nat) ({ cls := "SpectrumAccess", name := "buffered", desc := "()I" } : Jvm.MethodName)) ∈ lw_all := lw_g (lw_at lw_m1 158 rfl) rfl
theorem q301 : (Jvm.Cond.methodLink "SpectrumAccessLaw" (184 : Nat) ({ cls := "SpectrumAccess", name := "channels", desc := "()I" } : Jvm.MethodName)) ∈ lw_all := lw_g (lw_at lw_m1 162 rfl) rfl
theorem q305 : (Jvm.Cond.methodLink "SpectrumAccessLaw" (188 : Nat) ({ cls := "SpectrumAccess", name := "incumbents", desc := "()I" } : Jvm.MethodName)) ∈ lw_all := lw_g (lw_at lw_m1 166 rfl) rfl
theorem q319 : (Jvm.Cond.methodLink "SpectrumAccessLaw" (192 : Nat) ({ cls := "SpectrumAccess", name := "licences", desc := "()I" } : Jvm.MethodName)) ∈ lw_all := lw_g (lw_at lw_m1 180 rfl) rfl
theorem q323 : (Jvm.Cond.methodLink "SpectrumAccessLaw" (196 : Nat) ({ cls := "SpectrumAccess", name := "devices", desc := "()I" } : Jvm.MethodName)) ∈ lw_all := lw_g (lw_at lw_m1 184 rfl) rfl
theorem q327 : (Jvm.Cond.methodLink "SpectrumAccessLaw" (200 : Nat) ({ cls := "SpectrumAccess", name := "denials", desc := "()I" } : Jvm.MethodName)) ∈ lw_all := lw_g (lw_at lw_m1 188 rfl) rfl
theorem q331 : (Jvm.Cond.methodLink "SpectrumAccessLaw" (204 : Nat) ({ cls := "SpectrumAccess", name := "time", desc := "()I" } : Jvm.MethodName)) ∈ lw_all := lw_g (lw_at lw_m1 192 rfl) rfl
theorem q335 : (Jvm.Cond.methodLink "SpectrumAccessLaw" (277 : Nat) ({ cls := "SpectrumAccess", name := "waiting", desc := "()I" } : Jvm.MethodName)) ∈ lw_all := lw_g (lw_at lw_m1 196 rfl) rfl
theorem q345 : (Jvm.Cond.methodLink "SpectrumAccessLaw" (287 : Nat) ({ cls := "SpectrumAccess", name := "moves", desc := "()I" } : Jvm.MethodName)) ∈ lw_all := lw_g (lw_at lw_m1 206 rfl) rfl
theorem q349 : (Jvm.Cond.methodLink "SpectrumAccessLaw" (291 : Nat) ({ cls := "SpectrumAccess", name := "leaseEnds", desc := "()I" } : Jvm.MethodName)) ∈ lw_all := lw_g (lw_at lw_m1 210 rfl) rfl
theorem q353 : (Jvm.Cond.methodLink "SpectrumAccessLaw" (295 : Nat) ({ cls := "SpectrumAccess", name := "events", desc := "()I" } : Jvm.MethodName)) ∈ lw_all := lw_g (lw_at lw_m1 214 rfl) rfl
theorem q357 : (Jvm.Cond.methodLink "SpectrumAccessLaw" (349 : Nat) ({ cls := "SpectrumAccess", name := "undoable", desc := "()I" } : Jvm.MethodName)) ∈ lw_all := lw_g (lw_at lw_m1 218 rfl) rfl
theorem q361 : (Jvm.Cond.methodLink "SpectrumAccessLaw" (163 : Nat) ({ cls := "SpectrumAccessLaw", name := "load", desc := "(LSpectrumAccess;I[J)I" } : Jvm.MethodName)) ∈ lw_all := lw_g (lw_at lw_m1 222 rfl) rfl
theorem q362 : (Jvm.Cond.static ({ cls := "SpectrumAccessLaw", name := "load", desc := "(LSpectrumAccess;I[J)I" } : Jvm.MethodName)) ∈ lw_all := lw_g (lw_at lw_m1 223 rfl) rfl
theorem q363 : (Jvm.Cond.codeWith ({ cls := "SpectrumAccessLaw", name := "load", desc := "(LSpectrumAccess;I[J)I" } : Jvm.MethodName) method_3_code (4 : Nat) (Option.some Jvm.ClassFile.FieldType.int) [((0 : Nat), (9 : Nat), (12 : Nat), (13 : Nat)), ((0 : Nat), (9 : Nat), (15 : Nat), (15 : Nat))]) ∈ lw_all := lw_g (lw_at lw_m1 224 rfl) rfl
theorem q364 : (Jvm.Cond.classLink "SpectrumAccessLaw" (13 : Nat) "java/lang/IndexOutOfBoundsException") ∈ lw_all := lw_g (lw_at lw_m1 225 rfl) rfl
theorem q443 : (Jvm.Cond.classLink "SpectrumAccessLaw" (15 : Nat) "java/lang/IllegalArgumentException") ∈ lw_all := lw_g (lw_at lw_m2 64 rfl) rfl
theorem q444 : (Jvm.Cond.methodLink "SpectrumAccessLaw" (7 : Nat) ({ cls := "SpectrumAccess", name := "load", desc := "(I)I" } : Jvm.MethodName)) ∈ lw_all := lw_g (lw_at lw_m2 65 rfl) rfl
theorem q1717 : (Jvm.Cond.methodLink "SpectrumAccessLaw" (208 : Nat) ({ cls := "SpectrumAccessLaw", name := "isSensed", desc := "(LSpectrumAccess;I[J)I" } : Jvm.MethodName)) ∈ lw_all := lw_g (lw_at lw_m7 138 rfl) rfl
theorem q1718 : (Jvm.Cond.static ({ cls := "SpectrumAccessLaw", name := "isSensed", desc := "(LSpectrumAccess;I[J)I" } : Jvm.MethodName)) ∈ lw_all := lw_g (lw_at lw_m7 139 rfl) rfl
theorem q1719 : (Jvm.Cond.codeWith ({ cls := "SpectrumAccessLaw", name := "isSensed", desc := "(LSpectrumAccess;I[J)I" } : Jvm.MethodName) method_4_code (4 : Nat) (Option.some Jvm.ClassFile.FieldType.int) [((0 : Nat), (16 : Nat), (19 : Nat), (21 : Nat)), ((0 : Nat), (16 : Nat), (22 : Nat), (13 : Nat))]) ∈ lw_all := lw_g (lw_at lw_m7 140 rfl) rfl
theorem q1720 : (Jvm.Cond.classLink "SpectrumAccessLaw" (21 : Nat) "java/lang/IllegalStateException") ∈ lw_all := lw_g (lw_at lw_m7 141 rfl) rfl
theorem q1721 : (Jvm.Cond.methodLink "SpectrumAccessLaw" (17 : Nat) ({ cls := "SpectrumAccess", name := "isSensed", desc := "(I)Z" } : Jvm.MethodName)) ∈ lw_all := lw_g (lw_at lw_m7 142 rfl) rfl
theorem q1777 : (Jvm.Cond.methodLink "SpectrumAccessLaw" (211 : Nat) ({ cls := "SpectrumAccessLaw", name := "isProtected", desc := "(LSpectrumAccess;I[J)I" } : Jvm.MethodName)) ∈ lw_all := lw_g (lw_at lw_m7 198 rfl) rfl
theorem q1778 : (Jvm.Cond.static ({ cls := "SpectrumAccessLaw", name := "isProtected", desc := "(LSpectrumAccess;I[J)I" } : Jvm.MethodName)) ∈ lw_all := lw_g (lw_at lw_m7 199 rfl) rfl
theorem q1779 : (Jvm.Cond.codeWith ({ cls := "SpectrumAccessLaw", name := "isProtected", desc := "(LSpectrumAccess;I[J)I" } : Jvm.MethodName) method_5_code (4 : Nat) (Option.some Jvm.ClassFile.FieldType.int) [((0 : Nat), (16 : Nat), (19 : Nat), (21 : Nat)), ((0 : Nat), (16 : Nat), (22 : Nat), (13 : Nat))]) ∈ lw_all := lw_g (lw_at lw_m7 200 rfl) rfl
theorem q1780 : (Jvm.Cond.methodLink "SpectrumAccessLaw" (23 : Nat) ({ cls := "SpectrumAccess", name := "isProtected", desc := "(I)Z" } : Jvm.MethodName)) ∈ lw_all := lw_g (lw_at lw_m7 201 rfl) rfl
theorem q1792 : (Jvm.Cond.methodLink "SpectrumAccessLaw" (214 : Nat) ({ cls := "SpectrumAccessLaw", name := "headroom", desc := "(LSpectrumAccess;I[J)I" } : Jvm.MethodName)) ∈ lw_all := lw_g (lw_at lw_m7 213 rfl) rfl
theorem q1793 : (Jvm.Cond.static ({ cls := "SpectrumAccessLaw", name := "headroom", desc := "(LSpectrumAccess;I[J)I" } : Jvm.MethodName)) ∈ lw_all := lw_g (lw_at lw_m7 214 rfl) rfl
theorem q1794 : (Jvm.Cond.codeWith ({ cls := "SpectrumAccessLaw", name := "headroom", desc := "(LSpectrumAccess;I[J)I" } : Jvm.MethodName) method_6_code (4 : Nat) (Option.some Jvm.ClassFile.FieldType.int) [((0 : Nat), (9 : Nat), (12 : Nat), (21 : Nat)), ((0 : Nat), (9 : Nat), (15 : Nat), (13 : Nat))]) ∈ lw_all := lw_g (lw_at lw_m7 215 rfl) rfl
theorem q1795 : (Jvm.Cond.methodLink "SpectrumAccessLaw" (26 : Nat) ({ cls := "SpectrumAccess", name := "headroom", desc := "(I)I" } : Jvm.MethodName)) ∈ lw_all := lw_g (lw_at lw_m7 216 rfl) rfl
theorem q1832 : (Jvm.Cond.methodLink "SpectrumAccessLaw" (217 : Nat) ({ cls := "SpectrumAccessLaw", name := "licenceChannels", desc := "(LSpectrumAccess;I[J)I" } : Jvm.MethodName)) ∈ lw_all := lw_g (lw_at lw_m8 13 rfl) rfl
theorem q1833 : (Jvm.Cond.static ({ cls := "SpectrumAccessLaw", name := "licenceChannels", desc := "(LSpectrumAccess;I[J)I" } : Jvm.MethodName)) ∈ lw_all := lw_g (lw_at lw_m8 14 rfl) rfl
theorem q1834 : (Jvm.Cond.codeWith ({ cls := "SpectrumAccessLaw", name := "licenceChannels", desc := "(LSpectrumAccess;I[J)I" } : Jvm.MethodName) method_7_code (4 : Nat) (Option.some Jvm.ClassFile.FieldType.int) [((0 : Nat), (9 : Nat), (12 : Nat), (21 : Nat)), ((0 : Nat), (9 : Nat), (15 : Nat), (13 : Nat))]) ∈ lw_all := lw_g (lw_at lw_m8 15 rfl) rfl
theorem q1835 : (Jvm.Cond.methodLink "SpectrumAccessLaw" (29 : Nat) ({ cls := "SpectrumAccess", name := "licenceChannels", desc := "(I)I" } : Jvm.MethodName)) ∈ lw_all := lw_g (lw_at lw_m8 16 rfl) rfl
theorem q1844 : (Jvm.Cond.methodLink "SpectrumAccessLaw" (220 : Nat) ({ cls := "SpectrumAccessLaw", name := "licenceAt", desc := "(LSpectrumAccess;III[J)I" } : Jvm.MethodName)) ∈ lw_all := lw_g (lw_at lw_m8 25 rfl) rfl
theorem q1845 : (Jvm.Cond.static ({ cls := "SpectrumAccessLaw", name := "licenceAt", desc := "(LSpectrumAccess;III[J)I" } : Jvm.MethodName)) ∈ lw_all := lw_g (lw_at lw_m8 26 rfl) rfl
theorem q1846 : (Jvm.Cond.codeWith ({ cls := "SpectrumAccessLaw", name := "licenceAt", desc := "(LSpectrumAccess;III[J)I" } : Jvm.MethodName) method_8_code (6 : Nat) (Option.some Jvm.ClassFile.FieldType.int) [((0 : Nat), (12 : Nat), (15 : Nat), (21 : Nat)), ((0 : Nat), (12 : Nat), (19 : Nat), (13 : Nat))]) ∈ lw_all := lw_g (lw_at lw_m8 27 rfl) rfl
theorem q1847 : (Jvm.Cond.methodLink "SpectrumAccessLaw" (32 : Nat) ({ cls := "SpectrumAccess", name := "licenceAt", desc := "(III)I" } : Jvm.MethodName)) ∈ lw_all := lw_g (lw_at lw_m8 28 rfl) rfl
theorem q1872 : (Jvm.Cond.methodLink "SpectrumAccessLaw" (224 : Nat) ({ cls := "SpectrumAccessLaw", name := "stateOf", desc := "(LSpectrumAccess;I[J)I" } : Jvm.MethodName)) ∈ lw_all := lw_g (lw_at lw_m8 53 rfl) rfl
theorem q1873 : (Jvm.Cond.static ({ cls := "SpectrumAccessLaw", name := "stateOf", desc := "(LSpectrumAccess;I[J)I" } : Jvm.MethodName)) ∈ lw_all := lw_g (lw_at lw_m8 54 rfl) rfl
theorem q1874 : (Jvm.Cond.codeWith ({ cls := "SpectrumAccessLaw", name := "stateOf", desc := "(LSpectrumAccess;I[J)I" } : Jvm.MethodName) method_9_code (4 : Nat) (Option.some Jvm.ClassFile.FieldType.int) [((0 : Nat), (9 : Nat), (12 : Nat), (21 : Nat)), ((0 : Nat), (9 : Nat), (15 : Nat), (13 : Nat))]) ∈ lw_all := lw_g (lw_at lw_m8 55 rfl) rfl
theorem q1875 : (Jvm.Cond.methodLink "SpectrumAccessLaw" (36 : Nat) ({ cls := "SpectrumAccess", name := "stateOf", desc := "(I)I" } : Jvm.MethodName)) ∈ lw_all := lw_g (lw_at lw_m8 56 rfl) rfl
theorem q1883 : (Jvm.Cond.methodLink "SpectrumAccessLaw" (227 : Nat) ({ cls := "SpectrumAccessLaw", name := "licenceOf", desc := "(LSpectrumAccess;I[J)I" } : Jvm.MethodName)) ∈ lw_all := lw_g (lw_at lw_m8 64 rfl) rfl
theorem q1884 : (Jvm.Cond.static ({ cls := "SpectrumAccessLaw", name := "licenceOf", desc := "(LSpectrumAccess;I[J)I" } : Jvm.MethodName)) ∈ lw_all := lw_g (lw_at lw_m8 65 rfl) rfl
theorem q1885 : (Jvm.Cond.codeWith ({ cls := "SpectrumAccessLaw", name := "licenceOf", desc := "(LSpectrumAccess;I[J)I" } : Jvm.MethodName) method_10_code (4 : Nat) (Option.some Jvm.ClassFile.FieldType.int) [((0 : Nat), (9 : Nat), (12 : Nat), (21 : Nat)), ((0 : Nat), (9 : Nat), (15 : Nat), (13 : Nat))]) ∈ lw_all := lw_g (lw_at lw_m8 66 rfl) rfl
theorem q1886 : (Jvm.Cond.methodLink "SpectrumAccessLaw" (39 : Nat) ({ cls := "SpectrumAccess", name := "licenceOf", desc := "(I)I" } : Jvm.MethodName)) ∈ lw_all := lw_g (lw_at lw_m8 67 rfl) rfl
theorem q1891 : (Jvm.Cond.methodLink "SpectrumAccessLaw" (230 : Nat) ({ cls := "SpectrumAccessLaw", name := "channelOf", desc := "(LSpectrumAccess;I[J)I" } : Jvm.MethodName)) ∈ lw_all := lw_g (lw_at lw_m8 72 rfl) rfl
theorem q1892 : (Jvm.Cond.static ({ cls := "SpectrumAccessLaw", name := "channelOf", desc := "(LSpectrumAccess;I[J)I" } : Jvm.MethodName)) ∈ lw_all := lw_g (lw_at lw_m8 73 rfl) rfl
theorem q1893 : (Jvm.Cond.codeWith ({ cls := "SpectrumAccessLaw", name := "channelOf", desc := "(LSpectrumAccess;I[J)I" } : Jvm.MethodName) method_11_code (4 : Nat) (Option.some Jvm.ClassFile.FieldType.int) [((0 : Nat), (9 : Nat), (12 : Nat), (21 : Nat)), ((0 : Nat), (9 : Nat), (15 : Nat), (13 : Nat))]) ∈ lw_all := lw_g (lw_at lw_m8 74 rfl) rfl
theorem q1894 : (Jvm.Cond.methodLink "SpectrumAccessLaw" (42 : Nat) ({ cls := "SpectrumAccess", name := "channelOf", desc := "(I)I" } : Jvm.MethodName)) ∈ lw_all := lw_g (lw_at lw_m8 75 rfl) rfl
theorem q1898 : (Jvm.Cond.methodLink "SpectrumAccessLaw" (233 : Nat) ({ cls := "SpectrumAccessLaw", name := "powerOf", desc := "(LSpectrumAccess;I[J)I" } : Jvm.MethodName)) ∈ lw_all := lw_g (lw_at lw_m8 79 rfl) rfl
theorem q1899 : (Jvm.Cond.static ({ cls := "SpectrumAccessLaw", name := "powerOf", desc := "(LSpectrumAccess;I[J)I" } : Jvm.MethodName)) ∈ lw_all := lw_g (lw_at lw_m8 80 rfl) rfl
theorem q1900 : (Jvm.Cond.codeWith ({ cls := "SpectrumAccessLaw", name := "powerOf", desc := "(LSpectrumAccess;I[J)I" } : Jvm.MethodName) method_12_code (4 : Nat) (Option.some Jvm.ClassFile.FieldType.int) [((0 : Nat), (9 : Nat), (12 : Nat), (21 : Nat)), ((0 : Nat), (9 : Nat), (15 : Nat), (13 : Nat))]) ∈ lw_all := lw_g (lw_at lw_m8 81 rfl) rfl
theorem q1901 : (Jvm.Cond.methodLink "SpectrumAccessLaw" (45 : Nat) ({ cls := "SpectrumAccess", name := "powerOf", desc := "(I)I" } : Jvm.MethodName)) ∈ lw_all := lw_g (lw_at lw_m8 82 rfl) rfl
theorem q1905 : (Jvm.Cond.methodLink "SpectrumAccessLaw" (236 : Nat) ({ cls := "SpectrumAccessLaw", name := "sinceOf", desc := "(LSpectrumAccess;I[J)I" } : Jvm.MethodName)) ∈ lw_all := lw_g (lw_at lw_m8 86 rfl) rfl
theorem q1906 : (Jvm.Cond.static ({ cls := "SpectrumAccessLaw", name := "sinceOf", desc := "(LSpectrumAccess;I[J)I" } : Jvm.MethodName)) ∈ lw_all := lw_g (lw_at lw_m8 87 rfl) rfl
theorem q1907 : (Jvm.Cond.codeWith ({ cls := "SpectrumAccessLaw", name := "sinceOf", desc := "(LSpectrumAccess;I[J)I" } : Jvm.MethodName) method_13_code (4 : Nat) (Option.some Jvm.ClassFile.FieldType.int) [((0 : Nat), (9 : Nat), (12 : Nat), (21 : Nat)), ((0 : Nat), (9 : Nat), (15 : Nat), (13 : Nat))]) ∈ lw_all := lw_g (lw_at lw_m8 88 rfl) rfl
theorem q1908 : (Jvm.Cond.methodLink "SpectrumAccessLaw" (48 : Nat) ({ cls := "SpectrumAccess", name := "sinceOf", desc := "(I)I" } : Jvm.MethodName)) ∈ lw_all := lw_g (lw_at lw_m8 89 rfl) rfl
theorem q1912 : (Jvm.Cond.methodLink "SpectrumAccessLaw" (239 : Nat) ({ cls := "SpectrumAccessLaw", name := "movesOf", desc := "(LSpectrumAccess;I[J)I" } : Jvm.MethodName)) ∈ lw_all := lw_g (lw_at lw_m8 93 rfl) rfl
theorem q1913 : (Jvm.Cond.static ({ cls := "SpectrumAccessLaw", name := "movesOf", desc := "(LSpectrumAccess;I[J)I" } : Jvm.MethodName)) ∈ lw_all := lw_g (lw_at lw_m8 94 rfl) rfl
theorem q1914 : (Jvm.Cond.codeWith ({ cls := "SpectrumAccessLaw", name := "movesOf", desc := "(LSpectrumAccess;I[J)I" } : Jvm.MethodName) method_14_code (4 : Nat) (Option.some Jvm.ClassFile.FieldType.int) [((0 : Nat), (9 : Nat), (12 : Nat), (21 : Nat)), ((0 : Nat), (9 : Nat), (15 : Nat), (13 : Nat))]) ∈ lw_all := lw_g (lw_at lw_m8 95 rfl) rfl
theorem q1915 : (Jvm.Cond.methodLink "SpectrumAccessLaw" (51 : Nat) ({ cls := "SpectrumAccess", name := "movesOf", desc := "(I)I" } : Jvm.MethodName)) ∈ lw_all := lw_g (lw_at lw_m8 96 rfl) rfl
theorem q1919 : (Jvm.Cond.methodLink "SpectrumAccessLaw" (242 : Nat) ({ cls := "SpectrumAccessLaw", name := "airtimeOf", desc := "(LSpectrumAccess;I[J)I" } : Jvm.MethodName)) ∈ lw_all := lw_g (lw_at lw_m8 100 rfl) rfl
theorem q1920 : (Jvm.Cond.static ({ cls := "SpectrumAccessLaw", name := "airtimeOf", desc := "(LSpectrumAccess;I[J)I" } : Jvm.MethodName)) ∈ lw_all := lw_g (lw_at lw_m8 101 rfl) rfl
theorem q1921 : (Jvm.Cond.codeWith ({ cls := "SpectrumAccessLaw", name := "airtimeOf", desc := "(LSpectrumAccess;I[J)I" } : Jvm.MethodName) method_15_code (4 : Nat) (Option.some Jvm.ClassFile.FieldType.int) [((0 : Nat), (9 : Nat), (12 : Nat), (21 : Nat)), ((0 : Nat), (9 : Nat), (15 : Nat), (13 : Nat))]) ∈ lw_all := lw_g (lw_at lw_m8 102 rfl) rfl
theorem q1922 : (Jvm.Cond.methodLink "SpectrumAccessLaw" (54 : Nat) ({ cls := "SpectrumAccess", name := "airtimeOf", desc := "(I)I" } : Jvm.MethodName)) ∈ lw_all := lw_g (lw_at lw_m8 103 rfl) rfl
theorem q1926 : (Jvm.Cond.methodLink "SpectrumAccessLaw" (245 : Nat) ({ cls := "SpectrumAccessLaw", name := "leaseEndOf", desc := "(LSpectrumAccess;I[J)I" } : Jvm.MethodName)) ∈ lw_all := lw_g (lw_at lw_m8 107 rfl) rfl
theorem q1927 : (Jvm.Cond.static ({ cls := "SpectrumAccessLaw", name := "leaseEndOf", desc := "(LSpectrumAccess;I[J)I" } : Jvm.MethodName)) ∈ lw_all := lw_g (lw_at lw_m8 108 rfl) rfl
theorem q1928 : (Jvm.Cond.codeWith ({ cls := "SpectrumAccessLaw", name := "leaseEndOf", desc := "(LSpectrumAccess;I[J)I" } : Jvm.MethodName) method_16_code (4 : Nat) (Option.some Jvm.ClassFile.FieldType.int) [((0 : Nat), (9 : Nat), (12 : Nat), (21 : Nat)), ((0 : Nat), (9 : Nat), (15 : Nat), (13 : Nat))]) ∈ lw_all := lw_g (lw_at lw_m8 109 rfl) rfl
theorem q1929 : (Jvm.Cond.methodLink "SpectrumAccessLaw" (57 : Nat) ({ cls := "SpectrumAccess", name := "leaseEndOf", desc := "(I)I" } : Jvm.MethodName)) ∈ lw_all := lw_g (lw_at lw_m8 110 rfl) rfl
theorem q1934 : (Jvm.Cond.methodLink "SpectrumAccessLaw" (248 : Nat) ({ cls := "SpectrumAccessLaw", name := "strengthOf", desc := "(LSpectrumAccess;III[J)I" } : Jvm.MethodName)) ∈ lw_all := lw_g (lw_at lw_m8 115 rfl) rfl
theorem q1935 : (Jvm.Cond.static ({ cls := "SpectrumAccessLaw", name := "strengthOf", desc := "(LSpectrumAccess;III[J)I" } : Jvm.MethodName)) ∈ lw_all := lw_g (lw_at lw_m8 116 rfl) rfl
theorem q1936 : (Jvm.Cond.codeWith ({ cls := "SpectrumAccessLaw", name := "strengthOf", desc := "(LSpectrumAccess;III[J)I" } : Jvm.MethodName) method_17_code (6 : Nat) (Option.some Jvm.ClassFile.FieldType.int) [((0 : Nat), (12 : Nat), (15 : Nat), (21 : Nat)), ((0 : Nat), (12 : Nat), (19 : Nat), (13 : Nat))]) ∈ lw_all := lw_g (lw_at lw_m8 117 rfl) rfl
theorem q1937 : (Jvm.Cond.methodLink "SpectrumAccessLaw" (60 : Nat) ({ cls := "SpectrumAccess", name := "strengthOf", desc := "(III)I" } : Jvm.MethodName)) ∈ lw_all := lw_g (lw_at lw_m8 118 rfl) rfl
theorem q1942 : (Jvm.Cond.methodLink "SpectrumAccessLaw" (251 : Nat) ({ cls := "SpectrumAccessLaw", name := "interference", desc := "(LSpectrumAccess;IIII[J)I" } : Jvm.MethodName)) ∈ lw_all := lw_g (lw_at lw_m8 123 rfl) rfl
theorem q1943 : (Jvm.Cond.static ({ cls := "SpectrumAccessLaw", name := "interference", desc := "(LSpectrumAccess;IIII[J)I" } : Jvm.MethodName)) ∈ lw_all := lw_g (lw_at lw_m8 124 rfl) rfl
theorem q1944 : (Jvm.Cond.codeWith ({ cls := "SpectrumAccessLaw", name := "interference", desc := "(LSpectrumAccess;IIII[J)I" } : Jvm.MethodName) method_18_code (7 : Nat) (Option.some Jvm.ClassFile.FieldType.int) [((0 : Nat), (14 : Nat), (17 : Nat), (21 : Nat)), ((0 : Nat), (14 : Nat), (21 : Nat), (13 : Nat)), ((0 : Nat), (14 : Nat), (25 : Nat), (15 : Nat))]) ∈ lw_all := lw_g (lw_at lw_m8 125 rfl) rfl
theorem q1945 : (Jvm.Cond.methodLink "SpectrumAccessLaw" (63 : Nat) ({ cls := "SpectrumAccess", name := "interference", desc := "(IIII)I" } : Jvm.MethodName)) ∈ lw_all := lw_g (lw_at lw_m8 126 rfl) rfl
theorem q1950 : (Jvm.Cond.methodLink "SpectrumAccessLaw" (255 : Nat) ({ cls := "SpectrumAccessLaw", name := "quietest", desc := "(LSpectrumAccess;II[J)I" } : Jvm.MethodName)) ∈ lw_all := lw_g (lw_at lw_m8 131 rfl) rfl
theorem q1951 : (Jvm.Cond.static ({ cls := "SpectrumAccessLaw", name := "quietest", desc := "(LSpectrumAccess;II[J)I" } : Jvm.MethodName)) ∈ lw_all := lw_g (lw_at lw_m8 132 rfl) rfl
theorem q1952 : (Jvm.Cond.codeWith ({ cls := "SpectrumAccessLaw", name := "quietest", desc := "(LSpectrumAccess;II[J)I" } : Jvm.MethodName) method_19_code (5 : Nat) (Option.some Jvm.ClassFile.FieldType.int) [((0 : Nat), (10 : Nat), (13 : Nat), (21 : Nat)), ((0 : Nat), (10 : Nat), (17 : Nat), (13 : Nat))]) ∈ lw_all := lw_g (lw_at lw_m8 133 rfl) rfl
theorem q1953 : (Jvm.Cond.methodLink "SpectrumAccessLaw" (67 : Nat) ({ cls := "SpectrumAccess", name := "quietest", desc := "(II)I" } : Jvm.MethodName)) ∈ lw_all := lw_g (lw_at lw_m8 134 rfl) rfl
theorem q1958 : (Jvm.Cond.methodLink "SpectrumAccessLaw" (259 : Nat) ({ cls := "SpectrumAccessLaw", name := "mostMoved", desc := "(LSpectrumAccess;I[J)I" } : Jvm.MethodName)) ∈ lw_all := lw_g (lw_at lw_m8 139 rfl) rfl
theorem q1959 : (Jvm.Cond.static ({ cls := "SpectrumAccessLaw", name := "mostMoved", desc := "(LSpectrumAccess;I[J)I" } : Jvm.MethodName)) ∈ lw_all := lw_g (lw_at lw_m8 140 rfl) rfl
theorem q1960 : (Jvm.Cond.codeWith ({ cls := "SpectrumAccessLaw", name := "mostMoved", desc := "(LSpectrumAccess;I[J)I" } : Jvm.MethodName) method_20_code (4 : Nat) (Option.some Jvm.ClassFile.FieldType.int) [((0 : Nat), (9 : Nat), (12 : Nat), (21 : Nat)), ((0 : Nat), (9 : Nat), (15 : Nat), (13 : Nat))]) ∈ lw_all := lw_g (lw_at lw_m8 141 rfl) rfl
theorem q1961 : (Jvm.Cond.methodLink "SpectrumAccessLaw" (71 : Nat) ({ cls := "SpectrumAccess", name := "mostMoved", desc := "(I)I" } : Jvm.MethodName)) ∈ lw_all := lw_g (lw_at lw_m8 142 rfl) rfl
theorem q1970 : (Jvm.Cond.methodLink "SpectrumAccessLaw" (262 : Nat) ({ cls := "SpectrumAccessLaw", name := "offeredChannel", desc := "(LSpectrumAccess;I[J)I" } : Jvm.MethodName)) ∈ lw_all := lw_g (lw_at lw_m8 151 rfl) rfl
theorem q1971 : (Jvm.Cond.static ({ cls := "SpectrumAccessLaw", name := "offeredChannel", desc := "(LSpectrumAccess;I[J)I" } : Jvm.MethodName)) ∈ lw_all := lw_g (lw_at lw_m8 152 rfl) rfl
theorem q1972 : (Jvm.Cond.codeWith ({ cls := "SpectrumAccessLaw", name := "offeredChannel", desc := "(LSpectrumAccess;I[J)I" } : Jvm.MethodName) method_21_code (4 : Nat) (Option.some Jvm.ClassFile.FieldType.int) [((0 : Nat), (9 : Nat), (12 : Nat), (21 : Nat)), ((0 : Nat), (9 : Nat), (15 : Nat), (13 : Nat))]) ∈ lw_all := lw_g (lw_at lw_m8 153 rfl) rfl
theorem q1973 : (Jvm.Cond.methodLink "SpectrumAccessLaw" (74 : Nat) ({ cls := "SpectrumAccess", name := "offeredChannel", desc := "(I)I" } : Jvm.MethodName)) ∈ lw_all := lw_g (lw_at lw_m8 154 rfl) rfl
theorem q2109 : (Jvm.Cond.methodLink "SpectrumAccessLaw" (265 : Nat) ({ cls := "SpectrumAccessLaw", name := "offeredPower", desc := "(LSpectrumAccess;I[J)I" } : Jvm.MethodName)) ∈ lw_all := lw_g (lw_at lw_m9 50 rfl) rfl
theorem q2110 : (Jvm.Cond.static ({ cls := "SpectrumAccessLaw", name := "offeredPower", desc := "(LSpectrumAccess;I[J)I" } : Jvm.MethodName)) ∈ lw_all := lw_g (lw_at lw_m9 51 rfl) rfl
theorem q2111 : (Jvm.Cond.codeWith ({ cls := "SpectrumAccessLaw", name := "offeredPower", desc := "(LSpectrumAccess;I[J)I" } : Jvm.MethodName) method_22_code (4 : Nat) (Option.some Jvm.ClassFile.FieldType.int) [((0 : Nat), (9 : Nat), (12 : Nat), (21 : Nat)), ((0 : Nat), (9 : Nat), (15 : Nat), (13 : Nat))]) ∈ lw_all := lw_g (lw_at lw_m9 52 rfl) rfl
theorem q2112 : (Jvm.Cond.methodLink "SpectrumAccessLaw" (77 : Nat) ({ cls := "SpectrumAccess", name := "offeredPower", desc := "(I)I" } : Jvm.MethodName)) ∈ lw_all := lw_g (lw_at lw_m9 53 rfl) rfl
theorem q2116 : (Jvm.Cond.methodLink "SpectrumAccessLaw" (268 : Nat) ({ cls := "SpectrumAccessLaw", name := "isDenied", desc := "(LSpectrumAccess;II[J)I" } : Jvm.MethodName)) ∈ lw_all := lw_g (lw_at lw_m9 57 rfl) rfl
theorem q2117 : (Jvm.Cond.static ({ cls := "SpectrumAccessLaw", name := "isDenied", desc := "(LSpectrumAccess;II[J)I" } : Jvm.MethodName)) ∈ lw_all := lw_g (lw_at lw_m9 58 rfl) rfl
theorem q2118 : (Jvm.Cond.codeWith ({ cls := "SpectrumAccessLaw", name := "isDenied", desc := "(LSpectrumAccess;II[J)I" } : Jvm.MethodName) method_23_code (5 : Nat) (Option.some Jvm.ClassFile.FieldType.int) [((0 : Nat), (17 : Nat), (20 : Nat), (21 : Nat)), ((0 : Nat), (17 : Nat), (24 : Nat), (13 : Nat))]) ∈ lw_all := lw_g (lw_at lw_m9 59 rfl) rfl
theorem q2119 : (Jvm.Cond.methodLink "SpectrumAccessLaw" (80 : Nat) ({ cls := "SpectrumAccess", name := "isDenied", desc := "(II)Z" } : Jvm.MethodName)) ∈ lw_all := lw_g (lw_at lw_m9 60 rfl) rfl
theorem q2127 : (Jvm.Cond.methodLink "SpectrumAccessLaw" (271 : Nat) ({ cls := "SpectrumAccessLaw", name := "allowedPower", desc := "(LSpectrumAccess;III[J)I" } : Jvm.MethodName)) ∈ lw_all := lw_g (lw_at lw_m9 68 rfl) rfl
theorem q2128 : (Jvm.Cond.static ({ cls := "SpectrumAccessLaw", name := "allowedPower", desc := "(LSpectrumAccess;III[J)I" } : Jvm.MethodName)) ∈ lw_all := lw_g (lw_at lw_m9 69 rfl) rfl
theorem q2129 : (Jvm.Cond.codeWith ({ cls := "SpectrumAccessLaw", name := "allowedPower", desc := "(LSpectrumAccess;III[J)I" } : Jvm.MethodName) method_24_code (6 : Nat) (Option.some Jvm.ClassFile.FieldType.int) [((0 : Nat), (12 : Nat), (15 : Nat), (21 : Nat)), ((0 : Nat), (12 : Nat), (19 : Nat), (13 : Nat))]) ∈ lw_all := lw_g (lw_at lw_m9 70 rfl) rfl
theorem q2130 : (Jvm.Cond.methodLink "SpectrumAccessLaw" (84 : Nat) ({ cls := "SpectrumAccess", name := "allowedPower", desc := "(III)I" } : Jvm.MethodName)) ∈ lw_all := lw_g (lw_at lw_m9 71 rfl) rfl
theorem q2138 : (Jvm.Cond.methodLink "SpectrumAccessLaw" (274 : Nat) ({ cls := "SpectrumAccessLaw", name := "bestSite", desc := "(LSpectrumAccess;I[J)I" } : Jvm.MethodName)) ∈ lw_all := lw_g (lw_at lw_m9 79 rfl) rfl
theorem q2139 : (Jvm.Cond.static ({ cls := "SpectrumAccessLaw", name := "bestSite", desc := "(LSpectrumAccess;I[J)I" } : Jvm.MethodName)) ∈ lw_all := lw_g (lw_at lw_m9 80 rfl) rfl
theorem q2140 : (Jvm.Cond.codeWith ({ cls := "SpectrumAccessLaw", name := "bestSite", desc := "(LSpectrumAccess;I[J)I" } : Jvm.MethodName) method_25_code (4 : Nat) (Option.some Jvm.ClassFile.FieldType.int) [((0 : Nat), (9 : Nat), (12 : Nat), (21 : Nat)), ((0 : Nat), (9 : Nat), (15 : Nat), (13 : Nat))]) ∈ lw_all := lw_g (lw_at lw_m9 81 rfl) rfl
theorem q2141 : (Jvm.Cond.methodLink "SpectrumAccessLaw" (87 : Nat) ({ cls := "SpectrumAccess", name := "bestSite", desc := "(I)I" } : Jvm.MethodName)) ∈ lw_all := lw_g (lw_at lw_m9 82 rfl) rfl
theorem q2145 : (Jvm.Cond.methodLink "SpectrumAccessLaw" (281 : Nat) ({ cls := "SpectrumAccessLaw", name := "queueAt", desc := "(LSpectrumAccess;I[J)I" } : Jvm.MethodName)) ∈ lw_all := lw_g (lw_at lw_m9 86 rfl) rfl
theorem q2146 : (Jvm.Cond.static ({ cls := "SpectrumAccessLaw", name := "queueAt", desc := "(LSpectrumAccess;I[J)I" } : Jvm.MethodName)) ∈ lw_all := lw_g (lw_at lw_m9 87 rfl) rfl
theorem q2147 : (Jvm.Cond.codeWith ({ cls := "SpectrumAccessLaw", name := "queueAt", desc := "(LSpectrumAccess;I[J)I" } : Jvm.MethodName) method_26_code (4 : Nat) (Option.some Jvm.ClassFile.FieldType.int) [((0 : Nat), (9 : Nat), (12 : Nat), (21 : Nat)), ((0 : Nat), (9 : Nat), (15 : Nat), (13 : Nat))]) ∈ lw_all := lw_g (lw_at lw_m9 88 rfl) rfl
theorem q2148 : (Jvm.Cond.methodLink "SpectrumAccessLaw" (90 : Nat) ({ cls := "SpectrumAccess", name := "queueAt", desc := "(I)I" } : Jvm.MethodName)) ∈ lw_all := lw_g (lw_at lw_m9 89 rfl) rfl
theorem q2397 : (Jvm.Cond.methodLink "SpectrumAccessLaw" (284 : Nat) ({ cls := "SpectrumAccessLaw", name := "transmitting", desc := "(LSpectrumAccess;I[J)I" } : Jvm.MethodName)) ∈ lw_all := lw_g (lw_at lw_m10 98 rfl) rfl
theorem q2398 : (Jvm.Cond.static ({ cls := "SpectrumAccessLaw", name := "transmitting", desc := "(LSpectrumAccess;I[J)I" } : Jvm.MethodName)) ∈ lw_all := lw_g (lw_at lw_m10 99 rfl) rfl
theorem q2399 : (Jvm.Cond.codeWith ({ cls := "SpectrumAccessLaw", name := "transmitting", desc := "(LSpectrumAccess;I[J)I" } : Jvm.MethodName) method_27_code (4 : Nat) (Option.some Jvm.ClassFile.FieldType.int) [((0 : Nat), (9 : Nat), (12 : Nat), (21 : Nat)), ((0 : Nat), (9 : Nat), (15 : Nat), (13 : Nat))]) ∈ lw_all := lw_g (lw_at lw_m10 100 rfl) rfl
theorem q2400 : (Jvm.Cond.methodLink "SpectrumAccessLaw" (93 : Nat) ({ cls := "SpectrumAccess", name := "transmitting", desc := "(I)I" } : Jvm.MethodName)) ∈ lw_all := lw_g (lw_at lw_m10 101 rfl) rfl
theorem q2404 : (Jvm.Cond.methodLink "SpectrumAccessLaw" (299 : Nat) ({ cls := "SpectrumAccessLaw", name := "event", desc := "(LSpectrumAccess;II[J)I" } : Jvm.MethodName)) ∈ lw_all := lw_g (lw_at lw_m10 105 rfl) rfl
theorem q2405 : (Jvm.Cond.static ({ cls := "SpectrumAccessLaw", name := "event", desc := "(LSpectrumAccess;II[J)I" } : Jvm.MethodName)) ∈ lw_all := lw_g (lw_at lw_m10 106 rfl) rfl
theorem q2406 : (Jvm.Cond.codeWith ({ cls := "SpectrumAccessLaw", name := "event", desc := "(LSpectrumAccess;II[J)I" } : Jvm.MethodName) method_28_code (5 : Nat) (Option.some Jvm.ClassFile.FieldType.int) [((0 : Nat), (10 : Nat), (13 : Nat), (21 : Nat)), ((0 : Nat), (10 : Nat), (17 : Nat), (13 : Nat)), ((0 : Nat), (10 : Nat), (21 : Nat), (15 : Nat))]) ∈ lw_all := lw_g (lw_at lw_m10 107 rfl) rfl
theorem q2407 : (Jvm.Cond.methodLink "SpectrumAccessLaw" (96 : Nat) ({ cls := "SpectrumAccess", name := "event", desc := "(II)I" } : Jvm.MethodName)) ∈ lw_all := lw_g (lw_at lw_m10 108 rfl) rfl
theorem q2415 : (Jvm.Cond.methodLink "SpectrumAccessLaw" (302 : Nat) ({ cls := "SpectrumAccessLaw", name := "report", desc := "(LSpectrumAccess;[J)I" } : Jvm.MethodName)) ∈ lw_all := lw_g (lw_at lw_m10 116 rfl) rfl
theorem q2416 : (Jvm.Cond.static ({ cls := "SpectrumAccessLaw", name := "report", desc := "(LSpectrumAccess;[J)I" } : Jvm.MethodName)) ∈ lw_all := lw_g (lw_at lw_m10 117 rfl) rfl
theorem q2417 : (Jvm.Cond.codeWith ({ cls := "SpectrumAccessLaw", name := "report", desc := "(LSpectrumAccess;[J)I" } : Jvm.MethodName) method_29_code (3 : Nat) (Option.some Jvm.ClassFile.FieldType.int) [((0 : Nat), (8 : Nat), (11 : Nat), (21 : Nat))]) ∈ lw_all := lw_g (lw_at lw_m10 118 rfl) rfl
theorem q2418 : (Jvm.Cond.methodLink "SpectrumAccessLaw" (99 : Nat) ({ cls := "SpectrumAccess", name := "report", desc := "()I" } : Jvm.MethodName)) ∈ lw_all := lw_g (lw_at lw_m10 119 rfl) rfl
theorem q2477 : (Jvm.Cond.methodLink "SpectrumAccessLaw" (306 : Nat) ({ cls := "SpectrumAccessLaw", name := "reportByte", desc := "(LSpectrumAccess;I[J)I" } : Jvm.MethodName)) ∈ lw_all := lw_g (lw_at lw_m10 178 rfl) rfl
theorem q2478 : (Jvm.Cond.static ({ cls := "SpectrumAccessLaw", name := "reportByte", desc := "(LSpectrumAccess;I[J)I" } : Jvm.MethodName)) ∈ lw_all := lw_g (lw_at lw_m10 179 rfl) rfl
theorem q2479 : (Jvm.Cond.codeWith ({ cls := "SpectrumAccessLaw", name := "reportByte", desc := "(LSpectrumAccess;I[J)I" } : Jvm.MethodName) method_30_code (4 : Nat) (Option.some Jvm.ClassFile.FieldType.int) [((0 : Nat), (9 : Nat), (12 : Nat), (13 : Nat))]) ∈ lw_all := lw_g (lw_at lw_m10 180 rfl) rfl
theorem q2480 : (Jvm.Cond.methodLink "SpectrumAccessLaw" (103 : Nat) ({ cls := "SpectrumAccess", name := "reportByte", desc := "(I)I" } : Jvm.MethodName)) ∈ lw_all := lw_g (lw_at lw_m10 181 rfl) rfl
theorem q2485 : (Jvm.Cond.methodLink "SpectrumAccessLaw" (309 : Nat) ({ cls := "SpectrumAccessLaw", name := "movesIn", desc := "(LSpectrumAccess;I[J)I" } : Jvm.MethodName)) ∈ lw_all := lw_g (lw_at lw_m10 186 rfl) rfl
theorem q2486 : (Jvm.Cond.static ({ cls := "SpectrumAccessLaw", name := "movesIn", desc := "(LSpectrumAccess;I[J)I" } : Jvm.MethodName)) ∈ lw_all := lw_g (lw_at lw_m10 187 rfl) rfl
theorem q2487 : (Jvm.Cond.codeWith ({ cls := "SpectrumAccessLaw", name := "movesIn", desc := "(LSpectrumAccess;I[J)I" } : Jvm.MethodName) method_31_code (4 : Nat) (Option.some Jvm.ClassFile.FieldType.int) [((0 : Nat), (9 : Nat), (12 : Nat), (21 : Nat)), ((0 : Nat), (9 : Nat), (15 : Nat), (15 : Nat))]) ∈ lw_all := lw_g (lw_at lw_m10 188 rfl) rfl
theorem q2488 : (Jvm.Cond.methodLink "SpectrumAccessLaw" (106 : Nat) ({ cls := "SpectrumAccess", name := "movesIn", desc := "(I)I" } : Jvm.MethodName)) ∈ lw_all := lw_g (lw_at lw_m10 189 rfl) rfl
theorem q2551 : (Jvm.Cond.methodLink "SpectrumAccessLaw" (312 : Nat) ({ cls := "SpectrumAccessLaw", name := "airtimeIn", desc := "(LSpectrumAccess;I[J)I" } : Jvm.MethodName)) ∈ lw_all := lw_g (lw_at lw_m11 12 rfl) rfl
theorem q2552 : (Jvm.Cond.static ({ cls := "SpectrumAccessLaw", name := "airtimeIn", desc := "(LSpectrumAccess;I[J)I" } : Jvm.MethodName)) ∈ lw_all := lw_g (lw_at lw_m11 13 rfl) rfl
theorem q2553 : (Jvm.Cond.codeWith ({ cls := "SpectrumAccessLaw", name := "airtimeIn", desc := "(LSpectrumAccess;I[J)I" } : Jvm.MethodName) method_32_code (4 : Nat) (Option.some Jvm.ClassFile.FieldType.int) [((0 : Nat), (9 : Nat), (12 : Nat), (21 : Nat)), ((0 : Nat), (9 : Nat), (15 : Nat), (15 : Nat))]) ∈ lw_all := lw_g (lw_at lw_m11 14 rfl) rfl
theorem q2554 : (Jvm.Cond.methodLink "SpectrumAccessLaw" (109 : Nat) ({ cls := "SpectrumAccess", name := "airtimeIn", desc := "(I)I" } : Jvm.MethodName)) ∈ lw_all := lw_g (lw_at lw_m11 15 rfl) rfl
theorem q2565 : (Jvm.Cond.methodLink "SpectrumAccessLaw" (315 : Nat) ({ cls := "SpectrumAccessLaw", name := "firstMove", desc := "(LSpectrumAccess;I[J)I" } : Jvm.MethodName)) ∈ lw_all := lw_g (lw_at lw_m11 26 rfl) rfl
theorem q2566 : (Jvm.Cond.static ({ cls := "SpectrumAccessLaw", name := "firstMove", desc := "(LSpectrumAccess;I[J)I" } : Jvm.MethodName)) ∈ lw_all := lw_g (lw_at lw_m11 27 rfl) rfl
theorem q2567 : (Jvm.Cond.codeWith ({ cls := "SpectrumAccessLaw", name := "firstMove", desc := "(LSpectrumAccess;I[J)I" } : Jvm.MethodName) method_33_code (4 : Nat) (Option.some Jvm.ClassFile.FieldType.int) [((0 : Nat), (9 : Nat), (12 : Nat), (21 : Nat)), ((0 : Nat), (9 : Nat), (15 : Nat), (15 : Nat))]) ∈ lw_all := lw_g (lw_at lw_m11 28 rfl) rfl
theorem q2568 : (Jvm.Cond.methodLink "SpectrumAccessLaw" (112 : Nat) ({ cls := "SpectrumAccess", name := "firstMove", desc := "(I)I" } : Jvm.MethodName)) ∈ lw_all := lw_g (lw_at lw_m11 29 rfl) rfl
theorem q2572 : (Jvm.Cond.methodLink "SpectrumAccessLaw" (318 : Nat) ({ cls := "SpectrumAccessLaw", name := "waitingAfter", desc := "(LSpectrumAccess;I[J)I" } : Jvm.MethodName)) ∈ lw_all := lw_g (lw_at lw_m11 33 rfl) rfl
theorem q2573 : (Jvm.Cond.static ({ cls := "SpectrumAccessLaw", name := "waitingAfter", desc := "(LSpectrumAccess;I[J)I" } : Jvm.MethodName)) ∈ lw_all := lw_g (lw_at lw_m11 34 rfl) rfl
theorem q2574 : (Jvm.Cond.codeWith ({ cls := "SpectrumAccessLaw", name := "waitingAfter", desc := "(LSpectrumAccess;I[J)I" } : Jvm.MethodName) method_34_code (4 : Nat) (Option.some Jvm.ClassFile.FieldType.int) [((0 : Nat), (9 : Nat), (12 : Nat), (21 : Nat)), ((0 : Nat), (9 : Nat), (15 : Nat), (15 : Nat))]) ∈ lw_all := lw_g (lw_at lw_m11 35 rfl) rfl
theorem q2575 : (Jvm.Cond.methodLink "SpectrumAccessLaw" (115 : Nat) ({ cls := "SpectrumAccess", name := "waitingAfter", desc := "(I)I" } : Jvm.MethodName)) ∈ lw_all := lw_g (lw_at lw_m11 36 rfl) rfl
theorem q2581 : (Jvm.Cond.methodLink "SpectrumAccessLaw" (321 : Nat) ({ cls := "SpectrumAccessLaw", name := "troublemaker", desc := "(LSpectrumAccess;I[J)I" } : Jvm.MethodName)) ∈ lw_all := lw_g (lw_at lw_m11 42 rfl) rfl
theorem q2582 : (Jvm.Cond.static ({ cls := "SpectrumAccessLaw", name := "troublemaker", desc := "(LSpectrumAccess;I[J)I" } : Jvm.MethodName)) ∈ lw_all := lw_g (lw_at lw_m11 43 rfl) rfl
theorem q2583 : (Jvm.Cond.codeWith ({ cls := "SpectrumAccessLaw", name := "troublemaker", desc := "(LSpectrumAccess;I[J)I" } : Jvm.MethodName) method_35_code (4 : Nat) (Option.some Jvm.ClassFile.FieldType.int) [((0 : Nat), (9 : Nat), (12 : Nat), (21 : Nat)), ((0 : Nat), (9 : Nat), (15 : Nat), (15 : Nat)), ((0 : Nat), (9 : Nat), (18 : Nat), (121 : Nat))]) ∈ lw_all := lw_g (lw_at lw_m11 44 rfl) rfl
theorem q2584 : (Jvm.Cond.classLink "SpectrumAccessLaw" (121 : Nat) "java/util/NoSuchElementException") ∈ lw_all := lw_g (lw_at lw_m11 45 rfl) rfl
theorem q2585 : (Jvm.Cond.methodLink "SpectrumAccessLaw" (118 : Nat) ({ cls := "SpectrumAccess", name := "troublemaker", desc := "(I)I" } : Jvm.MethodName)) ∈ lw_all := lw_g (lw_at lw_m11 46 rfl) rfl
theorem q2604 : (Jvm.Cond.methodLink "SpectrumAccessLaw" (324 : Nat) ({ cls := "SpectrumAccessLaw", name := "tightest", desc := "(LSpectrumAccess;[J)I" } : Jvm.MethodName)) ∈ lw_all := lw_g (lw_at lw_m11 65 rfl) rfl
theorem q2605 : (Jvm.Cond.static ({ cls := "SpectrumAccessLaw", name := "tightest", desc := "(LSpectrumAccess;[J)I" } : Jvm.MethodName)) ∈ lw_all := lw_g (lw_at lw_m11 66 rfl) rfl
theorem q2606 : (Jvm.Cond.codeWith ({ cls := "SpectrumAccessLaw", name := "tightest", desc := "(LSpectrumAccess;[J)I" } : Jvm.MethodName) method_36_code (3 : Nat) (Option.some Jvm.ClassFile.FieldType.int) [((0 : Nat), (8 : Nat), (11 : Nat), (21 : Nat)), ((0 : Nat), (8 : Nat), (14 : Nat), (121 : Nat))]) ∈ lw_all := lw_g (lw_at lw_m11 67 rfl) rfl
theorem q2607 : (Jvm.Cond.methodLink "SpectrumAccessLaw" (123 : Nat) ({ cls := "SpectrumAccess", name := "tightest", desc := "()I" } : Jvm.MethodName)) ∈ lw_all := lw_g (lw_at lw_m11 68 rfl) rfl
theorem q2612 : (Jvm.Cond.methodLink "SpectrumAccessLaw" (327 : Nat) ({ cls := "SpectrumAccessLaw", name := "advance", desc := "(LSpectrumAccess;I[J)I" } : Jvm.MethodName)) ∈ lw_all := lw_g (lw_at lw_m11 73 rfl) rfl
theorem q2613 : (Jvm.Cond.static ({ cls := "SpectrumAccessLaw", name := "advance", desc := "(LSpectrumAccess;I[J)I" } : Jvm.MethodName)) ∈ lw_all := lw_g (lw_at lw_m11 74 rfl) rfl
theorem q2614 : (Jvm.Cond.codeWith ({ cls := "SpectrumAccessLaw", name := "advance", desc := "(LSpectrumAccess;I[J)I" } : Jvm.MethodName) method_37_code (4 : Nat) (Option.some Jvm.ClassFile.FieldType.int) [((0 : Nat), (9 : Nat), (12 : Nat), (21 : Nat)), ((0 : Nat), (9 : Nat), (15 : Nat), (15 : Nat))]) ∈ lw_all := lw_g (lw_at lw_m11 75 rfl) rfl
theorem q2615 : (Jvm.Cond.methodLink "SpectrumAccessLaw" (126 : Nat) ({ cls := "SpectrumAccess", name := "advance", desc := "(I)I" } : Jvm.MethodName)) ∈ lw_all := lw_g (lw_at lw_m11 76 rfl) rfl
theorem q2638 : (Jvm.Cond.methodLink "SpectrumAccessLaw" (330 : Nat) ({ cls := "SpectrumAccessLaw", name := "start", desc := "(LSpectrumAccess;I[J)I" } : Jvm.MethodName)) ∈ lw_all := lw_g (lw_at lw_m11 99 rfl) rfl
theorem q2639 : (Jvm.Cond.static ({ cls := "SpectrumAccessLaw", name := "start", desc := "(LSpectrumAccess;I[J)I" } : Jvm.MethodName)) ∈ lw_all := lw_g (lw_at lw_m11 100 rfl) rfl
theorem q2640 : (Jvm.Cond.codeWith ({ cls := "SpectrumAccessLaw", name := "start", desc := "(LSpectrumAccess;I[J)I" } : Jvm.MethodName) method_38_code (4 : Nat) (Option.some Jvm.ClassFile.FieldType.int) [((0 : Nat), (9 : Nat), (12 : Nat), (21 : Nat)), ((0 : Nat), (9 : Nat), (15 : Nat), (13 : Nat)), ((0 : Nat), (9 : Nat), (18 : Nat), (15 : Nat))]) ∈ lw_all := lw_g (lw_at lw_m11 101 rfl) rfl
theorem q2641 : (Jvm.Cond.methodLink "SpectrumAccessLaw" (129 : Nat) ({ cls := "SpectrumAccess", name := "start", desc := "(I)I" } : Jvm.MethodName)) ∈ lw_all := lw_g (lw_at lw_m11 102 rfl) rfl
theorem q2645 : (Jvm.Cond.methodLink "SpectrumAccessLaw" (333 : Nat) ({ cls := "SpectrumAccessLaw", name := "stop", desc := "(LSpectrumAccess;I[J)I" } : Jvm.MethodName)) ∈ lw_all := lw_g (lw_at lw_m11 106 rfl) rfl
theorem q2646 : (Jvm.Cond.static ({ cls := "SpectrumAccessLaw", name := "stop", desc := "(LSpectrumAccess;I[J)I" } : Jvm.MethodName)) ∈ lw_all := lw_g (lw_at lw_m11 107 rfl) rfl
theorem q2647 : (Jvm.Cond.codeWith ({ cls := "SpectrumAccessLaw", name := "stop", desc := "(LSpectrumAccess;I[J)I" } : Jvm.MethodName) method_39_code (4 : Nat) (Option.some Jvm.ClassFile.FieldType.int) [((0 : Nat), (9 : Nat), (12 : Nat), (21 : Nat)), ((0 : Nat), (9 : Nat), (15 : Nat), (13 : Nat)), ((0 : Nat), (9 : Nat), (18 : Nat), (15 : Nat))]) ∈ lw_all := lw_g (lw_at lw_m11 108 rfl) rfl
theorem q2648 : (Jvm.Cond.methodLink "SpectrumAccessLaw" (132 : Nat) ({ cls := "SpectrumAccess", name := "stop", desc := "(I)I" } : Jvm.MethodName)) ∈ lw_all := lw_g (lw_at lw_m11 109 rfl) rfl
theorem q2652 : (Jvm.Cond.methodLink "SpectrumAccessLaw" (336 : Nat) ({ cls := "SpectrumAccessLaw", name := "setPower", desc := "(LSpectrumAccess;II[J)I" } : Jvm.MethodName)) ∈ lw_all := lw_g (lw_at lw_m11 113 rfl) rfl
theorem q2653 : (Jvm.Cond.static ({ cls := "SpectrumAccessLaw", name := "setPower", desc := "(LSpectrumAccess;II[J)I" } : Jvm.MethodName)) ∈ lw_all := lw_g (lw_at lw_m11 114 rfl) rfl
theorem q2654 : (Jvm.Cond.codeWith ({ cls := "SpectrumAccessLaw", name := "setPower", desc := "(LSpectrumAccess;II[J)I" } : Jvm.MethodName) method_40_code (5 : Nat) (Option.some Jvm.ClassFile.FieldType.int) [((0 : Nat), (10 : Nat), (13 : Nat), (21 : Nat)), ((0 : Nat), (10 : Nat), (17 : Nat), (13 : Nat)), ((0 : Nat), (10 : Nat), (21 : Nat), (15 : Nat))]) ∈ lw_all := lw_g (lw_at lw_m11 115 rfl) rfl
theorem q2655 : (Jvm.Cond.methodLink "SpectrumAccessLaw" (135 : Nat) ({ cls := "SpectrumAccess", name := "setPower", desc := "(II)I" } : Jvm.MethodName)) ∈ lw_all := lw_g (lw_at lw_m11 116 rfl) rfl
theorem q2661 : (Jvm.Cond.methodLink "SpectrumAccessLaw" (339 : Nat) ({ cls := "SpectrumAccessLaw", name := "addIncumbent", desc := "(LSpectrumAccess;IIIIII[J)I" } : Jvm.MethodName)) ∈ lw_all := lw_g (lw_at lw_m11 122 rfl) rfl
theorem q2662 : (Jvm.Cond.static ({ cls := "SpectrumAccessLaw", name := "addIncumbent", desc := "(LSpectrumAccess;IIIIII[J)I" } : Jvm.MethodName)) ∈ lw_all := lw_g (lw_at lw_m11 123 rfl) rfl
theorem q2663 : (Jvm.Cond.codeWith ({ cls := "SpectrumAccessLaw", name := "addIncumbent", desc := "(LSpectrumAccess;IIIIII[J)I" } : Jvm.MethodName) method_41_code (9 : Nat) (Option.some Jvm.ClassFile.FieldType.int) [((0 : Nat), (18 : Nat), (21 : Nat), (21 : Nat)), ((0 : Nat), (18 : Nat), (25 : Nat), (13 : Nat)), ((0 : Nat), (18 : Nat), (29 : Nat), (15 : Nat))]) ∈ lw_all := lw_g (lw_at lw_m11 124 rfl) rfl
theorem q2664 : (Jvm.Cond.methodLink "SpectrumAccessLaw" (138 : Nat) ({ cls := "SpectrumAccess", name := "addIncumbent", desc := "(IIIIII)I" } : Jvm.MethodName)) ∈ lw_all := lw_g (lw_at lw_m11 125 rfl) rfl
theorem q2671 : (Jvm.Cond.methodLink "SpectrumAccessLaw" (343 : Nat) ({ cls := "SpectrumAccessLaw", name := "endIncumbent", desc := "(LSpectrumAccess;I[J)I" } : Jvm.MethodName)) ∈ lw_all := lw_g (lw_at lw_m11 132 rfl) rfl
theorem q2672 : (Jvm.Cond.static ({ cls := "SpectrumAccessLaw", name := "endIncumbent", desc := "(LSpectrumAccess;I[J)I" } : Jvm.MethodName)) ∈ lw_all := lw_g (lw_at lw_m11 133 rfl) rfl
theorem q2673 : (Jvm.Cond.codeWith ({ cls := "SpectrumAccessLaw", name := "endIncumbent", desc := "(LSpectrumAccess;I[J)I" } : Jvm.MethodName) method_42_code (4 : Nat) (Option.some Jvm.ClassFile.FieldType.int) [((0 : Nat), (9 : Nat), (12 : Nat), (21 : Nat)), ((0 : Nat), (9 : Nat), (15 : Nat), (13 : Nat)), ((0 : Nat), (9 : Nat), (18 : Nat), (15 : Nat))]) ∈ lw_all := lw_g (lw_at lw_m11 134 rfl) rfl
theorem q2674 : (Jvm.Cond.methodLink "SpectrumAccessLaw" (142 : Nat) ({ cls := "SpectrumAccess", name := "endIncumbent", desc := "(I)I" } : Jvm.MethodName)) ∈ lw_all := lw_g (lw_at lw_m11 135 rfl) rfl
theorem q2678 : (Jvm.Cond.methodLink "SpectrumAccessLaw" (346 : Nat) ({ cls := "SpectrumAccessLaw", name := "undo", desc := "(LSpectrumAccess;[J)I" } : Jvm.MethodName)) ∈ lw_all := lw_g (lw_at lw_m11 139 rfl) rfl
theorem q2679 : (Jvm.Cond.static ({ cls := "SpectrumAccessLaw", name := "undo", desc := "(LSpectrumAccess;[J)I" } : Jvm.MethodName)) ∈ lw_all := lw_g (lw_at lw_m11 140 rfl) rfl
theorem q2680 : (Jvm.Cond.codeWith ({ cls := "SpectrumAccessLaw", name := "undo", desc := "(LSpectrumAccess;[J)I" } : Jvm.MethodName) method_43_code (3 : Nat) (Option.some Jvm.ClassFile.FieldType.int) [((0 : Nat), (8 : Nat), (11 : Nat), (21 : Nat))]) ∈ lw_all := lw_g (lw_at lw_m11 141 rfl) rfl
theorem q2681 : (Jvm.Cond.methodLink "SpectrumAccessLaw" (145 : Nat) ({ cls := "SpectrumAccess", name := "undo", desc := "()I" } : Jvm.MethodName)) ∈ lw_all := lw_g (lw_at lw_m11 142 rfl) rfl
theorem q2687 : (Jvm.Cond.methodLink "SpectrumAccessLaw" (353 : Nat) ({ cls := "SpectrumAccessLaw", name := "save", desc := "(LSpectrumAccess;I[J)I" } : Jvm.MethodName)) ∈ lw_all := lw_g (lw_at lw_m11 148 rfl) rfl
theorem q2688 : (Jvm.Cond.static ({ cls := "SpectrumAccessLaw", name := "save", desc := "(LSpectrumAccess;I[J)I" } : Jvm.MethodName)) ∈ lw_all := lw_g (lw_at lw_m11 149 rfl) rfl
theorem q2689 : (Jvm.Cond.codeWith ({ cls := "SpectrumAccessLaw", name := "save", desc := "(LSpectrumAccess;I[J)I" } : Jvm.MethodName) method_44_code (4 : Nat) (Option.some Jvm.ClassFile.FieldType.int) [((0 : Nat), (9 : Nat), (12 : Nat), (21 : Nat)), ((0 : Nat), (9 : Nat), (15 : Nat), (13 : Nat))]) ∈ lw_all := lw_g (lw_at lw_m11 150 rfl) rfl
theorem q2690 : (Jvm.Cond.methodLink "SpectrumAccessLaw" (148 : Nat) ({ cls := "SpectrumAccess", name := "save", desc := "(I)I" } : Jvm.MethodName)) ∈ lw_all := lw_g (lw_at lw_m11 151 rfl) rfl
theorem q2694 : (Jvm.Cond.methodLink "SpectrumAccessLaw" (356 : Nat) ({ cls := "SpectrumAccessLaw", name := "restore", desc := "(LSpectrumAccess;I[J)I" } : Jvm.MethodName)) ∈ lw_all := lw_g (lw_at lw_m11 155 rfl) rfl
theorem q2695 : (Jvm.Cond.static ({ cls := "SpectrumAccessLaw", name := "restore", desc := "(LSpectrumAccess;I[J)I" } : Jvm.MethodName)) ∈ lw_all := lw_g (lw_at lw_m11 156 rfl) rfl
theorem q2696 : (Jvm.Cond.codeWith ({ cls := "SpectrumAccessLaw", name := "restore", desc := "(LSpectrumAccess;I[J)I" } : Jvm.MethodName) method_45_code (4 : Nat) (Option.some Jvm.ClassFile.FieldType.int) [((0 : Nat), (9 : Nat), (12 : Nat), (13 : Nat)), ((0 : Nat), (9 : Nat), (15 : Nat), (21 : Nat))]) ∈ lw_all := lw_g (lw_at lw_m11 157 rfl) rfl
theorem q2697 : (Jvm.Cond.methodLink "SpectrumAccessLaw" (151 : Nat) ({ cls := "SpectrumAccess", name := "restore", desc := "(I)I" } : Jvm.MethodName)) ∈ lw_all := lw_g (lw_at lw_m11 158 rfl) rfl
theorem q2701 : (Jvm.Cond.classLink "SpectrumAccessLaw" (155 : Nat) "SpectrumAccessModel") ∈ lw_all := lw_g (lw_at lw_m11 162 rfl) rfl
theorem q2703 : (Jvm.Cond.methodLink "SpectrumAccessLaw" (157 : Nat) ({ cls := "SpectrumAccessModel", name := "<init>", desc := "()V" } : Jvm.MethodName)) ∈ lw_all := lw_g (lw_at lw_m11 164 rfl) rfl
theorem q2850 : (Jvm.Cond.methodLink "SpectrumAccessLaw" (169 : Nat) ({ cls := "SpectrumAccessModel", name := "thrown", desc := "()I" } : Jvm.MethodName)) ∈ lw_all := lw_g (lw_at lw_m12 71 rfl) rfl
theorem q2854 : (Jvm.Cond.methodLink "SpectrumAccessLaw" (162 : Nat) ({ cls := "SpectrumAccessModel", name := "append", desc := "(IIIII)I" } : Jvm.MethodName)) ∈ lw_all := lw_g (lw_at lw_m12 75 rfl) rfl
theorem q2862 : (Jvm.Cond.methodLink "SpectrumAccessLaw" (183 : Nat) ({ cls := "SpectrumAccessModel", name := "buffered", desc := "()I" } : Jvm.MethodName)) ∈ lw_all := lw_g (lw_at lw_m12 83 rfl) rfl
theorem q2866 : (Jvm.Cond.methodLink "SpectrumAccessLaw" (175 : Nat) ({ cls := "SpectrumAccessModel", name := "parseError", desc := "()I" } : Jvm.MethodName)) ∈ lw_all := lw_g (lw_at lw_m12 87 rfl) rfl
theorem q2870 : (Jvm.Cond.methodLink "SpectrumAccessLaw" (179 : Nat) ({ cls := "SpectrumAccessModel", name := "errorPosition", desc := "()I" } : Jvm.MethodName)) ∈ lw_all := lw_g (lw_at lw_m12 91 rfl) rfl
theorem q2874 : (Jvm.Cond.methodLink "SpectrumAccessLaw" (168 : Nat) ({ cls := "SpectrumAccessModel", name := "load", desc := "(I)I" } : Jvm.MethodName)) ∈ lw_all := lw_g (lw_at lw_m12 95 rfl) rfl
theorem q3026 : (Jvm.Cond.methodLink "SpectrumAccessLaw" (187 : Nat) ({ cls := "SpectrumAccessModel", name := "channels", desc := "()I" } : Jvm.MethodName)) ∈ lw_all := lw_g (lw_at lw_m13 7 rfl) rfl
theorem q3034 : (Jvm.Cond.methodLink "SpectrumAccessLaw" (191 : Nat) ({ cls := "SpectrumAccessModel", name := "incumbents", desc := "()I" } : Jvm.MethodName)) ∈ lw_all := lw_g (lw_at lw_m13 15 rfl) rfl
theorem q3038 : (Jvm.Cond.methodLink "SpectrumAccessLaw" (195 : Nat) ({ cls := "SpectrumAccessModel", name := "licences", desc := "()I" } : Jvm.MethodName)) ∈ lw_all := lw_g (lw_at lw_m13 19 rfl) rfl
theorem q3042 : (Jvm.Cond.methodLink "SpectrumAccessLaw" (199 : Nat) ({ cls := "SpectrumAccessModel", name := "devices", desc := "()I" } : Jvm.MethodName)) ∈ lw_all := lw_g (lw_at lw_m13 23 rfl) rfl
theorem q3046 : (Jvm.Cond.methodLink "SpectrumAccessLaw" (207 : Nat) ({ cls := "SpectrumAccessModel", name := "time", desc := "()I" } : Jvm.MethodName)) ∈ lw_all := lw_g (lw_at lw_m13 27 rfl) rfl
theorem q3050 : (Jvm.Cond.methodLink "SpectrumAccessLaw" (210 : Nat) ({ cls := "SpectrumAccessModel", name := "isSensed", desc := "(I)Z" } : Jvm.MethodName)) ∈ lw_all := lw_g (lw_at lw_m13 31 rfl) rfl
theorem q3069 : (Jvm.Cond.methodLink "SpectrumAccessLaw" (213 : Nat) ({ cls := "SpectrumAccessModel", name := "isProtected", desc := "(I)Z" } : Jvm.MethodName)) ∈ lw_all := lw_g (lw_at lw_m13 50 rfl) rfl
theorem q3077 : (Jvm.Cond.methodLink "SpectrumAccessLaw" (216 : Nat) ({ cls := "SpectrumAccessModel", name := "headroom", desc := "(I)I" } : Jvm.MethodName)) ∈ lw_all := lw_g (lw_at lw_m13 58 rfl) rfl
theorem q3107 : (Jvm.Cond.methodLink "SpectrumAccessLaw" (219 : Nat) ({ cls := "SpectrumAccessModel", name := "licenceChannels", desc := "(I)I" } : Jvm.MethodName)) ∈ lw_all := lw_g (lw_at lw_m13 88 rfl) rfl
theorem q3115 : (Jvm.Cond.methodLink "SpectrumAccessLaw" (223 : Nat) ({ cls := "SpectrumAccessModel", name := "licenceAt", desc := "(III)I" } : Jvm.MethodName)) ∈ lw_all := lw_g (lw_at lw_m13 96 rfl) rfl
theorem q3127 : (Jvm.Cond.methodLink "SpectrumAccessLaw" (226 : Nat) ({ cls := "SpectrumAccessModel", name := "stateOf", desc := "(I)I" } : Jvm.MethodName)) ∈ lw_all := lw_g (lw_at lw_m13 108 rfl) rfl
theorem q3139 : (Jvm.Cond.methodLink "SpectrumAccessLaw" (229 : Nat) ({ cls := "SpectrumAccessModel", name := "licenceOf", desc := "(I)I" } : Jvm.MethodName)) ∈ lw_all := lw_g (lw_at lw_m13 120 rfl) rfl
theorem q3143 : (Jvm.Cond.methodLink "SpectrumAccessLaw" (232 : Nat) ({ cls := "SpectrumAccessModel", name := "channelOf", desc := "(I)I" } : Jvm.MethodName)) ∈ lw_all := lw_g (lw_at lw_m13 124 rfl) rfl
theorem q3147 : (Jvm.Cond.methodLink "SpectrumAccessLaw" (235 : Nat) ({ cls := "SpectrumAccessModel", name := "powerOf", desc := "(I)I" } : Jvm.MethodName)) ∈ lw_all := lw_g (lw_at lw_m13 128 rfl) rfl
theorem q3151 : (Jvm.Cond.methodLink "SpectrumAccessLaw" (238 : Nat) ({ cls := "SpectrumAccessModel", name := "sinceOf", desc := "(I)I" } : Jvm.MethodName)) ∈ lw_all := lw_g (lw_at lw_m13 132 rfl) rfl
theorem q3155 : (Jvm.Cond.methodLink "SpectrumAccessLaw" (241 : Nat) ({ cls := "SpectrumAccessModel", name := "movesOf", desc := "(I)I" } : Jvm.MethodName)) ∈ lw_all := lw_g (lw_at lw_m13 136 rfl) rfl
theorem q3159 : (Jvm.Cond.methodLink "SpectrumAccessLaw" (244 : Nat) ({ cls := "SpectrumAccessModel", name := "airtimeOf", desc := "(I)I" } : Jvm.MethodName)) ∈ lw_all := lw_g (lw_at lw_m13 140 rfl) rfl
theorem q3163 : (Jvm.Cond.methodLink "SpectrumAccessLaw" (247 : Nat) ({ cls := "SpectrumAccessModel", name := "leaseEndOf", desc := "(I)I" } : Jvm.MethodName)) ∈ lw_all := lw_g (lw_at lw_m13 144 rfl) rfl
theorem q3167 : (Jvm.Cond.methodLink "SpectrumAccessLaw" (250 : Nat) ({ cls := "SpectrumAccessModel", name := "strengthOf", desc := "(III)I" } : Jvm.MethodName)) ∈ lw_all := lw_g (lw_at lw_m13 148 rfl) rfl
theorem q3171 : (Jvm.Cond.methodLink "SpectrumAccessLaw" (254 : Nat) ({ cls := "SpectrumAccessModel", name := "interference", desc := "(IIII)I" } : Jvm.MethodName)) ∈ lw_all := lw_g (lw_at lw_m13 152 rfl) rfl
theorem q3175 : (Jvm.Cond.methodLink "SpectrumAccessLaw" (203 : Nat) ({ cls := "SpectrumAccessModel", name := "denials", desc := "()I" } : Jvm.MethodName)) ∈ lw_all := lw_g (lw_at lw_m13 156 rfl) rfl
theorem q3179 : (Jvm.Cond.methodLink "SpectrumAccessLaw" (270 : Nat) ({ cls := "SpectrumAccessModel", name := "isDenied", desc := "(II)Z" } : Jvm.MethodName)) ∈ lw_all := lw_g (lw_at lw_m13 160 rfl) rfl
theorem q3203 : (Jvm.Cond.methodLink "SpectrumAccessLaw" (258 : Nat) ({ cls := "SpectrumAccessModel", name := "quietest", desc := "(II)I" } : Jvm.MethodName)) ∈ lw_all := lw_g (lw_at lw_m13 184 rfl) rfl
theorem q3207 : (Jvm.Cond.methodLink "SpectrumAccessLaw" (261 : Nat) ({ cls := "SpectrumAccessModel", name := "mostMoved", desc := "(I)I" } : Jvm.MethodName)) ∈ lw_all := lw_g (lw_at lw_m13 188 rfl) rfl
theorem q3215 : (Jvm.Cond.methodLink "SpectrumAccessLaw" (305 : Nat) ({ cls := "SpectrumAccessModel", name := "report", desc := "()I" } : Jvm.MethodName)) ∈ lw_all := lw_g (lw_at lw_m13 196 rfl) rfl
theorem q3227 : (Jvm.Cond.methodLink "SpectrumAccessLaw" (308 : Nat) ({ cls := "SpectrumAccessModel", name := "reportByte", desc := "(I)I" } : Jvm.MethodName)) ∈ lw_all := lw_g (lw_at lw_m13 208 rfl) rfl
theorem q3231 : (Jvm.Cond.methodLink "SpectrumAccessLaw" (264 : Nat) ({ cls := "SpectrumAccessModel", name := "offeredChannel", desc := "(I)I" } : Jvm.MethodName)) ∈ lw_all := lw_g (lw_at lw_m13 212 rfl) rfl
theorem q3286 : (Jvm.Cond.methodLink "SpectrumAccessLaw" (267 : Nat) ({ cls := "SpectrumAccessModel", name := "offeredPower", desc := "(I)I" } : Jvm.MethodName)) ∈ lw_all := lw_g (lw_at lw_m14 27 rfl) rfl
theorem q3290 : (Jvm.Cond.methodLink "SpectrumAccessLaw" (273 : Nat) ({ cls := "SpectrumAccessModel", name := "allowedPower", desc := "(III)I" } : Jvm.MethodName)) ∈ lw_all := lw_g (lw_at lw_m14 31 rfl) rfl
theorem q3294 : (Jvm.Cond.methodLink "SpectrumAccessLaw" (276 : Nat) ({ cls := "SpectrumAccessModel", name := "bestSite", desc := "(I)I" } : Jvm.MethodName)) ∈ lw_all := lw_g (lw_at lw_m14 35 rfl) rfl
theorem q3298 : (Jvm.Cond.methodLink "SpectrumAccessLaw" (280 : Nat) ({ cls := "SpectrumAccessModel", name := "waiting", desc := "()I" } : Jvm.MethodName)) ∈ lw_all := lw_g (lw_at lw_m14 39 rfl) rfl
theorem q3302 : (Jvm.Cond.methodLink "SpectrumAccessLaw" (283 : Nat) ({ cls := "SpectrumAccessModel", name := "queueAt", desc := "(I)I" } : Jvm.MethodName)) ∈ lw_all := lw_g (lw_at lw_m14 43 rfl) rfl
theorem q3314 : (Jvm.Cond.methodLink "SpectrumAccessLaw" (286 : Nat) ({ cls := "SpectrumAccessModel", name := "transmitting", desc := "(I)I" } : Jvm.MethodName)) ∈ lw_all := lw_g (lw_at lw_m14 55 rfl) rfl
theorem q3318 : (Jvm.Cond.methodLink "SpectrumAccessLaw" (290 : Nat) ({ cls := "SpectrumAccessModel", name := "moves", desc := "()I" } : Jvm.MethodName)) ∈ lw_all := lw_g (lw_at lw_m14 59 rfl) rfl
theorem q3322 : (Jvm.Cond.methodLink "SpectrumAccessLaw" (294 : Nat) ({ cls := "SpectrumAccessModel", name := "leaseEnds", desc := "()I" } : Jvm.MethodName)) ∈ lw_all := lw_g (lw_at lw_m14 63 rfl) rfl
theorem q3326 : (Jvm.Cond.methodLink "SpectrumAccessLaw" (298 : Nat) ({ cls := "SpectrumAccessModel", name := "events", desc := "()I" } : Jvm.MethodName)) ∈ lw_all := lw_g (lw_at lw_m14 67 rfl) rfl
theorem q3330 : (Jvm.Cond.methodLink "SpectrumAccessLaw" (301 : Nat) ({ cls := "SpectrumAccessModel", name := "event", desc := "(II)I" } : Jvm.MethodName)) ∈ lw_all := lw_g (lw_at lw_m14 71 rfl) rfl
theorem q3334 : (Jvm.Cond.methodLink "SpectrumAccessLaw" (311 : Nat) ({ cls := "SpectrumAccessModel", name := "movesIn", desc := "(I)I" } : Jvm.MethodName)) ∈ lw_all := lw_g (lw_at lw_m14 75 rfl) rfl
theorem q3392 : (Jvm.Cond.methodLink "SpectrumAccessLaw" (314 : Nat) ({ cls := "SpectrumAccessModel", name := "airtimeIn", desc := "(I)I" } : Jvm.MethodName)) ∈ lw_all := lw_g (lw_at lw_m14 133 rfl) rfl
theorem q3396 : (Jvm.Cond.methodLink "SpectrumAccessLaw" (317 : Nat) ({ cls := "SpectrumAccessModel", name := "firstMove", desc := "(I)I" } : Jvm.MethodName)) ∈ lw_all := lw_g (lw_at lw_m14 137 rfl) rfl
theorem q3400 : (Jvm.Cond.methodLink "SpectrumAccessLaw" (320 : Nat) ({ cls := "SpectrumAccessModel", name := "waitingAfter", desc := "(I)I" } : Jvm.MethodName)) ∈ lw_all := lw_g (lw_at lw_m14 141 rfl) rfl
theorem q3404 : (Jvm.Cond.methodLink "SpectrumAccessLaw" (323 : Nat) ({ cls := "SpectrumAccessModel", name := "troublemaker", desc := "(I)I" } : Jvm.MethodName)) ∈ lw_all := lw_g (lw_at lw_m14 145 rfl) rfl
theorem q3408 : (Jvm.Cond.methodLink "SpectrumAccessLaw" (326 : Nat) ({ cls := "SpectrumAccessModel", name := "tightest", desc := "()I" } : Jvm.MethodName)) ∈ lw_all := lw_g (lw_at lw_m14 149 rfl) rfl
theorem q3412 : (Jvm.Cond.methodLink "SpectrumAccessLaw" (329 : Nat) ({ cls := "SpectrumAccessModel", name := "advance", desc := "(I)I" } : Jvm.MethodName)) ∈ lw_all := lw_g (lw_at lw_m14 153 rfl) rfl
theorem q3420 : (Jvm.Cond.methodLink "SpectrumAccessLaw" (332 : Nat) ({ cls := "SpectrumAccessModel", name := "start", desc := "(I)I" } : Jvm.MethodName)) ∈ lw_all := lw_g (lw_at lw_m14 161 rfl) rfl
theorem q3424 : (Jvm.Cond.methodLink "SpectrumAccessLaw" (335 : Nat) ({ cls := "SpectrumAccessModel", name := "stop", desc := "(I)I" } : Jvm.MethodName)) ∈ lw_all := lw_g (lw_at lw_m14 165 rfl) rfl
theorem q3428 : (Jvm.Cond.methodLink "SpectrumAccessLaw" (338 : Nat) ({ cls := "SpectrumAccessModel", name := "setPower", desc := "(II)I" } : Jvm.MethodName)) ∈ lw_all := lw_g (lw_at lw_m14 169 rfl) rfl
theorem q3432 : (Jvm.Cond.methodLink "SpectrumAccessLaw" (342 : Nat) ({ cls := "SpectrumAccessModel", name := "addIncumbent", desc := "(IIIIII)I" } : Jvm.MethodName)) ∈ lw_all := lw_g (lw_at lw_m14 173 rfl) rfl
theorem q3436 : (Jvm.Cond.methodLink "SpectrumAccessLaw" (345 : Nat) ({ cls := "SpectrumAccessModel", name := "endIncumbent", desc := "(I)I" } : Jvm.MethodName)) ∈ lw_all := lw_g (lw_at lw_m14 177 rfl) rfl
theorem q3440 : (Jvm.Cond.methodLink "SpectrumAccessLaw" (348 : Nat) ({ cls := "SpectrumAccessModel", name := "undo", desc := "()I" } : Jvm.MethodName)) ∈ lw_all := lw_g (lw_at lw_m14 181 rfl) rfl
theorem q3444 : (Jvm.Cond.methodLink "SpectrumAccessLaw" (352 : Nat) ({ cls := "SpectrumAccessModel", name := "undoable", desc := "()I" } : Jvm.MethodName)) ∈ lw_all := lw_g (lw_at lw_m14 185 rfl) rfl
theorem q3448 : (Jvm.Cond.methodLink "SpectrumAccessLaw" (355 : Nat) ({ cls := "SpectrumAccessModel", name := "save", desc := "(I)I" } : Jvm.MethodName)) ∈ lw_all := lw_g (lw_at lw_m14 189 rfl) rfl
theorem q3452 : (Jvm.Cond.methodLink "SpectrumAccessLaw" (358 : Nat) ({ cls := "SpectrumAccessModel", name := "restore", desc := "(I)I" } : Jvm.MethodName)) ∈ lw_all := lw_g (lw_at lw_m14 193 rfl) rfl


/-! SpectrumAccess -/
set_option maxRecDepth 100000
def RX1 : String := "SpectrumAccess"
def TX1 : u_T := fun k => match k with
  | 0 => ("SpectrumAccess", "label", "Ljava/lang/StringBuilder;", true)
  | 1 => ("SpectrumAccess", "buffer", "[B", true)
  | 2 => ("SpectrumAccess", "buffered", "I", false)
  | 3 => ("SpectrumAccess", "parseError", "I", false)
  | 4 => ("SpectrumAccess", "errorPosition", "I", false)
  | 5 => ("SpectrumAccess", "state", "LSpectrumAccess$State;", false)
  | 6 => ("SpectrumAccess", "past", "Ljava/util/List;", true)
  | _ => ("SpectrumAccess", "saved", "[LSpectrumAccess$State;", true)
def tyX1 : Nat → FieldType := fun k => match k with
  | 0 => .object "java/lang/StringBuilder"
  | 1 => .array .byte
  | 2 => .int
  | 3 => .int
  | 4 => .int
  | 5 => .object "SpectrumAccess$State"
  | 6 => .object "java/util/List"
  | _ => .array (.object "SpectrumAccess$State")
abbrev wsX10 : List Cond := u_ws RX1 TX1 8
theorem nmX1 : ∀ a, a < 8 → ∀ b, b < 8 → a ≠ b → (TX1 a).2.1 ≠ (TX1 b).2.1 := by decide +kernel
theorem tyX1_ok : ∀ k, k < 8 → parseFieldDescriptor (TX1 k).2.2.1 = some (tyX1 k) := by decide +kernel
abbrev cX1_init : ByteArray := prog_1_method_2_code
def yX1_init : MethodName := ⟨RX1, "<init>", "()V"⟩
def dkwX1_init_2 : List UInt8 := [177]
abbrev dktX1_init_2 : List UInt8 := dkwX1_init_2 ++ []
def dkwX1_init_1 : List UInt8 := [42, 2, 181, 0, 20, 42, 187, 0, 24, 89, 183, 0, 26, 181, 0, 27, 42, 5, 189, 0, 31, 181, 0, 33]
abbrev dktX1_init_1 : List UInt8 := dkwX1_init_1 ++ dktX1_init_2
def dkwX1_init_0 : List UInt8 := [42, 183, 0, 1, 42, 187, 0, 7, 89, 183, 0, 9, 181, 0, 10, 42, 17, 4, 176, 188, 8, 181, 0, 16]
abbrev dktX1_init_0 : List UInt8 := dkwX1_init_0 ++ dktX1_init_1
theorem dksX1_init_0 : cX1_init.data.toList.drop 0 = dktX1_init_0 := by decide +kernel
theorem dksX1_init_1 : cX1_init.data.toList.drop 24 = dktX1_init_1 := dk_seg dksX1_init_0 24 rfl rfl
theorem dksX1_init_2 : cX1_init.data.toList.drop 48 = dktX1_init_2 := dk_seg dksX1_init_1 24 rfl rfl
theorem dX1_init_0 : decode cX1_init 0 = .ok (.aload_n 0, 1) := dk_42 (dk_at dksX1_init_0 0 rfl rfl)
theorem dX1_init_1 : decode cX1_init 1 = .ok (.invokespecial 1, 3) := dk_183 0 1 (dk_at dksX1_init_0 1 rfl rfl)
theorem dX1_init_4 : decode cX1_init 4 = .ok (.aload_n 0, 1) := dk_42 (dk_at dksX1_init_0 4 rfl rfl)
theorem dX1_init_5 : decode cX1_init 5 = .ok (.new 7, 3) := dk_187 0 7 (dk_at dksX1_init_0 5 rfl rfl)
theorem dX1_init_8 : decode cX1_init 8 = .ok (.dup, 1) := dk_89 (dk_at dksX1_init_0 8 rfl rfl)
theorem dX1_init_9 : decode cX1_init 9 = .ok (.invokespecial 9, 3) := dk_183 0 9 (dk_at dksX1_init_0 9 rfl rfl)
theorem dX1_init_12 : decode cX1_init 12 = .ok (.putfield 10, 3) := dk_181 0 10 (dk_at dksX1_init_0 12 rfl rfl)
theorem dX1_init_15 : decode cX1_init 15 = .ok (.aload_n 0, 1) := dk_42 (dk_at dksX1_init_0 15 rfl rfl)
theorem dX1_init_16 : decode cX1_init 16 = .ok (.sipush 1200, 3) := dk_17 4 176 (dk_at dksX1_init_0 16 rfl rfl)
theorem dX1_init_19 : decode cX1_init 19 = .ok (.newarray .byte, 2) := dk_188_8 (dk_at dksX1_init_0 19 rfl rfl)
theorem dX1_init_21 : decode cX1_init 21 = .ok (.putfield 16, 3) := dk_181 0 16 (dk_at dksX1_init_0 21 rfl rfl)
theorem dX1_init_24 : decode cX1_init 24 = .ok (.aload_n 0, 1) := dk_42 (dk_at dksX1_init_1 0 rfl rfl)
theorem dX1_init_25 : decode cX1_init 25 = .ok (.iconst (-1), 1) := dk_2 (dk_at dksX1_init_1 1 rfl rfl)
theorem dX1_init_26 : decode cX1_init 26 = .ok (.putfield 20, 3) := dk_181 0 20 (dk_at dksX1_init_1 2 rfl rfl)
theorem dX1_init_29 : decode cX1_init 29 = .ok (.aload_n 0, 1) := dk_42 (dk_at dksX1_init_1 5 rfl rfl)
theorem dX1_init_30 : decode cX1_init 30 = .ok (.new 24, 3) := dk_187 0 24 (dk_at dksX1_init_1 6 rfl rfl)
theorem dX1_init_33 : decode cX1_init 33 = .ok (.dup, 1) := dk_89 (dk_at dksX1_init_1 9 rfl rfl)
theorem dX1_init_34 : decode cX1_init 34 = .ok (.invokespecial 26, 3) := dk_183 0 26 (dk_at dksX1_init_1 10 rfl rfl)
theorem dX1_init_37 : decode cX1_init 37 = .ok (.putfield 27, 3) := dk_181 0 27 (dk_at dksX1_init_1 13 rfl rfl)
theorem dX1_init_40 : decode cX1_init 40 = .ok (.aload_n 0, 1) := dk_42 (dk_at dksX1_init_1 16 rfl rfl)
theorem dX1_init_41 : decode cX1_init 41 = .ok (.iconst 2, 1) := dk_5 (dk_at dksX1_init_1 17 rfl rfl)
theorem dX1_init_42 : decode cX1_init 42 = .ok (.anewarray 31, 3) := dk_189 0 31 (dk_at dksX1_init_1 18 rfl rfl)
theorem dX1_init_45 : decode cX1_init 45 = .ok (.putfield 33, 3) := dk_181 0 33 (dk_at dksX1_init_1 21 rfl rfl)
theorem dX1_init_48 : decode cX1_init 48 = .ok (.return_, 1) := dk_177 (dk_at dksX1_init_2 0 rfl rfl)
abbrev cX1_append : ByteArray := prog_1_method_12_code
def yX1_append : MethodName := ⟨RX1, "append", "(IIIII)I"⟩
def dkwX1_append_4 : List UInt8 := [96, 181, 0, 98, 132, 10, 248, 167, 255, 223, 132, 8, 1, 167, 255, 199, 42, 180, 0, 98, 172]
abbrev dktX1_append_4 : List UInt8 := dkwX1_append_4 ++ []
def dkwX1_append_3 : List UInt8 := [155, 0, 34, 42, 180, 0, 16, 42, 180, 0, 98, 21, 9, 21, 10, 122, 145, 84, 42, 89, 180, 0, 98, 4]
abbrev dktX1_append_3 : List UInt8 := dkwX1_append_3 ++ dktX1_append_4
def dkwX1_append_2 : List UInt8 := [54, 8, 21, 8, 21, 7, 162, 0, 56, 25, 6, 21, 8, 46, 54, 9, 16, 24, 54, 10, 21, 10]
abbrev dktX1_append_2 : List UInt8 := dkwX1_append_2 ++ dktX1_append_3
def dkwX1_append_1 : List UInt8 := [28, 79, 89, 5, 29, 79, 89, 6, 21, 4, 79, 89, 7, 21, 5, 79, 58, 6, 25, 6, 190, 54, 7, 3]
abbrev dktX1_append_1 : List UInt8 := dkwX1_append_1 ++ dktX1_append_2
def dkwX1_append_0 : List UInt8 := [42, 180, 0, 98, 16, 20, 96, 17, 4, 176, 164, 0, 5, 2, 172, 8, 188, 10, 89, 3, 27, 79, 89, 4]
abbrev dktX1_append_0 : List UInt8 := dkwX1_append_0 ++ dktX1_append_1
theorem dksX1_append_0 : cX1_append.data.toList.drop 0 = dktX1_append_0 := by decide +kernel
theorem dksX1_append_1 : cX1_append.data.toList.drop 24 = dktX1_append_1 := dk_seg dksX1_append_0 24 rfl rfl
theorem dksX1_append_2 : cX1_append.data.toList.drop 48 = dktX1_append_2 := dk_seg dksX1_append_1 24 rfl rfl
theorem dksX1_append_3 : cX1_append.data.toList.drop 70 = dktX1_append_3 := dk_seg dksX1_append_2 22 rfl rfl
theorem dksX1_append_4 : cX1_append.data.toList.drop 94 = dktX1_append_4 := dk_seg dksX1_append_3 24 rfl rfl
theorem dX1_append_0 : decode cX1_append 0 = .ok (.aload_n 0, 1) := dk_42 (dk_at dksX1_append_0 0 rfl rfl)
theorem dX1_append_1 : decode cX1_append 1 = .ok (.getfield 98, 3) := dk_180 0 98 (dk_at dksX1_append_0 1 rfl rfl)
theorem dX1_append_4 : decode cX1_append 4 = .ok (.bipush 20, 2) := dk_16 20 (dk_at dksX1_append_0 4 rfl rfl)
theorem dX1_append_6 : decode cX1_append 6 = .ok (.iadd, 1) := dk_96 (dk_at dksX1_append_0 6 rfl rfl)
theorem dX1_append_7 : decode cX1_append 7 = .ok (.sipush 1200, 3) := dk_17 4 176 (dk_at dksX1_append_0 7 rfl rfl)
theorem dX1_append_10 : decode cX1_append 10 = .ok (.if_icmp .le 5, 3) := dk_164 0 5 (dk_at dksX1_append_0 10 rfl rfl)
theorem dX1_append_13 : decode cX1_append 13 = .ok (.iconst (-1), 1) := dk_2 (dk_at dksX1_append_0 13 rfl rfl)
theorem dX1_append_14 : decode cX1_append 14 = .ok (.ireturn, 1) := dk_172 (dk_at dksX1_append_0 14 rfl rfl)
theorem dX1_append_15 : decode cX1_append 15 = .ok (.iconst 5, 1) := dk_8 (dk_at dksX1_append_0 15 rfl rfl)
theorem dX1_append_16 : decode cX1_append 16 = .ok (.newarray .int, 2) := dk_188_10 (dk_at dksX1_append_0 16 rfl rfl)
theorem dX1_append_18 : decode cX1_append 18 = .ok (.dup, 1) := dk_89 (dk_at dksX1_append_0 18 rfl rfl)
theorem dX1_append_19 : decode cX1_append 19 = .ok (.iconst 0, 1) := dk_3 (dk_at dksX1_append_0 19 rfl rfl)
theorem dX1_append_20 : decode cX1_append 20 = .ok (.iload_n 1, 1) := dk_27 (dk_at dksX1_append_0 20 rfl rfl)
theorem dX1_append_21 : decode cX1_append 21 = .ok (.iastore, 1) := dk_79 (dk_at dksX1_append_0 21 rfl rfl)
theorem dX1_append_22 : decode cX1_append 22 = .ok (.dup, 1) := dk_89 (dk_at dksX1_append_0 22 rfl rfl)
theorem dX1_append_23 : decode cX1_append 23 = .ok (.iconst 1, 1) := dk_4 (dk_at dksX1_append_0 23 rfl rfl)
theorem dX1_append_24 : decode cX1_append 24 = .ok (.iload_n 2, 1) := dk_28 (dk_at dksX1_append_1 0 rfl rfl)
theorem dX1_append_25 : decode cX1_append 25 = .ok (.iastore, 1) := dk_79 (dk_at dksX1_append_1 1 rfl rfl)
theorem dX1_append_26 : decode cX1_append 26 = .ok (.dup, 1) := dk_89 (dk_at dksX1_append_1 2 rfl rfl)
theorem dX1_append_27 : decode cX1_append 27 = .ok (.iconst 2, 1) := dk_5 (dk_at dksX1_append_1 3 rfl rfl)
theorem dX1_append_28 : decode cX1_append 28 = .ok (.iload_n 3, 1) := dk_29 (dk_at dksX1_append_1 4 rfl rfl)
theorem dX1_append_29 : decode cX1_append 29 = .ok (.iastore, 1) := dk_79 (dk_at dksX1_append_1 5 rfl rfl)
theorem dX1_append_30 : decode cX1_append 30 = .ok (.dup, 1) := dk_89 (dk_at dksX1_append_1 6 rfl rfl)
theorem dX1_append_31 : decode cX1_append 31 = .ok (.iconst 3, 1) := dk_6 (dk_at dksX1_append_1 7 rfl rfl)
theorem dX1_append_32 : decode cX1_append 32 = .ok (.iload 4, 2) := dk_21 4 (dk_at dksX1_append_1 8 rfl rfl)
theorem dX1_append_34 : decode cX1_append 34 = .ok (.iastore, 1) := dk_79 (dk_at dksX1_append_1 10 rfl rfl)
theorem dX1_append_35 : decode cX1_append 35 = .ok (.dup, 1) := dk_89 (dk_at dksX1_append_1 11 rfl rfl)
theorem dX1_append_36 : decode cX1_append 36 = .ok (.iconst 4, 1) := dk_7 (dk_at dksX1_append_1 12 rfl rfl)
theorem dX1_append_37 : decode cX1_append 37 = .ok (.iload 5, 2) := dk_21 5 (dk_at dksX1_append_1 13 rfl rfl)
theorem dX1_append_39 : decode cX1_append 39 = .ok (.iastore, 1) := dk_79 (dk_at dksX1_append_1 15 rfl rfl)
theorem dX1_append_40 : decode cX1_append 40 = .ok (.astore 6, 2) := dk_58 6 (dk_at dksX1_append_1 16 rfl rfl)
theorem dX1_append_42 : decode cX1_append 42 = .ok (.aload 6, 2) := dk_25 6 (dk_at dksX1_append_1 18 rfl rfl)
theorem dX1_append_44 : decode cX1_append 44 = .ok (.arraylength, 1) := dk_190 (dk_at dksX1_append_1 20 rfl rfl)
theorem dX1_append_45 : decode cX1_append 45 = .ok (.istore 7, 2) := dk_54 7 (dk_at dksX1_append_1 21 rfl rfl)
theorem dX1_append_47 : decode cX1_append 47 = .ok (.iconst 0, 1) := dk_3 (dk_at dksX1_append_1 23 rfl rfl)
theorem dX1_append_48 : decode cX1_append 48 = .ok (.istore 8, 2) := dk_54 8 (dk_at dksX1_append_2 0 rfl rfl)
theorem dX1_append_50 : decode cX1_append 50 = .ok (.iload 8, 2) := dk_21 8 (dk_at dksX1_append_2 2 rfl rfl)
theorem dX1_append_52 : decode cX1_append 52 = .ok (.iload 7, 2) := dk_21 7 (dk_at dksX1_append_2 4 rfl rfl)
theorem dX1_append_54 : decode cX1_append 54 = .ok (.if_icmp .ge 56, 3) := dk_162 0 56 (dk_at dksX1_append_2 6 rfl rfl)
theorem dX1_append_57 : decode cX1_append 57 = .ok (.aload 6, 2) := dk_25 6 (dk_at dksX1_append_2 9 rfl rfl)
theorem dX1_append_59 : decode cX1_append 59 = .ok (.iload 8, 2) := dk_21 8 (dk_at dksX1_append_2 11 rfl rfl)
theorem dX1_append_61 : decode cX1_append 61 = .ok (.iaload, 1) := dk_46 (dk_at dksX1_append_2 13 rfl rfl)
theorem dX1_append_62 : decode cX1_append 62 = .ok (.istore 9, 2) := dk_54 9 (dk_at dksX1_append_2 14 rfl rfl)
theorem dX1_append_64 : decode cX1_append 64 = .ok (.bipush 24, 2) := dk_16 24 (dk_at dksX1_append_2 16 rfl rfl)
theorem dX1_append_66 : decode cX1_append 66 = .ok (.istore 10, 2) := dk_54 10 (dk_at dksX1_append_2 18 rfl rfl)
theorem dX1_append_68 : decode cX1_append 68 = .ok (.iload 10, 2) := dk_21 10 (dk_at dksX1_append_2 20 rfl rfl)
theorem dX1_append_70 : decode cX1_append 70 = .ok (.ifCond .lt 34, 3) := dk_155 0 34 (dk_at dksX1_append_3 0 rfl rfl)
theorem dX1_append_73 : decode cX1_append 73 = .ok (.aload_n 0, 1) := dk_42 (dk_at dksX1_append_3 3 rfl rfl)
theorem dX1_append_74 : decode cX1_append 74 = .ok (.getfield 16, 3) := dk_180 0 16 (dk_at dksX1_append_3 4 rfl rfl)
theorem dX1_append_77 : decode cX1_append 77 = .ok (.aload_n 0, 1) := dk_42 (dk_at dksX1_append_3 7 rfl rfl)
theorem dX1_append_78 : decode cX1_append 78 = .ok (.getfield 98, 3) := dk_180 0 98 (dk_at dksX1_append_3 8 rfl rfl)
theorem dX1_append_81 : decode cX1_append 81 = .ok (.iload 9, 2) := dk_21 9 (dk_at dksX1_append_3 11 rfl rfl)
theorem dX1_append_83 : decode cX1_append 83 = .ok (.iload 10, 2) := dk_21 10 (dk_at dksX1_append_3 13 rfl rfl)
theorem dX1_append_85 : decode cX1_append 85 = .ok (.ishr, 1) := dk_122 (dk_at dksX1_append_3 15 rfl rfl)
theorem dX1_append_86 : decode cX1_append 86 = .ok (.i2b, 1) := dk_145 (dk_at dksX1_append_3 16 rfl rfl)
theorem dX1_append_87 : decode cX1_append 87 = .ok (.bastore, 1) := dk_84 (dk_at dksX1_append_3 17 rfl rfl)
theorem dX1_append_88 : decode cX1_append 88 = .ok (.aload_n 0, 1) := dk_42 (dk_at dksX1_append_3 18 rfl rfl)
theorem dX1_append_89 : decode cX1_append 89 = .ok (.dup, 1) := dk_89 (dk_at dksX1_append_3 19 rfl rfl)
theorem dX1_append_90 : decode cX1_append 90 = .ok (.getfield 98, 3) := dk_180 0 98 (dk_at dksX1_append_3 20 rfl rfl)
theorem dX1_append_93 : decode cX1_append 93 = .ok (.iconst 1, 1) := dk_4 (dk_at dksX1_append_3 23 rfl rfl)
theorem dX1_append_94 : decode cX1_append 94 = .ok (.iadd, 1) := dk_96 (dk_at dksX1_append_4 0 rfl rfl)
theorem dX1_append_95 : decode cX1_append 95 = .ok (.putfield 98, 3) := dk_181 0 98 (dk_at dksX1_append_4 1 rfl rfl)
theorem dX1_append_98 : decode cX1_append 98 = .ok (.iinc 10 (-8), 3) := dk_132 10 248 (dk_at dksX1_append_4 4 rfl rfl)
theorem dX1_append_101 : decode cX1_append 101 = .ok (.goto (-33), 3) := dk_167 255 223 (dk_at dksX1_append_4 7 rfl rfl)
theorem dX1_append_104 : decode cX1_append 104 = .ok (.iinc 8 1, 3) := dk_132 8 1 (dk_at dksX1_append_4 10 rfl rfl)
theorem dX1_append_107 : decode cX1_append 107 = .ok (.goto (-57), 3) := dk_167 255 199 (dk_at dksX1_append_4 13 rfl rfl)
theorem dX1_append_110 : decode cX1_append 110 = .ok (.aload_n 0, 1) := dk_42 (dk_at dksX1_append_4 16 rfl rfl)
theorem dX1_append_111 : decode cX1_append 111 = .ok (.getfield 98, 3) := dk_180 0 98 (dk_at dksX1_append_4 17 rfl rfl)
theorem dX1_append_114 : decode cX1_append 114 = .ok (.ireturn, 1) := dk_172 (dk_at dksX1_append_4 20 rfl rfl)
abbrev cX1_parseError : ByteArray := prog_1_method_14_code
def yX1_parseError : MethodName := ⟨RX1, "parseError", "()I"⟩
theorem dX1_parseError_0 : decode cX1_parseError 0 = .ok (.aload_n 0, 1) := by decide +kernel
theorem dX1_parseError_1 : decode cX1_parseError 1 = .ok (.getfield 101, 3) := by decide +kernel
theorem dX1_parseError_4 : decode cX1_parseError 4 = .ok (.ireturn, 1) := by decide +kernel
abbrev cX1_errorPosition : ByteArray := prog_1_method_15_code
def yX1_errorPosition : MethodName := ⟨RX1, "errorPosition", "()I"⟩
theorem dX1_errorPosition_0 : decode cX1_errorPosition 0 = .ok (.aload_n 0, 1) := by decide +kernel
theorem dX1_errorPosition_1 : decode cX1_errorPosition 1 = .ok (.getfield 20, 3) := by decide +kernel
theorem dX1_errorPosition_4 : decode cX1_errorPosition 4 = .ok (.ireturn, 1) := by decide +kernel
abbrev cX1_buffered : ByteArray := prog_1_method_16_code
def yX1_buffered : MethodName := ⟨RX1, "buffered", "()I"⟩
theorem dX1_buffered_0 : decode cX1_buffered 0 = .ok (.aload_n 0, 1) := by decide +kernel
theorem dX1_buffered_1 : decode cX1_buffered 1 = .ok (.getfield 98, 3) := by decide +kernel
theorem dX1_buffered_4 : decode cX1_buffered 4 = .ok (.ireturn, 1) := by decide +kernel
abbrev cX1_channels : ByteArray := prog_1_method_17_code
def yX1_channels : MethodName := ⟨RX1, "channels", "()I"⟩
def dkwX1_channels_0 : List UInt8 := [42, 180, 0, 46, 199, 0, 7, 3, 167, 0, 13, 42, 180, 0, 46, 180, 0, 58, 180, 0, 87, 172]
abbrev dktX1_channels_0 : List UInt8 := dkwX1_channels_0 ++ []
theorem dksX1_channels_0 : cX1_channels.data.toList.drop 0 = dktX1_channels_0 := by decide +kernel
theorem dX1_channels_0 : decode cX1_channels 0 = .ok (.aload_n 0, 1) := dk_42 (dk_at dksX1_channels_0 0 rfl rfl)
theorem dX1_channels_1 : decode cX1_channels 1 = .ok (.getfield 46, 3) := dk_180 0 46 (dk_at dksX1_channels_0 1 rfl rfl)
theorem dX1_channels_4 : decode cX1_channels 4 = .ok (.ifnonnull 7, 3) := dk_199 0 7 (dk_at dksX1_channels_0 4 rfl rfl)
theorem dX1_channels_7 : decode cX1_channels 7 = .ok (.iconst 0, 1) := dk_3 (dk_at dksX1_channels_0 7 rfl rfl)
theorem dX1_channels_8 : decode cX1_channels 8 = .ok (.goto 13, 3) := dk_167 0 13 (dk_at dksX1_channels_0 8 rfl rfl)
theorem dX1_channels_11 : decode cX1_channels 11 = .ok (.aload_n 0, 1) := dk_42 (dk_at dksX1_channels_0 11 rfl rfl)
theorem dX1_channels_12 : decode cX1_channels 12 = .ok (.getfield 46, 3) := dk_180 0 46 (dk_at dksX1_channels_0 12 rfl rfl)
theorem dX1_channels_15 : decode cX1_channels 15 = .ok (.getfield 58, 3) := dk_180 0 58 (dk_at dksX1_channels_0 15 rfl rfl)
theorem dX1_channels_18 : decode cX1_channels 18 = .ok (.getfield 87, 3) := dk_180 0 87 (dk_at dksX1_channels_0 18 rfl rfl)
theorem dX1_channels_21 : decode cX1_channels 21 = .ok (.ireturn, 1) := dk_172 (dk_at dksX1_channels_0 21 rfl rfl)
abbrev cX1_incumbents : ByteArray := prog_1_method_18_code
def yX1_incumbents : MethodName := ⟨RX1, "incumbents", "()I"⟩
def dkwX1_incumbents_0 : List UInt8 := [42, 180, 0, 46, 199, 0, 7, 3, 167, 0, 15, 42, 180, 0, 46, 180, 0, 81, 185, 0, 67, 1, 0, 172]
abbrev dktX1_incumbents_0 : List UInt8 := dkwX1_incumbents_0 ++ []
theorem dksX1_incumbents_0 : cX1_incumbents.data.toList.drop 0 = dktX1_incumbents_0 := by decide +kernel
theorem dX1_incumbents_0 : decode cX1_incumbents 0 = .ok (.aload_n 0, 1) := dk_42 (dk_at dksX1_incumbents_0 0 rfl rfl)
theorem dX1_incumbents_1 : decode cX1_incumbents 1 = .ok (.getfield 46, 3) := dk_180 0 46 (dk_at dksX1_incumbents_0 1 rfl rfl)
theorem dX1_incumbents_4 : decode cX1_incumbents 4 = .ok (.ifnonnull 7, 3) := dk_199 0 7 (dk_at dksX1_incumbents_0 4 rfl rfl)
theorem dX1_incumbents_7 : decode cX1_incumbents 7 = .ok (.iconst 0, 1) := dk_3 (dk_at dksX1_incumbents_0 7 rfl rfl)
theorem dX1_incumbents_8 : decode cX1_incumbents 8 = .ok (.goto 15, 3) := dk_167 0 15 (dk_at dksX1_incumbents_0 8 rfl rfl)
theorem dX1_incumbents_11 : decode cX1_incumbents 11 = .ok (.aload_n 0, 1) := dk_42 (dk_at dksX1_incumbents_0 11 rfl rfl)
theorem dX1_incumbents_12 : decode cX1_incumbents 12 = .ok (.getfield 46, 3) := dk_180 0 46 (dk_at dksX1_incumbents_0 12 rfl rfl)
theorem dX1_incumbents_15 : decode cX1_incumbents 15 = .ok (.getfield 81, 3) := dk_180 0 81 (dk_at dksX1_incumbents_0 15 rfl rfl)
theorem dX1_incumbents_18 : decode cX1_incumbents 18 = .ok (.invokeinterface 67 1, 5) := by decide +kernel
theorem dX1_incumbents_23 : decode cX1_incumbents 23 = .ok (.ireturn, 1) := dk_172 (dk_at dksX1_incumbents_0 23 rfl rfl)
abbrev cX1_licences : ByteArray := prog_1_method_19_code
def yX1_licences : MethodName := ⟨RX1, "licences", "()I"⟩
def dkwX1_licences_1 : List UInt8 := [185, 0, 67, 1, 0, 172]
abbrev dktX1_licences_1 : List UInt8 := dkwX1_licences_1 ++ []
def dkwX1_licences_0 : List UInt8 := [42, 180, 0, 46, 199, 0, 7, 3, 167, 0, 18, 42, 180, 0, 46, 180, 0, 58, 180, 0, 84]
abbrev dktX1_licences_0 : List UInt8 := dkwX1_licences_0 ++ dktX1_licences_1
theorem dksX1_licences_0 : cX1_licences.data.toList.drop 0 = dktX1_licences_0 := by decide +kernel
theorem dksX1_licences_1 : cX1_licences.data.toList.drop 21 = dktX1_licences_1 := dk_seg dksX1_licences_0 21 rfl rfl
theorem dX1_licences_0 : decode cX1_licences 0 = .ok (.aload_n 0, 1) := dk_42 (dk_at dksX1_licences_0 0 rfl rfl)
theorem dX1_licences_1 : decode cX1_licences 1 = .ok (.getfield 46, 3) := dk_180 0 46 (dk_at dksX1_licences_0 1 rfl rfl)
theorem dX1_licences_4 : decode cX1_licences 4 = .ok (.ifnonnull 7, 3) := dk_199 0 7 (dk_at dksX1_licences_0 4 rfl rfl)
theorem dX1_licences_7 : decode cX1_licences 7 = .ok (.iconst 0, 1) := dk_3 (dk_at dksX1_licences_0 7 rfl rfl)
theorem dX1_licences_8 : decode cX1_licences 8 = .ok (.goto 18, 3) := dk_167 0 18 (dk_at dksX1_licences_0 8 rfl rfl)
theorem dX1_licences_11 : decode cX1_licences 11 = .ok (.aload_n 0, 1) := dk_42 (dk_at dksX1_licences_0 11 rfl rfl)
theorem dX1_licences_12 : decode cX1_licences 12 = .ok (.getfield 46, 3) := dk_180 0 46 (dk_at dksX1_licences_0 12 rfl rfl)
theorem dX1_licences_15 : decode cX1_licences 15 = .ok (.getfield 58, 3) := dk_180 0 58 (dk_at dksX1_licences_0 15 rfl rfl)
theorem dX1_licences_18 : decode cX1_licences 18 = .ok (.getfield 84, 3) := dk_180 0 84 (dk_at dksX1_licences_0 18 rfl rfl)
theorem dX1_licences_21 : decode cX1_licences 21 = .ok (.invokeinterface 67 1, 5) := by decide +kernel
theorem dX1_licences_26 : decode cX1_licences 26 = .ok (.ireturn, 1) := dk_172 (dk_at dksX1_licences_1 5 rfl rfl)
abbrev cX1_devices : ByteArray := prog_1_method_20_code
def yX1_devices : MethodName := ⟨RX1, "devices", "()I"⟩
def dkwX1_devices_1 : List UInt8 := [185, 0, 67, 1, 0, 172]
abbrev dktX1_devices_1 : List UInt8 := dkwX1_devices_1 ++ []
def dkwX1_devices_0 : List UInt8 := [42, 180, 0, 46, 199, 0, 7, 3, 167, 0, 18, 42, 180, 0, 46, 180, 0, 58, 180, 0, 62]
abbrev dktX1_devices_0 : List UInt8 := dkwX1_devices_0 ++ dktX1_devices_1
theorem dksX1_devices_0 : cX1_devices.data.toList.drop 0 = dktX1_devices_0 := by decide +kernel
theorem dksX1_devices_1 : cX1_devices.data.toList.drop 21 = dktX1_devices_1 := dk_seg dksX1_devices_0 21 rfl rfl
theorem dX1_devices_0 : decode cX1_devices 0 = .ok (.aload_n 0, 1) := dk_42 (dk_at dksX1_devices_0 0 rfl rfl)
theorem dX1_devices_1 : decode cX1_devices 1 = .ok (.getfield 46, 3) := dk_180 0 46 (dk_at dksX1_devices_0 1 rfl rfl)
theorem dX1_devices_4 : decode cX1_devices 4 = .ok (.ifnonnull 7, 3) := dk_199 0 7 (dk_at dksX1_devices_0 4 rfl rfl)
theorem dX1_devices_7 : decode cX1_devices 7 = .ok (.iconst 0, 1) := dk_3 (dk_at dksX1_devices_0 7 rfl rfl)
theorem dX1_devices_8 : decode cX1_devices 8 = .ok (.goto 18, 3) := dk_167 0 18 (dk_at dksX1_devices_0 8 rfl rfl)
theorem dX1_devices_11 : decode cX1_devices 11 = .ok (.aload_n 0, 1) := dk_42 (dk_at dksX1_devices_0 11 rfl rfl)
theorem dX1_devices_12 : decode cX1_devices 12 = .ok (.getfield 46, 3) := dk_180 0 46 (dk_at dksX1_devices_0 12 rfl rfl)
theorem dX1_devices_15 : decode cX1_devices 15 = .ok (.getfield 58, 3) := dk_180 0 58 (dk_at dksX1_devices_0 15 rfl rfl)
theorem dX1_devices_18 : decode cX1_devices 18 = .ok (.getfield 62, 3) := dk_180 0 62 (dk_at dksX1_devices_0 18 rfl rfl)
theorem dX1_devices_21 : decode cX1_devices 21 = .ok (.invokeinterface 67 1, 5) := by decide +kernel
theorem dX1_devices_26 : decode cX1_devices 26 = .ok (.ireturn, 1) := dk_172 (dk_at dksX1_devices_1 5 rfl rfl)
abbrev cX1_denials : ByteArray := prog_1_method_21_code
def yX1_denials : MethodName := ⟨RX1, "denials", "()I"⟩
def dkwX1_denials_1 : List UInt8 := [185, 0, 67, 1, 0, 172]
abbrev dktX1_denials_1 : List UInt8 := dkwX1_denials_1 ++ []
def dkwX1_denials_0 : List UInt8 := [42, 180, 0, 46, 199, 0, 7, 3, 167, 0, 18, 42, 180, 0, 46, 180, 0, 58, 180, 0, 123]
abbrev dktX1_denials_0 : List UInt8 := dkwX1_denials_0 ++ dktX1_denials_1
theorem dksX1_denials_0 : cX1_denials.data.toList.drop 0 = dktX1_denials_0 := by decide +kernel
theorem dksX1_denials_1 : cX1_denials.data.toList.drop 21 = dktX1_denials_1 := dk_seg dksX1_denials_0 21 rfl rfl
theorem dX1_denials_0 : decode cX1_denials 0 = .ok (.aload_n 0, 1) := dk_42 (dk_at dksX1_denials_0 0 rfl rfl)
theorem dX1_denials_1 : decode cX1_denials 1 = .ok (.getfield 46, 3) := dk_180 0 46 (dk_at dksX1_denials_0 1 rfl rfl)
theorem dX1_denials_4 : decode cX1_denials 4 = .ok (.ifnonnull 7, 3) := dk_199 0 7 (dk_at dksX1_denials_0 4 rfl rfl)
theorem dX1_denials_7 : decode cX1_denials 7 = .ok (.iconst 0, 1) := dk_3 (dk_at dksX1_denials_0 7 rfl rfl)
theorem dX1_denials_8 : decode cX1_denials 8 = .ok (.goto 18, 3) := dk_167 0 18 (dk_at dksX1_denials_0 8 rfl rfl)
theorem dX1_denials_11 : decode cX1_denials 11 = .ok (.aload_n 0, 1) := dk_42 (dk_at dksX1_denials_0 11 rfl rfl)
theorem dX1_denials_12 : decode cX1_denials 12 = .ok (.getfield 46, 3) := dk_180 0 46 (dk_at dksX1_denials_0 12 rfl rfl)
theorem dX1_denials_15 : decode cX1_denials 15 = .ok (.getfield 58, 3) := dk_180 0 58 (dk_at dksX1_denials_0 15 rfl rfl)
theorem dX1_denials_18 : decode cX1_denials 18 = .ok (.getfield 123, 3) := dk_180 0 123 (dk_at dksX1_denials_0 18 rfl rfl)
theorem dX1_denials_21 : decode cX1_denials 21 = .ok (.invokeinterface 67 1, 5) := by decide +kernel
theorem dX1_denials_26 : decode cX1_denials 26 = .ok (.ireturn, 1) := dk_172 (dk_at dksX1_denials_1 5 rfl rfl)
abbrev cX1_time : ByteArray := prog_1_method_22_code
def yX1_time : MethodName := ⟨RX1, "time", "()I"⟩
def dkwX1_time_0 : List UInt8 := [42, 180, 0, 46, 199, 0, 7, 3, 167, 0, 10, 42, 180, 0, 46, 180, 0, 126, 172]
abbrev dktX1_time_0 : List UInt8 := dkwX1_time_0 ++ []
theorem dksX1_time_0 : cX1_time.data.toList.drop 0 = dktX1_time_0 := by decide +kernel
theorem dX1_time_0 : decode cX1_time 0 = .ok (.aload_n 0, 1) := dk_42 (dk_at dksX1_time_0 0 rfl rfl)
theorem dX1_time_1 : decode cX1_time 1 = .ok (.getfield 46, 3) := dk_180 0 46 (dk_at dksX1_time_0 1 rfl rfl)
theorem dX1_time_4 : decode cX1_time 4 = .ok (.ifnonnull 7, 3) := dk_199 0 7 (dk_at dksX1_time_0 4 rfl rfl)
theorem dX1_time_7 : decode cX1_time 7 = .ok (.iconst 0, 1) := dk_3 (dk_at dksX1_time_0 7 rfl rfl)
theorem dX1_time_8 : decode cX1_time 8 = .ok (.goto 10, 3) := dk_167 0 10 (dk_at dksX1_time_0 8 rfl rfl)
theorem dX1_time_11 : decode cX1_time 11 = .ok (.aload_n 0, 1) := dk_42 (dk_at dksX1_time_0 11 rfl rfl)
theorem dX1_time_12 : decode cX1_time 12 = .ok (.getfield 46, 3) := dk_180 0 46 (dk_at dksX1_time_0 12 rfl rfl)
theorem dX1_time_15 : decode cX1_time 15 = .ok (.getfield 126, 3) := dk_180 0 126 (dk_at dksX1_time_0 15 rfl rfl)
theorem dX1_time_18 : decode cX1_time 18 = .ok (.ireturn, 1) := dk_172 (dk_at dksX1_time_0 18 rfl rfl)
abbrev cX1_waiting : ByteArray := prog_1_method_47_code
def yX1_waiting : MethodName := ⟨RX1, "waiting", "()I"⟩
def dkwX1_waiting_0 : List UInt8 := [42, 180, 0, 46, 199, 0, 7, 3, 167, 0, 11, 42, 180, 0, 46, 4, 182, 1, 1, 172]
abbrev dktX1_waiting_0 : List UInt8 := dkwX1_waiting_0 ++ []
theorem dksX1_waiting_0 : cX1_waiting.data.toList.drop 0 = dktX1_waiting_0 := by decide +kernel
theorem dX1_waiting_0 : decode cX1_waiting 0 = .ok (.aload_n 0, 1) := dk_42 (dk_at dksX1_waiting_0 0 rfl rfl)
theorem dX1_waiting_1 : decode cX1_waiting 1 = .ok (.getfield 46, 3) := dk_180 0 46 (dk_at dksX1_waiting_0 1 rfl rfl)
theorem dX1_waiting_4 : decode cX1_waiting 4 = .ok (.ifnonnull 7, 3) := dk_199 0 7 (dk_at dksX1_waiting_0 4 rfl rfl)
theorem dX1_waiting_7 : decode cX1_waiting 7 = .ok (.iconst 0, 1) := dk_3 (dk_at dksX1_waiting_0 7 rfl rfl)
theorem dX1_waiting_8 : decode cX1_waiting 8 = .ok (.goto 11, 3) := dk_167 0 11 (dk_at dksX1_waiting_0 8 rfl rfl)
theorem dX1_waiting_11 : decode cX1_waiting 11 = .ok (.aload_n 0, 1) := dk_42 (dk_at dksX1_waiting_0 11 rfl rfl)
theorem dX1_waiting_12 : decode cX1_waiting 12 = .ok (.getfield 46, 3) := dk_180 0 46 (dk_at dksX1_waiting_0 12 rfl rfl)
theorem dX1_waiting_15 : decode cX1_waiting 15 = .ok (.iconst 1, 1) := dk_4 (dk_at dksX1_waiting_0 15 rfl rfl)
theorem dX1_waiting_16 : decode cX1_waiting 16 = .ok (.invokevirtual 257, 3) := dk_182 1 1 (dk_at dksX1_waiting_0 16 rfl rfl)
theorem dX1_waiting_19 : decode cX1_waiting 19 = .ok (.ireturn, 1) := dk_172 (dk_at dksX1_waiting_0 19 rfl rfl)
abbrev cX1_moves : ByteArray := prog_1_method_50_code
def yX1_moves : MethodName := ⟨RX1, "moves", "()I"⟩
def dkwX1_moves_0 : List UInt8 := [42, 180, 0, 46, 199, 0, 7, 3, 167, 0, 10, 42, 180, 0, 46, 180, 1, 10, 172]
abbrev dktX1_moves_0 : List UInt8 := dkwX1_moves_0 ++ []
theorem dksX1_moves_0 : cX1_moves.data.toList.drop 0 = dktX1_moves_0 := by decide +kernel
theorem dX1_moves_0 : decode cX1_moves 0 = .ok (.aload_n 0, 1) := dk_42 (dk_at dksX1_moves_0 0 rfl rfl)
theorem dX1_moves_1 : decode cX1_moves 1 = .ok (.getfield 46, 3) := dk_180 0 46 (dk_at dksX1_moves_0 1 rfl rfl)
theorem dX1_moves_4 : decode cX1_moves 4 = .ok (.ifnonnull 7, 3) := dk_199 0 7 (dk_at dksX1_moves_0 4 rfl rfl)
theorem dX1_moves_7 : decode cX1_moves 7 = .ok (.iconst 0, 1) := dk_3 (dk_at dksX1_moves_0 7 rfl rfl)
theorem dX1_moves_8 : decode cX1_moves 8 = .ok (.goto 10, 3) := dk_167 0 10 (dk_at dksX1_moves_0 8 rfl rfl)
theorem dX1_moves_11 : decode cX1_moves 11 = .ok (.aload_n 0, 1) := dk_42 (dk_at dksX1_moves_0 11 rfl rfl)
theorem dX1_moves_12 : decode cX1_moves 12 = .ok (.getfield 46, 3) := dk_180 0 46 (dk_at dksX1_moves_0 12 rfl rfl)
theorem dX1_moves_15 : decode cX1_moves 15 = .ok (.getfield 266, 3) := dk_180 1 10 (dk_at dksX1_moves_0 15 rfl rfl)
theorem dX1_moves_18 : decode cX1_moves 18 = .ok (.ireturn, 1) := dk_172 (dk_at dksX1_moves_0 18 rfl rfl)
abbrev cX1_leaseEnds : ByteArray := prog_1_method_51_code
def yX1_leaseEnds : MethodName := ⟨RX1, "leaseEnds", "()I"⟩
def dkwX1_leaseEnds_0 : List UInt8 := [42, 180, 0, 46, 199, 0, 7, 3, 167, 0, 10, 42, 180, 0, 46, 180, 1, 13, 172]
abbrev dktX1_leaseEnds_0 : List UInt8 := dkwX1_leaseEnds_0 ++ []
theorem dksX1_leaseEnds_0 : cX1_leaseEnds.data.toList.drop 0 = dktX1_leaseEnds_0 := by decide +kernel
theorem dX1_leaseEnds_0 : decode cX1_leaseEnds 0 = .ok (.aload_n 0, 1) := dk_42 (dk_at dksX1_leaseEnds_0 0 rfl rfl)
theorem dX1_leaseEnds_1 : decode cX1_leaseEnds 1 = .ok (.getfield 46, 3) := dk_180 0 46 (dk_at dksX1_leaseEnds_0 1 rfl rfl)
theorem dX1_leaseEnds_4 : decode cX1_leaseEnds 4 = .ok (.ifnonnull 7, 3) := dk_199 0 7 (dk_at dksX1_leaseEnds_0 4 rfl rfl)
theorem dX1_leaseEnds_7 : decode cX1_leaseEnds 7 = .ok (.iconst 0, 1) := dk_3 (dk_at dksX1_leaseEnds_0 7 rfl rfl)
theorem dX1_leaseEnds_8 : decode cX1_leaseEnds 8 = .ok (.goto 10, 3) := dk_167 0 10 (dk_at dksX1_leaseEnds_0 8 rfl rfl)
theorem dX1_leaseEnds_11 : decode cX1_leaseEnds 11 = .ok (.aload_n 0, 1) := dk_42 (dk_at dksX1_leaseEnds_0 11 rfl rfl)
theorem dX1_leaseEnds_12 : decode cX1_leaseEnds 12 = .ok (.getfield 46, 3) := dk_180 0 46 (dk_at dksX1_leaseEnds_0 12 rfl rfl)
theorem dX1_leaseEnds_15 : decode cX1_leaseEnds 15 = .ok (.getfield 269, 3) := dk_180 1 13 (dk_at dksX1_leaseEnds_0 15 rfl rfl)
theorem dX1_leaseEnds_18 : decode cX1_leaseEnds 18 = .ok (.ireturn, 1) := dk_172 (dk_at dksX1_leaseEnds_0 18 rfl rfl)
abbrev cX1_events : ByteArray := prog_1_method_52_code
def yX1_events : MethodName := ⟨RX1, "events", "()I"⟩
def dkwX1_events_0 : List UInt8 := [42, 180, 0, 46, 199, 0, 7, 3, 167, 0, 10, 42, 180, 0, 46, 180, 1, 16, 172]
abbrev dktX1_events_0 : List UInt8 := dkwX1_events_0 ++ []
theorem dksX1_events_0 : cX1_events.data.toList.drop 0 = dktX1_events_0 := by decide +kernel
theorem dX1_events_0 : decode cX1_events 0 = .ok (.aload_n 0, 1) := dk_42 (dk_at dksX1_events_0 0 rfl rfl)
theorem dX1_events_1 : decode cX1_events 1 = .ok (.getfield 46, 3) := dk_180 0 46 (dk_at dksX1_events_0 1 rfl rfl)
theorem dX1_events_4 : decode cX1_events 4 = .ok (.ifnonnull 7, 3) := dk_199 0 7 (dk_at dksX1_events_0 4 rfl rfl)
theorem dX1_events_7 : decode cX1_events 7 = .ok (.iconst 0, 1) := dk_3 (dk_at dksX1_events_0 7 rfl rfl)
theorem dX1_events_8 : decode cX1_events 8 = .ok (.goto 10, 3) := dk_167 0 10 (dk_at dksX1_events_0 8 rfl rfl)
theorem dX1_events_11 : decode cX1_events 11 = .ok (.aload_n 0, 1) := dk_42 (dk_at dksX1_events_0 11 rfl rfl)
theorem dX1_events_12 : decode cX1_events 12 = .ok (.getfield 46, 3) := dk_180 0 46 (dk_at dksX1_events_0 12 rfl rfl)
theorem dX1_events_15 : decode cX1_events 15 = .ok (.getfield 272, 3) := dk_180 1 16 (dk_at dksX1_events_0 15 rfl rfl)
theorem dX1_events_18 : decode cX1_events 18 = .ok (.ireturn, 1) := dk_172 (dk_at dksX1_events_0 18 rfl rfl)
abbrev cX1_undoable : ByteArray := prog_1_method_72_code
def yX1_undoable : MethodName := ⟨RX1, "undoable", "()I"⟩
def dkwX1_undoable_0 : List UInt8 := [42, 180, 0, 27, 185, 0, 67, 1, 0, 172]
abbrev dktX1_undoable_0 : List UInt8 := dkwX1_undoable_0 ++ []
theorem dksX1_undoable_0 : cX1_undoable.data.toList.drop 0 = dktX1_undoable_0 := by decide +kernel
theorem dX1_undoable_0 : decode cX1_undoable 0 = .ok (.aload_n 0, 1) := dk_42 (dk_at dksX1_undoable_0 0 rfl rfl)
theorem dX1_undoable_1 : decode cX1_undoable 1 = .ok (.getfield 27, 3) := dk_180 0 27 (dk_at dksX1_undoable_0 1 rfl rfl)
theorem dX1_undoable_4 : decode cX1_undoable 4 = .ok (.invokeinterface 67 1, 5) := by decide +kernel
theorem dX1_undoable_9 : decode cX1_undoable 9 = .ok (.ireturn, 1) := dk_172 (dk_at dksX1_undoable_0 9 rfl rfl)
abbrev cX1_load : ByteArray := prog_1_method_13_code
def yX1_load : MethodName := ⟨RX1, "load", "(I)I"⟩
def dkwX1_load_5 : List UInt8 := [187, 0, 37, 89, 183, 0, 39, 191, 78, 42, 3, 181, 0, 98, 45, 191]
abbrev dktX1_load_5 : List UInt8 := dkwX1_load_5 ++ []
def dkwX1_load_4 : List UInt8 := [42, 3, 181, 0, 98, 28, 172, 77, 42, 44, 180, 0, 117, 181, 0, 101, 42, 44, 180, 0, 120, 181, 0, 20]
abbrev dktX1_load_4 : List UInt8 := dkwX1_load_4 ++ dktX1_load_5
def dkwX1_load_3 : List UInt8 := [1, 83, 132, 2, 1, 167, 255, 241, 42, 180, 0, 46, 180, 0, 58, 180, 0, 62, 185, 0, 67, 1, 0, 61]
abbrev dktX1_load_3 : List UInt8 := dkwX1_load_3 ++ dktX1_load_4
def dkwX1_load_2 : List UInt8 := [181, 0, 46, 42, 180, 0, 27, 185, 0, 112, 1, 0, 3, 61, 28, 5, 162, 0, 16, 42, 180, 0, 33, 28]
abbrev dktX1_load_2 : List UInt8 := dkwX1_load_2 ++ dktX1_load_3
def dkwX1_load_1 : List UInt8 := [181, 0, 101, 42, 2, 181, 0, 20, 42, 187, 0, 104, 89, 42, 180, 0, 16, 27, 183, 0, 106, 182, 0, 109]
abbrev dktX1_load_1 : List UInt8 := dkwX1_load_1 ++ dktX1_load_2
def dkwX1_load_0 : List UInt8 := [4, 188, 4, 89, 3, 27, 133, 9, 42, 180, 0, 98, 133, 184, 0, 73, 84, 184, 0, 77, 42, 3]
abbrev dktX1_load_0 : List UInt8 := dkwX1_load_0 ++ dktX1_load_1
theorem dksX1_load_0 : cX1_load.data.toList.drop 0 = dktX1_load_0 := by decide +kernel
theorem dksX1_load_1 : cX1_load.data.toList.drop 22 = dktX1_load_1 := dk_seg dksX1_load_0 22 rfl rfl
theorem dksX1_load_2 : cX1_load.data.toList.drop 46 = dktX1_load_2 := dk_seg dksX1_load_1 24 rfl rfl
theorem dksX1_load_3 : cX1_load.data.toList.drop 70 = dktX1_load_3 := dk_seg dksX1_load_2 24 rfl rfl
theorem dksX1_load_4 : cX1_load.data.toList.drop 94 = dktX1_load_4 := dk_seg dksX1_load_3 24 rfl rfl
theorem dksX1_load_5 : cX1_load.data.toList.drop 118 = dktX1_load_5 := dk_seg dksX1_load_4 24 rfl rfl
theorem dX1_load_0 : decode cX1_load 0 = .ok (.iconst 1, 1) := dk_4 (dk_at dksX1_load_0 0 rfl rfl)
theorem dX1_load_1 : decode cX1_load 1 = .ok (.newarray .boolean, 2) := dk_188_4 (dk_at dksX1_load_0 1 rfl rfl)
theorem dX1_load_3 : decode cX1_load 3 = .ok (.dup, 1) := dk_89 (dk_at dksX1_load_0 3 rfl rfl)
theorem dX1_load_4 : decode cX1_load 4 = .ok (.iconst 0, 1) := dk_3 (dk_at dksX1_load_0 4 rfl rfl)
theorem dX1_load_5 : decode cX1_load 5 = .ok (.iload_n 1, 1) := dk_27 (dk_at dksX1_load_0 5 rfl rfl)
theorem dX1_load_6 : decode cX1_load 6 = .ok (.i2l, 1) := dk_133 (dk_at dksX1_load_0 6 rfl rfl)
theorem dX1_load_7 : decode cX1_load 7 = .ok (.lconst 0, 1) := dk_9 (dk_at dksX1_load_0 7 rfl rfl)
theorem dX1_load_8 : decode cX1_load 8 = .ok (.aload_n 0, 1) := dk_42 (dk_at dksX1_load_0 8 rfl rfl)
theorem dX1_load_9 : decode cX1_load 9 = .ok (.getfield 98, 3) := dk_180 0 98 (dk_at dksX1_load_0 9 rfl rfl)
theorem dX1_load_12 : decode cX1_load 12 = .ok (.i2l, 1) := dk_133 (dk_at dksX1_load_0 12 rfl rfl)
theorem dX1_load_13 : decode cX1_load 13 = .ok (.invokestatic 73, 3) := dk_184 0 73 (dk_at dksX1_load_0 13 rfl rfl)
theorem dX1_load_16 : decode cX1_load 16 = .ok (.bastore, 1) := dk_84 (dk_at dksX1_load_0 16 rfl rfl)
theorem dX1_load_17 : decode cX1_load 17 = .ok (.invokestatic 77, 3) := dk_184 0 77 (dk_at dksX1_load_0 17 rfl rfl)
theorem dX1_load_20 : decode cX1_load 20 = .ok (.aload_n 0, 1) := dk_42 (dk_at dksX1_load_0 20 rfl rfl)
theorem dX1_load_21 : decode cX1_load 21 = .ok (.iconst 0, 1) := dk_3 (dk_at dksX1_load_0 21 rfl rfl)
theorem dX1_load_22 : decode cX1_load 22 = .ok (.putfield 101, 3) := dk_181 0 101 (dk_at dksX1_load_1 0 rfl rfl)
theorem dX1_load_25 : decode cX1_load 25 = .ok (.aload_n 0, 1) := dk_42 (dk_at dksX1_load_1 3 rfl rfl)
theorem dX1_load_26 : decode cX1_load 26 = .ok (.iconst (-1), 1) := dk_2 (dk_at dksX1_load_1 4 rfl rfl)
theorem dX1_load_27 : decode cX1_load 27 = .ok (.putfield 20, 3) := dk_181 0 20 (dk_at dksX1_load_1 5 rfl rfl)
theorem dX1_load_30 : decode cX1_load 30 = .ok (.aload_n 0, 1) := dk_42 (dk_at dksX1_load_1 8 rfl rfl)
theorem dX1_load_31 : decode cX1_load 31 = .ok (.new 104, 3) := dk_187 0 104 (dk_at dksX1_load_1 9 rfl rfl)
theorem dX1_load_34 : decode cX1_load 34 = .ok (.dup, 1) := dk_89 (dk_at dksX1_load_1 12 rfl rfl)
theorem dX1_load_35 : decode cX1_load 35 = .ok (.aload_n 0, 1) := dk_42 (dk_at dksX1_load_1 13 rfl rfl)
theorem dX1_load_36 : decode cX1_load 36 = .ok (.getfield 16, 3) := dk_180 0 16 (dk_at dksX1_load_1 14 rfl rfl)
theorem dX1_load_39 : decode cX1_load 39 = .ok (.iload_n 1, 1) := dk_27 (dk_at dksX1_load_1 17 rfl rfl)
theorem dX1_load_40 : decode cX1_load 40 = .ok (.invokespecial 106, 3) := dk_183 0 106 (dk_at dksX1_load_1 18 rfl rfl)
theorem dX1_load_43 : decode cX1_load 43 = .ok (.invokevirtual 109, 3) := dk_182 0 109 (dk_at dksX1_load_1 21 rfl rfl)
theorem dX1_load_46 : decode cX1_load 46 = .ok (.putfield 46, 3) := dk_181 0 46 (dk_at dksX1_load_2 0 rfl rfl)
theorem dX1_load_49 : decode cX1_load 49 = .ok (.aload_n 0, 1) := dk_42 (dk_at dksX1_load_2 3 rfl rfl)
theorem dX1_load_50 : decode cX1_load 50 = .ok (.getfield 27, 3) := dk_180 0 27 (dk_at dksX1_load_2 4 rfl rfl)
theorem dX1_load_53 : decode cX1_load 53 = .ok (.invokeinterface 112 1, 5) := by decide +kernel
theorem dX1_load_58 : decode cX1_load 58 = .ok (.iconst 0, 1) := dk_3 (dk_at dksX1_load_2 12 rfl rfl)
theorem dX1_load_59 : decode cX1_load 59 = .ok (.istore_n 2, 1) := dk_61 (dk_at dksX1_load_2 13 rfl rfl)
theorem dX1_load_60 : decode cX1_load 60 = .ok (.iload_n 2, 1) := dk_28 (dk_at dksX1_load_2 14 rfl rfl)
theorem dX1_load_61 : decode cX1_load 61 = .ok (.iconst 2, 1) := dk_5 (dk_at dksX1_load_2 15 rfl rfl)
theorem dX1_load_62 : decode cX1_load 62 = .ok (.if_icmp .ge 16, 3) := dk_162 0 16 (dk_at dksX1_load_2 16 rfl rfl)
theorem dX1_load_65 : decode cX1_load 65 = .ok (.aload_n 0, 1) := dk_42 (dk_at dksX1_load_2 19 rfl rfl)
theorem dX1_load_66 : decode cX1_load 66 = .ok (.getfield 33, 3) := dk_180 0 33 (dk_at dksX1_load_2 20 rfl rfl)
theorem dX1_load_69 : decode cX1_load 69 = .ok (.iload_n 2, 1) := dk_28 (dk_at dksX1_load_2 23 rfl rfl)
theorem dX1_load_70 : decode cX1_load 70 = .ok (.aconst_null, 1) := dk_1 (dk_at dksX1_load_3 0 rfl rfl)
theorem dX1_load_71 : decode cX1_load 71 = .ok (.aastore, 1) := dk_83 (dk_at dksX1_load_3 1 rfl rfl)
theorem dX1_load_72 : decode cX1_load 72 = .ok (.iinc 2 1, 3) := dk_132 2 1 (dk_at dksX1_load_3 2 rfl rfl)
theorem dX1_load_75 : decode cX1_load 75 = .ok (.goto (-15), 3) := dk_167 255 241 (dk_at dksX1_load_3 5 rfl rfl)
theorem dX1_load_78 : decode cX1_load 78 = .ok (.aload_n 0, 1) := dk_42 (dk_at dksX1_load_3 8 rfl rfl)
theorem dX1_load_79 : decode cX1_load 79 = .ok (.getfield 46, 3) := dk_180 0 46 (dk_at dksX1_load_3 9 rfl rfl)
theorem dX1_load_82 : decode cX1_load 82 = .ok (.getfield 58, 3) := dk_180 0 58 (dk_at dksX1_load_3 12 rfl rfl)
theorem dX1_load_85 : decode cX1_load 85 = .ok (.getfield 62, 3) := dk_180 0 62 (dk_at dksX1_load_3 15 rfl rfl)
theorem dX1_load_88 : decode cX1_load 88 = .ok (.invokeinterface 67 1, 5) := by decide +kernel
theorem dX1_load_93 : decode cX1_load 93 = .ok (.istore_n 2, 1) := dk_61 (dk_at dksX1_load_3 23 rfl rfl)
theorem dX1_load_94 : decode cX1_load 94 = .ok (.aload_n 0, 1) := dk_42 (dk_at dksX1_load_4 0 rfl rfl)
theorem dX1_load_95 : decode cX1_load 95 = .ok (.iconst 0, 1) := dk_3 (dk_at dksX1_load_4 1 rfl rfl)
theorem dX1_load_96 : decode cX1_load 96 = .ok (.putfield 98, 3) := dk_181 0 98 (dk_at dksX1_load_4 2 rfl rfl)
theorem dX1_load_99 : decode cX1_load 99 = .ok (.iload_n 2, 1) := dk_28 (dk_at dksX1_load_4 5 rfl rfl)
theorem dX1_load_100 : decode cX1_load 100 = .ok (.ireturn, 1) := dk_172 (dk_at dksX1_load_4 6 rfl rfl)
theorem dX1_load_101 : decode cX1_load 101 = .ok (.astore_n 2, 1) := dk_77 (dk_at dksX1_load_4 7 rfl rfl)
theorem dX1_load_102 : decode cX1_load 102 = .ok (.aload_n 0, 1) := dk_42 (dk_at dksX1_load_4 8 rfl rfl)
theorem dX1_load_103 : decode cX1_load 103 = .ok (.aload_n 2, 1) := dk_44 (dk_at dksX1_load_4 9 rfl rfl)
theorem dX1_load_104 : decode cX1_load 104 = .ok (.getfield 117, 3) := dk_180 0 117 (dk_at dksX1_load_4 10 rfl rfl)
theorem dX1_load_107 : decode cX1_load 107 = .ok (.putfield 101, 3) := dk_181 0 101 (dk_at dksX1_load_4 13 rfl rfl)
theorem dX1_load_110 : decode cX1_load 110 = .ok (.aload_n 0, 1) := dk_42 (dk_at dksX1_load_4 16 rfl rfl)
theorem dX1_load_111 : decode cX1_load 111 = .ok (.aload_n 2, 1) := dk_44 (dk_at dksX1_load_4 17 rfl rfl)
theorem dX1_load_112 : decode cX1_load 112 = .ok (.getfield 120, 3) := dk_180 0 120 (dk_at dksX1_load_4 18 rfl rfl)
theorem dX1_load_115 : decode cX1_load 115 = .ok (.putfield 20, 3) := dk_181 0 20 (dk_at dksX1_load_4 21 rfl rfl)
theorem dX1_load_118 : decode cX1_load 118 = .ok (.new 37, 3) := dk_187 0 37 (dk_at dksX1_load_5 0 rfl rfl)
theorem dX1_load_121 : decode cX1_load 121 = .ok (.dup, 1) := dk_89 (dk_at dksX1_load_5 3 rfl rfl)
theorem dX1_load_122 : decode cX1_load 122 = .ok (.invokespecial 39, 3) := dk_183 0 39 (dk_at dksX1_load_5 4 rfl rfl)
theorem dX1_load_125 : decode cX1_load 125 = .ok (.athrow, 1) := dk_191 (dk_at dksX1_load_5 7 rfl rfl)
theorem dX1_load_126 : decode cX1_load 126 = .ok (.astore_n 3, 1) := dk_78 (dk_at dksX1_load_5 8 rfl rfl)
theorem dX1_load_127 : decode cX1_load 127 = .ok (.aload_n 0, 1) := dk_42 (dk_at dksX1_load_5 9 rfl rfl)
theorem dX1_load_128 : decode cX1_load 128 = .ok (.iconst 0, 1) := dk_3 (dk_at dksX1_load_5 10 rfl rfl)
theorem dX1_load_129 : decode cX1_load 129 = .ok (.putfield 98, 3) := dk_181 0 98 (dk_at dksX1_load_5 11 rfl rfl)
theorem dX1_load_132 : decode cX1_load 132 = .ok (.aload_n 3, 1) := dk_45 (dk_at dksX1_load_5 14 rfl rfl)
theorem dX1_load_133 : decode cX1_load 133 = .ok (.athrow, 1) := dk_191 (dk_at dksX1_load_5 15 rfl rfl)
abbrev cX1_in : ByteArray := prog_1_method_1_code
def yX1_in : MethodName := ⟨RX1, "in", "(JJJ)Z"⟩
def dkwX1_in_0 : List UInt8 := [30, 32, 148, 155, 0, 14, 30, 22, 4, 148, 157, 0, 7, 4, 167, 0, 4, 3, 172]
abbrev dktX1_in_0 : List UInt8 := dkwX1_in_0 ++ []
theorem dksX1_in_0 : cX1_in.data.toList.drop 0 = dktX1_in_0 := by decide +kernel
theorem dX1_in_0 : decode cX1_in 0 = .ok (.lload_n 0, 1) := dk_30 (dk_at dksX1_in_0 0 rfl rfl)
theorem dX1_in_1 : decode cX1_in 1 = .ok (.lload_n 2, 1) := dk_32 (dk_at dksX1_in_0 1 rfl rfl)
theorem dX1_in_2 : decode cX1_in 2 = .ok (.lcmp, 1) := dk_148 (dk_at dksX1_in_0 2 rfl rfl)
theorem dX1_in_3 : decode cX1_in 3 = .ok (.ifCond .lt 14, 3) := dk_155 0 14 (dk_at dksX1_in_0 3 rfl rfl)
theorem dX1_in_6 : decode cX1_in 6 = .ok (.lload_n 0, 1) := dk_30 (dk_at dksX1_in_0 6 rfl rfl)
theorem dX1_in_7 : decode cX1_in 7 = .ok (.lload 4, 2) := dk_22 4 (dk_at dksX1_in_0 7 rfl rfl)
theorem dX1_in_9 : decode cX1_in 9 = .ok (.lcmp, 1) := dk_148 (dk_at dksX1_in_0 9 rfl rfl)
theorem dX1_in_10 : decode cX1_in 10 = .ok (.ifCond .gt 7, 3) := dk_157 0 7 (dk_at dksX1_in_0 10 rfl rfl)
theorem dX1_in_13 : decode cX1_in 13 = .ok (.iconst 1, 1) := dk_4 (dk_at dksX1_in_0 13 rfl rfl)
theorem dX1_in_14 : decode cX1_in 14 = .ok (.goto 4, 3) := dk_167 0 4 (dk_at dksX1_in_0 14 rfl rfl)
theorem dX1_in_17 : decode cX1_in 17 = .ok (.iconst 0, 1) := dk_3 (dk_at dksX1_in_0 17 rfl rfl)
theorem dX1_in_18 : decode cX1_in 18 = .ok (.ireturn, 1) := dk_172 (dk_at dksX1_in_0 18 rfl rfl)
abbrev cX1_checkIndex : ByteArray := prog_1_method_4_code
def yX1_checkIndex : MethodName := ⟨RX1, "checkIndex", "([Z)V"⟩
def dkwX1_checkIndex_1 : List UInt8 := [187, 0, 40, 89, 183, 0, 42, 191, 132, 3, 1, 167, 255, 230, 177]
abbrev dktX1_checkIndex_1 : List UInt8 := dkwX1_checkIndex_1 ++ []
def dkwX1_checkIndex_0 : List UInt8 := [42, 76, 43, 190, 61, 3, 62, 29, 28, 162, 0, 27, 43, 29, 51, 54, 4, 21, 4, 154, 0, 11]
abbrev dktX1_checkIndex_0 : List UInt8 := dkwX1_checkIndex_0 ++ dktX1_checkIndex_1
theorem dksX1_checkIndex_0 : cX1_checkIndex.data.toList.drop 0 = dktX1_checkIndex_0 := by decide +kernel
theorem dksX1_checkIndex_1 : cX1_checkIndex.data.toList.drop 22 = dktX1_checkIndex_1 := dk_seg dksX1_checkIndex_0 22 rfl rfl
theorem dX1_checkIndex_0 : decode cX1_checkIndex 0 = .ok (.aload_n 0, 1) := dk_42 (dk_at dksX1_checkIndex_0 0 rfl rfl)
theorem dX1_checkIndex_1 : decode cX1_checkIndex 1 = .ok (.astore_n 1, 1) := dk_76 (dk_at dksX1_checkIndex_0 1 rfl rfl)
theorem dX1_checkIndex_2 : decode cX1_checkIndex 2 = .ok (.aload_n 1, 1) := dk_43 (dk_at dksX1_checkIndex_0 2 rfl rfl)
theorem dX1_checkIndex_3 : decode cX1_checkIndex 3 = .ok (.arraylength, 1) := dk_190 (dk_at dksX1_checkIndex_0 3 rfl rfl)
theorem dX1_checkIndex_4 : decode cX1_checkIndex 4 = .ok (.istore_n 2, 1) := dk_61 (dk_at dksX1_checkIndex_0 4 rfl rfl)
theorem dX1_checkIndex_5 : decode cX1_checkIndex 5 = .ok (.iconst 0, 1) := dk_3 (dk_at dksX1_checkIndex_0 5 rfl rfl)
theorem dX1_checkIndex_6 : decode cX1_checkIndex 6 = .ok (.istore_n 3, 1) := dk_62 (dk_at dksX1_checkIndex_0 6 rfl rfl)
theorem dX1_checkIndex_7 : decode cX1_checkIndex 7 = .ok (.iload_n 3, 1) := dk_29 (dk_at dksX1_checkIndex_0 7 rfl rfl)
theorem dX1_checkIndex_8 : decode cX1_checkIndex 8 = .ok (.iload_n 2, 1) := dk_28 (dk_at dksX1_checkIndex_0 8 rfl rfl)
theorem dX1_checkIndex_9 : decode cX1_checkIndex 9 = .ok (.if_icmp .ge 27, 3) := dk_162 0 27 (dk_at dksX1_checkIndex_0 9 rfl rfl)
theorem dX1_checkIndex_12 : decode cX1_checkIndex 12 = .ok (.aload_n 1, 1) := dk_43 (dk_at dksX1_checkIndex_0 12 rfl rfl)
theorem dX1_checkIndex_13 : decode cX1_checkIndex 13 = .ok (.iload_n 3, 1) := dk_29 (dk_at dksX1_checkIndex_0 13 rfl rfl)
theorem dX1_checkIndex_14 : decode cX1_checkIndex 14 = .ok (.baload, 1) := dk_51 (dk_at dksX1_checkIndex_0 14 rfl rfl)
theorem dX1_checkIndex_15 : decode cX1_checkIndex 15 = .ok (.istore 4, 2) := dk_54 4 (dk_at dksX1_checkIndex_0 15 rfl rfl)
theorem dX1_checkIndex_17 : decode cX1_checkIndex 17 = .ok (.iload 4, 2) := dk_21 4 (dk_at dksX1_checkIndex_0 17 rfl rfl)
theorem dX1_checkIndex_19 : decode cX1_checkIndex 19 = .ok (.ifCond .ne 11, 3) := dk_154 0 11 (dk_at dksX1_checkIndex_0 19 rfl rfl)
theorem dX1_checkIndex_22 : decode cX1_checkIndex 22 = .ok (.new 40, 3) := dk_187 0 40 (dk_at dksX1_checkIndex_1 0 rfl rfl)
theorem dX1_checkIndex_25 : decode cX1_checkIndex 25 = .ok (.dup, 1) := dk_89 (dk_at dksX1_checkIndex_1 3 rfl rfl)
theorem dX1_checkIndex_26 : decode cX1_checkIndex 26 = .ok (.invokespecial 42, 3) := dk_183 0 42 (dk_at dksX1_checkIndex_1 4 rfl rfl)
theorem dX1_checkIndex_29 : decode cX1_checkIndex 29 = .ok (.athrow, 1) := dk_191 (dk_at dksX1_checkIndex_1 7 rfl rfl)
theorem dX1_checkIndex_30 : decode cX1_checkIndex 30 = .ok (.iinc 3 1, 3) := dk_132 3 1 (dk_at dksX1_checkIndex_1 8 rfl rfl)
theorem dX1_checkIndex_33 : decode cX1_checkIndex 33 = .ok (.goto (-26), 3) := dk_167 255 230 (dk_at dksX1_checkIndex_1 11 rfl rfl)
theorem dX1_checkIndex_36 : decode cX1_checkIndex 36 = .ok (.return_, 1) := dk_177 (dk_at dksX1_checkIndex_1 14 rfl rfl)
abbrev cX1_isSensed : ByteArray := prog_1_method_23_code
def yX1_isSensed : MethodName := ⟨RX1, "isSensed", "(I)Z"⟩
def dkwX1_isSensed_1 : List UInt8 := [182, 0, 139, 172]
abbrev dktX1_isSensed_1 : List UInt8 := dkwX1_isSensed_1 ++ []
def dkwX1_isSensed_0 : List UInt8 := [42, 27, 182, 0, 129, 180, 0, 58, 42, 180, 0, 46, 180, 0, 81, 27, 185, 0, 133, 2, 0, 192, 0, 137]
abbrev dktX1_isSensed_0 : List UInt8 := dkwX1_isSensed_0 ++ dktX1_isSensed_1
theorem dksX1_isSensed_0 : cX1_isSensed.data.toList.drop 0 = dktX1_isSensed_0 := by decide +kernel
theorem dksX1_isSensed_1 : cX1_isSensed.data.toList.drop 24 = dktX1_isSensed_1 := dk_seg dksX1_isSensed_0 24 rfl rfl
theorem dX1_isSensed_0 : decode cX1_isSensed 0 = .ok (.aload_n 0, 1) := dk_42 (dk_at dksX1_isSensed_0 0 rfl rfl)
theorem dX1_isSensed_1 : decode cX1_isSensed 1 = .ok (.iload_n 1, 1) := dk_27 (dk_at dksX1_isSensed_0 1 rfl rfl)
theorem dX1_isSensed_2 : decode cX1_isSensed 2 = .ok (.invokevirtual 129, 3) := dk_182 0 129 (dk_at dksX1_isSensed_0 2 rfl rfl)
theorem dX1_isSensed_5 : decode cX1_isSensed 5 = .ok (.getfield 58, 3) := dk_180 0 58 (dk_at dksX1_isSensed_0 5 rfl rfl)
theorem dX1_isSensed_8 : decode cX1_isSensed 8 = .ok (.aload_n 0, 1) := dk_42 (dk_at dksX1_isSensed_0 8 rfl rfl)
theorem dX1_isSensed_9 : decode cX1_isSensed 9 = .ok (.getfield 46, 3) := dk_180 0 46 (dk_at dksX1_isSensed_0 9 rfl rfl)
theorem dX1_isSensed_12 : decode cX1_isSensed 12 = .ok (.getfield 81, 3) := dk_180 0 81 (dk_at dksX1_isSensed_0 12 rfl rfl)
theorem dX1_isSensed_15 : decode cX1_isSensed 15 = .ok (.iload_n 1, 1) := dk_27 (dk_at dksX1_isSensed_0 15 rfl rfl)
theorem dX1_isSensed_16 : decode cX1_isSensed 16 = .ok (.invokeinterface 133 2, 5) := by decide +kernel
theorem dX1_isSensed_21 : decode cX1_isSensed 21 = .ok (.checkcast 137, 3) := dk_192 0 137 (dk_at dksX1_isSensed_0 21 rfl rfl)
theorem dX1_isSensed_24 : decode cX1_isSensed 24 = .ok (.invokevirtual 139, 3) := dk_182 0 139 (dk_at dksX1_isSensed_1 0 rfl rfl)
theorem dX1_isSensed_27 : decode cX1_isSensed 27 = .ok (.ireturn, 1) := dk_172 (dk_at dksX1_isSensed_1 3 rfl rfl)
abbrev cX1_withIncumbent : ByteArray := prog_1_method_8_code
def yX1_withIncumbent : MethodName := ⟨RX1, "withIncumbent", "(I)LSpectrumAccess$State;"⟩
def dkwX1_withIncumbent_1 : List UInt8 := [184, 0, 73, 84, 184, 0, 77, 42, 180, 0, 46, 176]
abbrev dktX1_withIncumbent_1 : List UInt8 := dkwX1_withIncumbent_1 ++ []
def dkwX1_withIncumbent_0 : List UInt8 := [4, 188, 4, 89, 3, 27, 133, 9, 42, 182, 0, 54, 180, 0, 81, 185, 0, 67, 1, 0, 4, 100, 133]
abbrev dktX1_withIncumbent_0 : List UInt8 := dkwX1_withIncumbent_0 ++ dktX1_withIncumbent_1
theorem dksX1_withIncumbent_0 : cX1_withIncumbent.data.toList.drop 0 = dktX1_withIncumbent_0 := by decide +kernel
theorem dksX1_withIncumbent_1 : cX1_withIncumbent.data.toList.drop 23 = dktX1_withIncumbent_1 := dk_seg dksX1_withIncumbent_0 23 rfl rfl
theorem dX1_withIncumbent_0 : decode cX1_withIncumbent 0 = .ok (.iconst 1, 1) := dk_4 (dk_at dksX1_withIncumbent_0 0 rfl rfl)
theorem dX1_withIncumbent_1 : decode cX1_withIncumbent 1 = .ok (.newarray .boolean, 2) := dk_188_4 (dk_at dksX1_withIncumbent_0 1 rfl rfl)
theorem dX1_withIncumbent_3 : decode cX1_withIncumbent 3 = .ok (.dup, 1) := dk_89 (dk_at dksX1_withIncumbent_0 3 rfl rfl)
theorem dX1_withIncumbent_4 : decode cX1_withIncumbent 4 = .ok (.iconst 0, 1) := dk_3 (dk_at dksX1_withIncumbent_0 4 rfl rfl)
theorem dX1_withIncumbent_5 : decode cX1_withIncumbent 5 = .ok (.iload_n 1, 1) := dk_27 (dk_at dksX1_withIncumbent_0 5 rfl rfl)
theorem dX1_withIncumbent_6 : decode cX1_withIncumbent 6 = .ok (.i2l, 1) := dk_133 (dk_at dksX1_withIncumbent_0 6 rfl rfl)
theorem dX1_withIncumbent_7 : decode cX1_withIncumbent 7 = .ok (.lconst 0, 1) := dk_9 (dk_at dksX1_withIncumbent_0 7 rfl rfl)
theorem dX1_withIncumbent_8 : decode cX1_withIncumbent 8 = .ok (.aload_n 0, 1) := dk_42 (dk_at dksX1_withIncumbent_0 8 rfl rfl)
theorem dX1_withIncumbent_9 : decode cX1_withIncumbent 9 = .ok (.invokevirtual 54, 3) := dk_182 0 54 (dk_at dksX1_withIncumbent_0 9 rfl rfl)
theorem dX1_withIncumbent_12 : decode cX1_withIncumbent 12 = .ok (.getfield 81, 3) := dk_180 0 81 (dk_at dksX1_withIncumbent_0 12 rfl rfl)
theorem dX1_withIncumbent_15 : decode cX1_withIncumbent 15 = .ok (.invokeinterface 67 1, 5) := by decide +kernel
theorem dX1_withIncumbent_20 : decode cX1_withIncumbent 20 = .ok (.iconst 1, 1) := dk_4 (dk_at dksX1_withIncumbent_0 20 rfl rfl)
theorem dX1_withIncumbent_21 : decode cX1_withIncumbent 21 = .ok (.isub, 1) := dk_100 (dk_at dksX1_withIncumbent_0 21 rfl rfl)
theorem dX1_withIncumbent_22 : decode cX1_withIncumbent 22 = .ok (.i2l, 1) := dk_133 (dk_at dksX1_withIncumbent_0 22 rfl rfl)
theorem dX1_withIncumbent_23 : decode cX1_withIncumbent 23 = .ok (.invokestatic 73, 3) := dk_184 0 73 (dk_at dksX1_withIncumbent_1 0 rfl rfl)
theorem dX1_withIncumbent_26 : decode cX1_withIncumbent 26 = .ok (.bastore, 1) := dk_84 (dk_at dksX1_withIncumbent_1 3 rfl rfl)
theorem dX1_withIncumbent_27 : decode cX1_withIncumbent 27 = .ok (.invokestatic 77, 3) := dk_184 0 77 (dk_at dksX1_withIncumbent_1 4 rfl rfl)
theorem dX1_withIncumbent_30 : decode cX1_withIncumbent 30 = .ok (.aload_n 0, 1) := dk_42 (dk_at dksX1_withIncumbent_1 7 rfl rfl)
theorem dX1_withIncumbent_31 : decode cX1_withIncumbent 31 = .ok (.getfield 46, 3) := dk_180 0 46 (dk_at dksX1_withIncumbent_1 8 rfl rfl)
theorem dX1_withIncumbent_34 : decode cX1_withIncumbent 34 = .ok (.areturn, 1) := dk_176 (dk_at dksX1_withIncumbent_1 11 rfl rfl)
abbrev cX1_there : ByteArray := prog_1_method_6_code
def yX1_there : MethodName := ⟨RX1, "there", "()LSpectrumAccess$State;"⟩
def dkwX1_there_0 : List UInt8 := [42, 180, 0, 46, 198, 0, 7, 4, 167, 0, 4, 3, 184, 0, 50, 42, 180, 0, 46, 176]
abbrev dktX1_there_0 : List UInt8 := dkwX1_there_0 ++ []
theorem dksX1_there_0 : cX1_there.data.toList.drop 0 = dktX1_there_0 := by decide +kernel
theorem dX1_there_0 : decode cX1_there 0 = .ok (.aload_n 0, 1) := dk_42 (dk_at dksX1_there_0 0 rfl rfl)
theorem dX1_there_1 : decode cX1_there 1 = .ok (.getfield 46, 3) := dk_180 0 46 (dk_at dksX1_there_0 1 rfl rfl)
theorem dX1_there_4 : decode cX1_there 4 = .ok (.ifnull 7, 3) := dk_198 0 7 (dk_at dksX1_there_0 4 rfl rfl)
theorem dX1_there_7 : decode cX1_there 7 = .ok (.iconst 1, 1) := dk_4 (dk_at dksX1_there_0 7 rfl rfl)
theorem dX1_there_8 : decode cX1_there 8 = .ok (.goto 4, 3) := dk_167 0 4 (dk_at dksX1_there_0 8 rfl rfl)
theorem dX1_there_11 : decode cX1_there 11 = .ok (.iconst 0, 1) := dk_3 (dk_at dksX1_there_0 11 rfl rfl)
theorem dX1_there_12 : decode cX1_there 12 = .ok (.invokestatic 50, 3) := dk_184 0 50 (dk_at dksX1_there_0 12 rfl rfl)
theorem dX1_there_15 : decode cX1_there 15 = .ok (.aload_n 0, 1) := dk_42 (dk_at dksX1_there_0 15 rfl rfl)
theorem dX1_there_16 : decode cX1_there 16 = .ok (.getfield 46, 3) := dk_180 0 46 (dk_at dksX1_there_0 16 rfl rfl)
theorem dX1_there_19 : decode cX1_there 19 = .ok (.areturn, 1) := dk_176 (dk_at dksX1_there_0 19 rfl rfl)
abbrev cX1_checkState : ByteArray := prog_1_method_5_code
def yX1_checkState : MethodName := ⟨RX1, "checkState", "(Z)V"⟩
def dkwX1_checkState_0 : List UInt8 := [26, 154, 0, 11, 187, 0, 43, 89, 183, 0, 45, 191, 177]
abbrev dktX1_checkState_0 : List UInt8 := dkwX1_checkState_0 ++ []
theorem dksX1_checkState_0 : cX1_checkState.data.toList.drop 0 = dktX1_checkState_0 := by decide +kernel
theorem dX1_checkState_0 : decode cX1_checkState 0 = .ok (.iload_n 0, 1) := dk_26 (dk_at dksX1_checkState_0 0 rfl rfl)
theorem dX1_checkState_1 : decode cX1_checkState 1 = .ok (.ifCond .ne 11, 3) := dk_154 0 11 (dk_at dksX1_checkState_0 1 rfl rfl)
theorem dX1_checkState_4 : decode cX1_checkState 4 = .ok (.new 43, 3) := dk_187 0 43 (dk_at dksX1_checkState_0 4 rfl rfl)
theorem dX1_checkState_7 : decode cX1_checkState 7 = .ok (.dup, 1) := dk_89 (dk_at dksX1_checkState_0 7 rfl rfl)
theorem dX1_checkState_8 : decode cX1_checkState 8 = .ok (.invokespecial 45, 3) := dk_183 0 45 (dk_at dksX1_checkState_0 8 rfl rfl)
theorem dX1_checkState_11 : decode cX1_checkState 11 = .ok (.athrow, 1) := dk_191 (dk_at dksX1_checkState_0 11 rfl rfl)
theorem dX1_checkState_12 : decode cX1_checkState 12 = .ok (.return_, 1) := dk_177 (dk_at dksX1_checkState_0 12 rfl rfl)
abbrev cX1_isProtected : ByteArray := prog_1_method_24_code
def yX1_isProtected : MethodName := ⟨RX1, "isProtected", "(I)Z"⟩
def dkwX1_isProtected_0 : List UInt8 := [42, 27, 182, 0, 129, 27, 182, 0, 143, 172]
abbrev dktX1_isProtected_0 : List UInt8 := dkwX1_isProtected_0 ++ []
theorem dksX1_isProtected_0 : cX1_isProtected.data.toList.drop 0 = dktX1_isProtected_0 := by decide +kernel
theorem dX1_isProtected_0 : decode cX1_isProtected 0 = .ok (.aload_n 0, 1) := dk_42 (dk_at dksX1_isProtected_0 0 rfl rfl)
theorem dX1_isProtected_1 : decode cX1_isProtected 1 = .ok (.iload_n 1, 1) := dk_27 (dk_at dksX1_isProtected_0 1 rfl rfl)
theorem dX1_isProtected_2 : decode cX1_isProtected 2 = .ok (.invokevirtual 129, 3) := dk_182 0 129 (dk_at dksX1_isProtected_0 2 rfl rfl)
theorem dX1_isProtected_5 : decode cX1_isProtected 5 = .ok (.iload_n 1, 1) := dk_27 (dk_at dksX1_isProtected_0 5 rfl rfl)
theorem dX1_isProtected_6 : decode cX1_isProtected 6 = .ok (.invokevirtual 143, 3) := dk_182 0 143 (dk_at dksX1_isProtected_0 6 rfl rfl)
theorem dX1_isProtected_9 : decode cX1_isProtected 9 = .ok (.ireturn, 1) := dk_172 (dk_at dksX1_isProtected_0 9 rfl rfl)
abbrev cX1_headroom : ByteArray := prog_1_method_25_code
def yX1_headroom : MethodName := ⟨RX1, "headroom", "(I)I"⟩
def dkwX1_headroom_0 : List UInt8 := [42, 27, 182, 0, 129, 27, 182, 0, 146, 172]
abbrev dktX1_headroom_0 : List UInt8 := dkwX1_headroom_0 ++ []
theorem dksX1_headroom_0 : cX1_headroom.data.toList.drop 0 = dktX1_headroom_0 := by decide +kernel
theorem dX1_headroom_0 : decode cX1_headroom 0 = .ok (.aload_n 0, 1) := dk_42 (dk_at dksX1_headroom_0 0 rfl rfl)
theorem dX1_headroom_1 : decode cX1_headroom 1 = .ok (.iload_n 1, 1) := dk_27 (dk_at dksX1_headroom_0 1 rfl rfl)
theorem dX1_headroom_2 : decode cX1_headroom 2 = .ok (.invokevirtual 129, 3) := dk_182 0 129 (dk_at dksX1_headroom_0 2 rfl rfl)
theorem dX1_headroom_5 : decode cX1_headroom 5 = .ok (.iload_n 1, 1) := dk_27 (dk_at dksX1_headroom_0 5 rfl rfl)
theorem dX1_headroom_6 : decode cX1_headroom 6 = .ok (.invokevirtual 146, 3) := dk_182 0 146 (dk_at dksX1_headroom_0 6 rfl rfl)
theorem dX1_headroom_9 : decode cX1_headroom 9 = .ok (.ireturn, 1) := dk_172 (dk_at dksX1_headroom_0 9 rfl rfl)
abbrev cX1_licenceChannels : ByteArray := prog_1_method_26_code
def yX1_licenceChannels : MethodName := ⟨RX1, "licenceChannels", "(I)I"⟩
def dkwX1_licenceChannels_0 : List UInt8 := [42, 27, 182, 0, 150, 180, 0, 58, 180, 0, 84, 27, 185, 0, 133, 2, 0, 192, 0, 153, 180, 0, 155, 172]
abbrev dktX1_licenceChannels_0 : List UInt8 := dkwX1_licenceChannels_0 ++ []
theorem dksX1_licenceChannels_0 : cX1_licenceChannels.data.toList.drop 0 = dktX1_licenceChannels_0 := by decide +kernel
theorem dX1_licenceChannels_0 : decode cX1_licenceChannels 0 = .ok (.aload_n 0, 1) := dk_42 (dk_at dksX1_licenceChannels_0 0 rfl rfl)
theorem dX1_licenceChannels_1 : decode cX1_licenceChannels 1 = .ok (.iload_n 1, 1) := dk_27 (dk_at dksX1_licenceChannels_0 1 rfl rfl)
theorem dX1_licenceChannels_2 : decode cX1_licenceChannels 2 = .ok (.invokevirtual 150, 3) := dk_182 0 150 (dk_at dksX1_licenceChannels_0 2 rfl rfl)
theorem dX1_licenceChannels_5 : decode cX1_licenceChannels 5 = .ok (.getfield 58, 3) := dk_180 0 58 (dk_at dksX1_licenceChannels_0 5 rfl rfl)
theorem dX1_licenceChannels_8 : decode cX1_licenceChannels 8 = .ok (.getfield 84, 3) := dk_180 0 84 (dk_at dksX1_licenceChannels_0 8 rfl rfl)
theorem dX1_licenceChannels_11 : decode cX1_licenceChannels 11 = .ok (.iload_n 1, 1) := dk_27 (dk_at dksX1_licenceChannels_0 11 rfl rfl)
theorem dX1_licenceChannels_12 : decode cX1_licenceChannels 12 = .ok (.invokeinterface 133 2, 5) := by decide +kernel
theorem dX1_licenceChannels_17 : decode cX1_licenceChannels 17 = .ok (.checkcast 153, 3) := dk_192 0 153 (dk_at dksX1_licenceChannels_0 17 rfl rfl)
theorem dX1_licenceChannels_20 : decode cX1_licenceChannels 20 = .ok (.getfield 155, 3) := dk_180 0 155 (dk_at dksX1_licenceChannels_0 20 rfl rfl)
theorem dX1_licenceChannels_23 : decode cX1_licenceChannels 23 = .ok (.ireturn, 1) := dk_172 (dk_at dksX1_licenceChannels_0 23 rfl rfl)
abbrev cX1_withLicence : ByteArray := prog_1_method_9_code
def yX1_withLicence : MethodName := ⟨RX1, "withLicence", "(I)LSpectrumAccess$State;"⟩
def dkwX1_withLicence_1 : List UInt8 := [100, 133, 184, 0, 73, 84, 184, 0, 77, 42, 180, 0, 46, 176]
abbrev dktX1_withLicence_1 : List UInt8 := dkwX1_withLicence_1 ++ []
def dkwX1_withLicence_0 : List UInt8 := [4, 188, 4, 89, 3, 27, 133, 9, 42, 182, 0, 54, 180, 0, 58, 180, 0, 84, 185, 0, 67, 1, 0, 4]
abbrev dktX1_withLicence_0 : List UInt8 := dkwX1_withLicence_0 ++ dktX1_withLicence_1
theorem dksX1_withLicence_0 : cX1_withLicence.data.toList.drop 0 = dktX1_withLicence_0 := by decide +kernel
theorem dksX1_withLicence_1 : cX1_withLicence.data.toList.drop 24 = dktX1_withLicence_1 := dk_seg dksX1_withLicence_0 24 rfl rfl
theorem dX1_withLicence_0 : decode cX1_withLicence 0 = .ok (.iconst 1, 1) := dk_4 (dk_at dksX1_withLicence_0 0 rfl rfl)
theorem dX1_withLicence_1 : decode cX1_withLicence 1 = .ok (.newarray .boolean, 2) := dk_188_4 (dk_at dksX1_withLicence_0 1 rfl rfl)
theorem dX1_withLicence_3 : decode cX1_withLicence 3 = .ok (.dup, 1) := dk_89 (dk_at dksX1_withLicence_0 3 rfl rfl)
theorem dX1_withLicence_4 : decode cX1_withLicence 4 = .ok (.iconst 0, 1) := dk_3 (dk_at dksX1_withLicence_0 4 rfl rfl)
theorem dX1_withLicence_5 : decode cX1_withLicence 5 = .ok (.iload_n 1, 1) := dk_27 (dk_at dksX1_withLicence_0 5 rfl rfl)
theorem dX1_withLicence_6 : decode cX1_withLicence 6 = .ok (.i2l, 1) := dk_133 (dk_at dksX1_withLicence_0 6 rfl rfl)
theorem dX1_withLicence_7 : decode cX1_withLicence 7 = .ok (.lconst 0, 1) := dk_9 (dk_at dksX1_withLicence_0 7 rfl rfl)
theorem dX1_withLicence_8 : decode cX1_withLicence 8 = .ok (.aload_n 0, 1) := dk_42 (dk_at dksX1_withLicence_0 8 rfl rfl)
theorem dX1_withLicence_9 : decode cX1_withLicence 9 = .ok (.invokevirtual 54, 3) := dk_182 0 54 (dk_at dksX1_withLicence_0 9 rfl rfl)
theorem dX1_withLicence_12 : decode cX1_withLicence 12 = .ok (.getfield 58, 3) := dk_180 0 58 (dk_at dksX1_withLicence_0 12 rfl rfl)
theorem dX1_withLicence_15 : decode cX1_withLicence 15 = .ok (.getfield 84, 3) := dk_180 0 84 (dk_at dksX1_withLicence_0 15 rfl rfl)
theorem dX1_withLicence_18 : decode cX1_withLicence 18 = .ok (.invokeinterface 67 1, 5) := by decide +kernel
theorem dX1_withLicence_23 : decode cX1_withLicence 23 = .ok (.iconst 1, 1) := dk_4 (dk_at dksX1_withLicence_0 23 rfl rfl)
theorem dX1_withLicence_24 : decode cX1_withLicence 24 = .ok (.isub, 1) := dk_100 (dk_at dksX1_withLicence_1 0 rfl rfl)
theorem dX1_withLicence_25 : decode cX1_withLicence 25 = .ok (.i2l, 1) := dk_133 (dk_at dksX1_withLicence_1 1 rfl rfl)
theorem dX1_withLicence_26 : decode cX1_withLicence 26 = .ok (.invokestatic 73, 3) := dk_184 0 73 (dk_at dksX1_withLicence_1 2 rfl rfl)
theorem dX1_withLicence_29 : decode cX1_withLicence 29 = .ok (.bastore, 1) := dk_84 (dk_at dksX1_withLicence_1 5 rfl rfl)
theorem dX1_withLicence_30 : decode cX1_withLicence 30 = .ok (.invokestatic 77, 3) := dk_184 0 77 (dk_at dksX1_withLicence_1 6 rfl rfl)
theorem dX1_withLicence_33 : decode cX1_withLicence 33 = .ok (.aload_n 0, 1) := dk_42 (dk_at dksX1_withLicence_1 9 rfl rfl)
theorem dX1_withLicence_34 : decode cX1_withLicence 34 = .ok (.getfield 46, 3) := dk_180 0 46 (dk_at dksX1_withLicence_1 10 rfl rfl)
theorem dX1_withLicence_37 : decode cX1_withLicence 37 = .ok (.areturn, 1) := dk_176 (dk_at dksX1_withLicence_1 13 rfl rfl)
abbrev cX1_licenceAt : ByteArray := prog_1_method_27_code
def yX1_licenceAt : MethodName := ⟨RX1, "licenceAt", "(III)I"⟩
def dkwX1_licenceAt_0 : List UInt8 := [42, 27, 28, 29, 182, 0, 156, 180, 0, 58, 27, 28, 29, 182, 0, 160, 172]
abbrev dktX1_licenceAt_0 : List UInt8 := dkwX1_licenceAt_0 ++ []
theorem dksX1_licenceAt_0 : cX1_licenceAt.data.toList.drop 0 = dktX1_licenceAt_0 := by decide +kernel
theorem dX1_licenceAt_0 : decode cX1_licenceAt 0 = .ok (.aload_n 0, 1) := dk_42 (dk_at dksX1_licenceAt_0 0 rfl rfl)
theorem dX1_licenceAt_1 : decode cX1_licenceAt 1 = .ok (.iload_n 1, 1) := dk_27 (dk_at dksX1_licenceAt_0 1 rfl rfl)
theorem dX1_licenceAt_2 : decode cX1_licenceAt 2 = .ok (.iload_n 2, 1) := dk_28 (dk_at dksX1_licenceAt_0 2 rfl rfl)
theorem dX1_licenceAt_3 : decode cX1_licenceAt 3 = .ok (.iload_n 3, 1) := dk_29 (dk_at dksX1_licenceAt_0 3 rfl rfl)
theorem dX1_licenceAt_4 : decode cX1_licenceAt 4 = .ok (.invokevirtual 156, 3) := dk_182 0 156 (dk_at dksX1_licenceAt_0 4 rfl rfl)
theorem dX1_licenceAt_7 : decode cX1_licenceAt 7 = .ok (.getfield 58, 3) := dk_180 0 58 (dk_at dksX1_licenceAt_0 7 rfl rfl)
theorem dX1_licenceAt_10 : decode cX1_licenceAt 10 = .ok (.iload_n 1, 1) := dk_27 (dk_at dksX1_licenceAt_0 10 rfl rfl)
theorem dX1_licenceAt_11 : decode cX1_licenceAt 11 = .ok (.iload_n 2, 1) := dk_28 (dk_at dksX1_licenceAt_0 11 rfl rfl)
theorem dX1_licenceAt_12 : decode cX1_licenceAt 12 = .ok (.iload_n 3, 1) := dk_29 (dk_at dksX1_licenceAt_0 12 rfl rfl)
theorem dX1_licenceAt_13 : decode cX1_licenceAt 13 = .ok (.invokevirtual 160, 3) := dk_182 0 160 (dk_at dksX1_licenceAt_0 13 rfl rfl)
theorem dX1_licenceAt_16 : decode cX1_licenceAt 16 = .ok (.ireturn, 1) := dk_172 (dk_at dksX1_licenceAt_0 16 rfl rfl)
abbrev cX1_withPlace : ByteArray := prog_1_method_11_code
def yX1_withPlace : MethodName := ⟨RX1, "withPlace", "(III)LSpectrumAccess$State;"⟩
def dkwX1_withPlace_1 : List UInt8 := [182, 0, 94, 84, 184, 0, 77, 42, 180, 0, 46, 176]
abbrev dktX1_withPlace_1 : List UInt8 := dkwX1_withPlace_1 ++ []
def dkwX1_withPlace_0 : List UInt8 := [5, 188, 4, 89, 3, 42, 182, 0, 54, 180, 0, 58, 27, 28, 182, 0, 90, 84, 89, 4, 42, 29]
abbrev dktX1_withPlace_0 : List UInt8 := dkwX1_withPlace_0 ++ dktX1_withPlace_1
theorem dksX1_withPlace_0 : cX1_withPlace.data.toList.drop 0 = dktX1_withPlace_0 := by decide +kernel
theorem dksX1_withPlace_1 : cX1_withPlace.data.toList.drop 22 = dktX1_withPlace_1 := dk_seg dksX1_withPlace_0 22 rfl rfl
theorem dX1_withPlace_0 : decode cX1_withPlace 0 = .ok (.iconst 2, 1) := dk_5 (dk_at dksX1_withPlace_0 0 rfl rfl)
theorem dX1_withPlace_1 : decode cX1_withPlace 1 = .ok (.newarray .boolean, 2) := dk_188_4 (dk_at dksX1_withPlace_0 1 rfl rfl)
theorem dX1_withPlace_3 : decode cX1_withPlace 3 = .ok (.dup, 1) := dk_89 (dk_at dksX1_withPlace_0 3 rfl rfl)
theorem dX1_withPlace_4 : decode cX1_withPlace 4 = .ok (.iconst 0, 1) := dk_3 (dk_at dksX1_withPlace_0 4 rfl rfl)
theorem dX1_withPlace_5 : decode cX1_withPlace 5 = .ok (.aload_n 0, 1) := dk_42 (dk_at dksX1_withPlace_0 5 rfl rfl)
theorem dX1_withPlace_6 : decode cX1_withPlace 6 = .ok (.invokevirtual 54, 3) := dk_182 0 54 (dk_at dksX1_withPlace_0 6 rfl rfl)
theorem dX1_withPlace_9 : decode cX1_withPlace 9 = .ok (.getfield 58, 3) := dk_180 0 58 (dk_at dksX1_withPlace_0 9 rfl rfl)
theorem dX1_withPlace_12 : decode cX1_withPlace 12 = .ok (.iload_n 1, 1) := dk_27 (dk_at dksX1_withPlace_0 12 rfl rfl)
theorem dX1_withPlace_13 : decode cX1_withPlace 13 = .ok (.iload_n 2, 1) := dk_28 (dk_at dksX1_withPlace_0 13 rfl rfl)
theorem dX1_withPlace_14 : decode cX1_withPlace 14 = .ok (.invokevirtual 90, 3) := dk_182 0 90 (dk_at dksX1_withPlace_0 14 rfl rfl)
theorem dX1_withPlace_17 : decode cX1_withPlace 17 = .ok (.bastore, 1) := dk_84 (dk_at dksX1_withPlace_0 17 rfl rfl)
theorem dX1_withPlace_18 : decode cX1_withPlace 18 = .ok (.dup, 1) := dk_89 (dk_at dksX1_withPlace_0 18 rfl rfl)
theorem dX1_withPlace_19 : decode cX1_withPlace 19 = .ok (.iconst 1, 1) := dk_4 (dk_at dksX1_withPlace_0 19 rfl rfl)
theorem dX1_withPlace_20 : decode cX1_withPlace 20 = .ok (.aload_n 0, 1) := dk_42 (dk_at dksX1_withPlace_0 20 rfl rfl)
theorem dX1_withPlace_21 : decode cX1_withPlace 21 = .ok (.iload_n 3, 1) := dk_29 (dk_at dksX1_withPlace_0 21 rfl rfl)
theorem dX1_withPlace_22 : decode cX1_withPlace 22 = .ok (.invokevirtual 94, 3) := dk_182 0 94 (dk_at dksX1_withPlace_1 0 rfl rfl)
theorem dX1_withPlace_25 : decode cX1_withPlace 25 = .ok (.bastore, 1) := dk_84 (dk_at dksX1_withPlace_1 3 rfl rfl)
theorem dX1_withPlace_26 : decode cX1_withPlace 26 = .ok (.invokestatic 77, 3) := dk_184 0 77 (dk_at dksX1_withPlace_1 4 rfl rfl)
theorem dX1_withPlace_29 : decode cX1_withPlace 29 = .ok (.aload_n 0, 1) := dk_42 (dk_at dksX1_withPlace_1 7 rfl rfl)
theorem dX1_withPlace_30 : decode cX1_withPlace 30 = .ok (.getfield 46, 3) := dk_180 0 46 (dk_at dksX1_withPlace_1 8 rfl rfl)
theorem dX1_withPlace_33 : decode cX1_withPlace 33 = .ok (.areturn, 1) := dk_176 (dk_at dksX1_withPlace_1 11 rfl rfl)
abbrev cX1_isChannel : ByteArray := prog_1_method_10_code
def yX1_isChannel : MethodName := ⟨RX1, "isChannel", "(I)Z"⟩
def dkwX1_isChannel_0 : List UInt8 := [27, 133, 9, 42, 180, 0, 46, 180, 0, 58, 180, 0, 87, 4, 100, 133, 184, 0, 73, 172]
abbrev dktX1_isChannel_0 : List UInt8 := dkwX1_isChannel_0 ++ []
theorem dksX1_isChannel_0 : cX1_isChannel.data.toList.drop 0 = dktX1_isChannel_0 := by decide +kernel
theorem dX1_isChannel_0 : decode cX1_isChannel 0 = .ok (.iload_n 1, 1) := dk_27 (dk_at dksX1_isChannel_0 0 rfl rfl)
theorem dX1_isChannel_1 : decode cX1_isChannel 1 = .ok (.i2l, 1) := dk_133 (dk_at dksX1_isChannel_0 1 rfl rfl)
theorem dX1_isChannel_2 : decode cX1_isChannel 2 = .ok (.lconst 0, 1) := dk_9 (dk_at dksX1_isChannel_0 2 rfl rfl)
theorem dX1_isChannel_3 : decode cX1_isChannel 3 = .ok (.aload_n 0, 1) := dk_42 (dk_at dksX1_isChannel_0 3 rfl rfl)
theorem dX1_isChannel_4 : decode cX1_isChannel 4 = .ok (.getfield 46, 3) := dk_180 0 46 (dk_at dksX1_isChannel_0 4 rfl rfl)
theorem dX1_isChannel_7 : decode cX1_isChannel 7 = .ok (.getfield 58, 3) := dk_180 0 58 (dk_at dksX1_isChannel_0 7 rfl rfl)
theorem dX1_isChannel_10 : decode cX1_isChannel 10 = .ok (.getfield 87, 3) := dk_180 0 87 (dk_at dksX1_isChannel_0 10 rfl rfl)
theorem dX1_isChannel_13 : decode cX1_isChannel 13 = .ok (.iconst 1, 1) := dk_4 (dk_at dksX1_isChannel_0 13 rfl rfl)
theorem dX1_isChannel_14 : decode cX1_isChannel 14 = .ok (.isub, 1) := dk_100 (dk_at dksX1_isChannel_0 14 rfl rfl)
theorem dX1_isChannel_15 : decode cX1_isChannel 15 = .ok (.i2l, 1) := dk_133 (dk_at dksX1_isChannel_0 15 rfl rfl)
theorem dX1_isChannel_16 : decode cX1_isChannel 16 = .ok (.invokestatic 73, 3) := dk_184 0 73 (dk_at dksX1_isChannel_0 16 rfl rfl)
theorem dX1_isChannel_19 : decode cX1_isChannel 19 = .ok (.ireturn, 1) := dk_172 (dk_at dksX1_isChannel_0 19 rfl rfl)
abbrev cX1_stateOf : ByteArray := prog_1_method_28_code
def yX1_stateOf : MethodName := ⟨RX1, "stateOf", "(I)I"⟩
def dkwX1_stateOf_0 : List UInt8 := [42, 27, 182, 0, 164, 180, 0, 167, 27, 46, 172]
abbrev dktX1_stateOf_0 : List UInt8 := dkwX1_stateOf_0 ++ []
theorem dksX1_stateOf_0 : cX1_stateOf.data.toList.drop 0 = dktX1_stateOf_0 := by decide +kernel
theorem dX1_stateOf_0 : decode cX1_stateOf 0 = .ok (.aload_n 0, 1) := dk_42 (dk_at dksX1_stateOf_0 0 rfl rfl)
theorem dX1_stateOf_1 : decode cX1_stateOf 1 = .ok (.iload_n 1, 1) := dk_27 (dk_at dksX1_stateOf_0 1 rfl rfl)
theorem dX1_stateOf_2 : decode cX1_stateOf 2 = .ok (.invokevirtual 164, 3) := dk_182 0 164 (dk_at dksX1_stateOf_0 2 rfl rfl)
theorem dX1_stateOf_5 : decode cX1_stateOf 5 = .ok (.getfield 167, 3) := dk_180 0 167 (dk_at dksX1_stateOf_0 5 rfl rfl)
theorem dX1_stateOf_8 : decode cX1_stateOf 8 = .ok (.iload_n 1, 1) := dk_27 (dk_at dksX1_stateOf_0 8 rfl rfl)
theorem dX1_stateOf_9 : decode cX1_stateOf 9 = .ok (.iaload, 1) := dk_46 (dk_at dksX1_stateOf_0 9 rfl rfl)
theorem dX1_stateOf_10 : decode cX1_stateOf 10 = .ok (.ireturn, 1) := dk_172 (dk_at dksX1_stateOf_0 10 rfl rfl)
abbrev cX1_withDevice : ByteArray := prog_1_method_7_code
def yX1_withDevice : MethodName := ⟨RX1, "withDevice", "(I)LSpectrumAccess$State;"⟩
def dkwX1_withDevice_1 : List UInt8 := [100, 133, 184, 0, 73, 84, 184, 0, 77, 42, 180, 0, 46, 176]
abbrev dktX1_withDevice_1 : List UInt8 := dkwX1_withDevice_1 ++ []
def dkwX1_withDevice_0 : List UInt8 := [4, 188, 4, 89, 3, 27, 133, 9, 42, 182, 0, 54, 180, 0, 58, 180, 0, 62, 185, 0, 67, 1, 0, 4]
abbrev dktX1_withDevice_0 : List UInt8 := dkwX1_withDevice_0 ++ dktX1_withDevice_1
theorem dksX1_withDevice_0 : cX1_withDevice.data.toList.drop 0 = dktX1_withDevice_0 := by decide +kernel
theorem dksX1_withDevice_1 : cX1_withDevice.data.toList.drop 24 = dktX1_withDevice_1 := dk_seg dksX1_withDevice_0 24 rfl rfl
theorem dX1_withDevice_0 : decode cX1_withDevice 0 = .ok (.iconst 1, 1) := dk_4 (dk_at dksX1_withDevice_0 0 rfl rfl)
theorem dX1_withDevice_1 : decode cX1_withDevice 1 = .ok (.newarray .boolean, 2) := dk_188_4 (dk_at dksX1_withDevice_0 1 rfl rfl)
theorem dX1_withDevice_3 : decode cX1_withDevice 3 = .ok (.dup, 1) := dk_89 (dk_at dksX1_withDevice_0 3 rfl rfl)
theorem dX1_withDevice_4 : decode cX1_withDevice 4 = .ok (.iconst 0, 1) := dk_3 (dk_at dksX1_withDevice_0 4 rfl rfl)
theorem dX1_withDevice_5 : decode cX1_withDevice 5 = .ok (.iload_n 1, 1) := dk_27 (dk_at dksX1_withDevice_0 5 rfl rfl)
theorem dX1_withDevice_6 : decode cX1_withDevice 6 = .ok (.i2l, 1) := dk_133 (dk_at dksX1_withDevice_0 6 rfl rfl)
theorem dX1_withDevice_7 : decode cX1_withDevice 7 = .ok (.lconst 0, 1) := dk_9 (dk_at dksX1_withDevice_0 7 rfl rfl)
theorem dX1_withDevice_8 : decode cX1_withDevice 8 = .ok (.aload_n 0, 1) := dk_42 (dk_at dksX1_withDevice_0 8 rfl rfl)
theorem dX1_withDevice_9 : decode cX1_withDevice 9 = .ok (.invokevirtual 54, 3) := dk_182 0 54 (dk_at dksX1_withDevice_0 9 rfl rfl)
theorem dX1_withDevice_12 : decode cX1_withDevice 12 = .ok (.getfield 58, 3) := dk_180 0 58 (dk_at dksX1_withDevice_0 12 rfl rfl)
theorem dX1_withDevice_15 : decode cX1_withDevice 15 = .ok (.getfield 62, 3) := dk_180 0 62 (dk_at dksX1_withDevice_0 15 rfl rfl)
theorem dX1_withDevice_18 : decode cX1_withDevice 18 = .ok (.invokeinterface 67 1, 5) := by decide +kernel
theorem dX1_withDevice_23 : decode cX1_withDevice 23 = .ok (.iconst 1, 1) := dk_4 (dk_at dksX1_withDevice_0 23 rfl rfl)
theorem dX1_withDevice_24 : decode cX1_withDevice 24 = .ok (.isub, 1) := dk_100 (dk_at dksX1_withDevice_1 0 rfl rfl)
theorem dX1_withDevice_25 : decode cX1_withDevice 25 = .ok (.i2l, 1) := dk_133 (dk_at dksX1_withDevice_1 1 rfl rfl)
theorem dX1_withDevice_26 : decode cX1_withDevice 26 = .ok (.invokestatic 73, 3) := dk_184 0 73 (dk_at dksX1_withDevice_1 2 rfl rfl)
theorem dX1_withDevice_29 : decode cX1_withDevice 29 = .ok (.bastore, 1) := dk_84 (dk_at dksX1_withDevice_1 5 rfl rfl)
theorem dX1_withDevice_30 : decode cX1_withDevice 30 = .ok (.invokestatic 77, 3) := dk_184 0 77 (dk_at dksX1_withDevice_1 6 rfl rfl)
theorem dX1_withDevice_33 : decode cX1_withDevice 33 = .ok (.aload_n 0, 1) := dk_42 (dk_at dksX1_withDevice_1 9 rfl rfl)
theorem dX1_withDevice_34 : decode cX1_withDevice 34 = .ok (.getfield 46, 3) := dk_180 0 46 (dk_at dksX1_withDevice_1 10 rfl rfl)
theorem dX1_withDevice_37 : decode cX1_withDevice 37 = .ok (.areturn, 1) := dk_176 (dk_at dksX1_withDevice_1 13 rfl rfl)
abbrev cX1_licenceOf : ByteArray := prog_1_method_29_code
def yX1_licenceOf : MethodName := ⟨RX1, "licenceOf", "(I)I"⟩
def dkwX1_licenceOf_0 : List UInt8 := [42, 27, 182, 0, 164, 180, 0, 58, 180, 0, 62, 27, 185, 0, 133, 2, 0, 192, 0, 171, 180, 0, 173, 172]
abbrev dktX1_licenceOf_0 : List UInt8 := dkwX1_licenceOf_0 ++ []
theorem dksX1_licenceOf_0 : cX1_licenceOf.data.toList.drop 0 = dktX1_licenceOf_0 := by decide +kernel
theorem dX1_licenceOf_0 : decode cX1_licenceOf 0 = .ok (.aload_n 0, 1) := dk_42 (dk_at dksX1_licenceOf_0 0 rfl rfl)
theorem dX1_licenceOf_1 : decode cX1_licenceOf 1 = .ok (.iload_n 1, 1) := dk_27 (dk_at dksX1_licenceOf_0 1 rfl rfl)
theorem dX1_licenceOf_2 : decode cX1_licenceOf 2 = .ok (.invokevirtual 164, 3) := dk_182 0 164 (dk_at dksX1_licenceOf_0 2 rfl rfl)
theorem dX1_licenceOf_5 : decode cX1_licenceOf 5 = .ok (.getfield 58, 3) := dk_180 0 58 (dk_at dksX1_licenceOf_0 5 rfl rfl)
theorem dX1_licenceOf_8 : decode cX1_licenceOf 8 = .ok (.getfield 62, 3) := dk_180 0 62 (dk_at dksX1_licenceOf_0 8 rfl rfl)
theorem dX1_licenceOf_11 : decode cX1_licenceOf 11 = .ok (.iload_n 1, 1) := dk_27 (dk_at dksX1_licenceOf_0 11 rfl rfl)
theorem dX1_licenceOf_12 : decode cX1_licenceOf 12 = .ok (.invokeinterface 133 2, 5) := by decide +kernel
theorem dX1_licenceOf_17 : decode cX1_licenceOf 17 = .ok (.checkcast 171, 3) := dk_192 0 171 (dk_at dksX1_licenceOf_0 17 rfl rfl)
theorem dX1_licenceOf_20 : decode cX1_licenceOf 20 = .ok (.getfield 173, 3) := dk_180 0 173 (dk_at dksX1_licenceOf_0 20 rfl rfl)
theorem dX1_licenceOf_23 : decode cX1_licenceOf 23 = .ok (.ireturn, 1) := dk_172 (dk_at dksX1_licenceOf_0 23 rfl rfl)
abbrev cX1_channelOf : ByteArray := prog_1_method_30_code
def yX1_channelOf : MethodName := ⟨RX1, "channelOf", "(I)I"⟩
def dkwX1_channelOf_0 : List UInt8 := [42, 27, 182, 0, 164, 180, 0, 176, 27, 46, 172]
abbrev dktX1_channelOf_0 : List UInt8 := dkwX1_channelOf_0 ++ []
theorem dksX1_channelOf_0 : cX1_channelOf.data.toList.drop 0 = dktX1_channelOf_0 := by decide +kernel
theorem dX1_channelOf_0 : decode cX1_channelOf 0 = .ok (.aload_n 0, 1) := dk_42 (dk_at dksX1_channelOf_0 0 rfl rfl)
theorem dX1_channelOf_1 : decode cX1_channelOf 1 = .ok (.iload_n 1, 1) := dk_27 (dk_at dksX1_channelOf_0 1 rfl rfl)
theorem dX1_channelOf_2 : decode cX1_channelOf 2 = .ok (.invokevirtual 164, 3) := dk_182 0 164 (dk_at dksX1_channelOf_0 2 rfl rfl)
theorem dX1_channelOf_5 : decode cX1_channelOf 5 = .ok (.getfield 176, 3) := dk_180 0 176 (dk_at dksX1_channelOf_0 5 rfl rfl)
theorem dX1_channelOf_8 : decode cX1_channelOf 8 = .ok (.iload_n 1, 1) := dk_27 (dk_at dksX1_channelOf_0 8 rfl rfl)
theorem dX1_channelOf_9 : decode cX1_channelOf 9 = .ok (.iaload, 1) := dk_46 (dk_at dksX1_channelOf_0 9 rfl rfl)
theorem dX1_channelOf_10 : decode cX1_channelOf 10 = .ok (.ireturn, 1) := dk_172 (dk_at dksX1_channelOf_0 10 rfl rfl)
abbrev cX1_powerOf : ByteArray := prog_1_method_31_code
def yX1_powerOf : MethodName := ⟨RX1, "powerOf", "(I)I"⟩
def dkwX1_powerOf_0 : List UInt8 := [42, 27, 182, 0, 164, 180, 0, 179, 27, 46, 172]
abbrev dktX1_powerOf_0 : List UInt8 := dkwX1_powerOf_0 ++ []
theorem dksX1_powerOf_0 : cX1_powerOf.data.toList.drop 0 = dktX1_powerOf_0 := by decide +kernel
theorem dX1_powerOf_0 : decode cX1_powerOf 0 = .ok (.aload_n 0, 1) := dk_42 (dk_at dksX1_powerOf_0 0 rfl rfl)
theorem dX1_powerOf_1 : decode cX1_powerOf 1 = .ok (.iload_n 1, 1) := dk_27 (dk_at dksX1_powerOf_0 1 rfl rfl)
theorem dX1_powerOf_2 : decode cX1_powerOf 2 = .ok (.invokevirtual 164, 3) := dk_182 0 164 (dk_at dksX1_powerOf_0 2 rfl rfl)
theorem dX1_powerOf_5 : decode cX1_powerOf 5 = .ok (.getfield 179, 3) := dk_180 0 179 (dk_at dksX1_powerOf_0 5 rfl rfl)
theorem dX1_powerOf_8 : decode cX1_powerOf 8 = .ok (.iload_n 1, 1) := dk_27 (dk_at dksX1_powerOf_0 8 rfl rfl)
theorem dX1_powerOf_9 : decode cX1_powerOf 9 = .ok (.iaload, 1) := dk_46 (dk_at dksX1_powerOf_0 9 rfl rfl)
theorem dX1_powerOf_10 : decode cX1_powerOf 10 = .ok (.ireturn, 1) := dk_172 (dk_at dksX1_powerOf_0 10 rfl rfl)
abbrev cX1_sinceOf : ByteArray := prog_1_method_32_code
def yX1_sinceOf : MethodName := ⟨RX1, "sinceOf", "(I)I"⟩
def dkwX1_sinceOf_0 : List UInt8 := [42, 27, 182, 0, 164, 180, 0, 182, 27, 46, 172]
abbrev dktX1_sinceOf_0 : List UInt8 := dkwX1_sinceOf_0 ++ []
theorem dksX1_sinceOf_0 : cX1_sinceOf.data.toList.drop 0 = dktX1_sinceOf_0 := by decide +kernel
theorem dX1_sinceOf_0 : decode cX1_sinceOf 0 = .ok (.aload_n 0, 1) := dk_42 (dk_at dksX1_sinceOf_0 0 rfl rfl)
theorem dX1_sinceOf_1 : decode cX1_sinceOf 1 = .ok (.iload_n 1, 1) := dk_27 (dk_at dksX1_sinceOf_0 1 rfl rfl)
theorem dX1_sinceOf_2 : decode cX1_sinceOf 2 = .ok (.invokevirtual 164, 3) := dk_182 0 164 (dk_at dksX1_sinceOf_0 2 rfl rfl)
theorem dX1_sinceOf_5 : decode cX1_sinceOf 5 = .ok (.getfield 182, 3) := dk_180 0 182 (dk_at dksX1_sinceOf_0 5 rfl rfl)
theorem dX1_sinceOf_8 : decode cX1_sinceOf 8 = .ok (.iload_n 1, 1) := dk_27 (dk_at dksX1_sinceOf_0 8 rfl rfl)
theorem dX1_sinceOf_9 : decode cX1_sinceOf 9 = .ok (.iaload, 1) := dk_46 (dk_at dksX1_sinceOf_0 9 rfl rfl)
theorem dX1_sinceOf_10 : decode cX1_sinceOf 10 = .ok (.ireturn, 1) := dk_172 (dk_at dksX1_sinceOf_0 10 rfl rfl)
abbrev cX1_movesOf : ByteArray := prog_1_method_33_code
def yX1_movesOf : MethodName := ⟨RX1, "movesOf", "(I)I"⟩
def dkwX1_movesOf_0 : List UInt8 := [42, 27, 182, 0, 164, 180, 0, 185, 27, 46, 172]
abbrev dktX1_movesOf_0 : List UInt8 := dkwX1_movesOf_0 ++ []
theorem dksX1_movesOf_0 : cX1_movesOf.data.toList.drop 0 = dktX1_movesOf_0 := by decide +kernel
theorem dX1_movesOf_0 : decode cX1_movesOf 0 = .ok (.aload_n 0, 1) := dk_42 (dk_at dksX1_movesOf_0 0 rfl rfl)
theorem dX1_movesOf_1 : decode cX1_movesOf 1 = .ok (.iload_n 1, 1) := dk_27 (dk_at dksX1_movesOf_0 1 rfl rfl)
theorem dX1_movesOf_2 : decode cX1_movesOf 2 = .ok (.invokevirtual 164, 3) := dk_182 0 164 (dk_at dksX1_movesOf_0 2 rfl rfl)
theorem dX1_movesOf_5 : decode cX1_movesOf 5 = .ok (.getfield 185, 3) := dk_180 0 185 (dk_at dksX1_movesOf_0 5 rfl rfl)
theorem dX1_movesOf_8 : decode cX1_movesOf 8 = .ok (.iload_n 1, 1) := dk_27 (dk_at dksX1_movesOf_0 8 rfl rfl)
theorem dX1_movesOf_9 : decode cX1_movesOf 9 = .ok (.iaload, 1) := dk_46 (dk_at dksX1_movesOf_0 9 rfl rfl)
theorem dX1_movesOf_10 : decode cX1_movesOf 10 = .ok (.ireturn, 1) := dk_172 (dk_at dksX1_movesOf_0 10 rfl rfl)
abbrev cX1_airtimeOf : ByteArray := prog_1_method_34_code
def yX1_airtimeOf : MethodName := ⟨RX1, "airtimeOf", "(I)I"⟩
def dkwX1_airtimeOf_0 : List UInt8 := [42, 27, 182, 0, 164, 180, 0, 188, 27, 46, 172]
abbrev dktX1_airtimeOf_0 : List UInt8 := dkwX1_airtimeOf_0 ++ []
theorem dksX1_airtimeOf_0 : cX1_airtimeOf.data.toList.drop 0 = dktX1_airtimeOf_0 := by decide +kernel
theorem dX1_airtimeOf_0 : decode cX1_airtimeOf 0 = .ok (.aload_n 0, 1) := dk_42 (dk_at dksX1_airtimeOf_0 0 rfl rfl)
theorem dX1_airtimeOf_1 : decode cX1_airtimeOf 1 = .ok (.iload_n 1, 1) := dk_27 (dk_at dksX1_airtimeOf_0 1 rfl rfl)
theorem dX1_airtimeOf_2 : decode cX1_airtimeOf 2 = .ok (.invokevirtual 164, 3) := dk_182 0 164 (dk_at dksX1_airtimeOf_0 2 rfl rfl)
theorem dX1_airtimeOf_5 : decode cX1_airtimeOf 5 = .ok (.getfield 188, 3) := dk_180 0 188 (dk_at dksX1_airtimeOf_0 5 rfl rfl)
theorem dX1_airtimeOf_8 : decode cX1_airtimeOf 8 = .ok (.iload_n 1, 1) := dk_27 (dk_at dksX1_airtimeOf_0 8 rfl rfl)
theorem dX1_airtimeOf_9 : decode cX1_airtimeOf 9 = .ok (.iaload, 1) := dk_46 (dk_at dksX1_airtimeOf_0 9 rfl rfl)
theorem dX1_airtimeOf_10 : decode cX1_airtimeOf 10 = .ok (.ireturn, 1) := dk_172 (dk_at dksX1_airtimeOf_0 10 rfl rfl)
abbrev cX1_leaseEndOf : ByteArray := prog_1_method_35_code
def yX1_leaseEndOf : MethodName := ⟨RX1, "leaseEndOf", "(I)I"⟩
def dkwX1_leaseEndOf_2 : List UInt8 := [180, 0, 182, 27, 46, 42, 180, 0, 46, 180, 0, 58, 180, 0, 194, 96, 167, 0, 4, 2, 172]
abbrev dktX1_leaseEndOf_2 : List UInt8 := dkwX1_leaseEndOf_2 ++ []
def dkwX1_leaseEndOf_1 : List UInt8 := [180, 0, 58, 27, 182, 0, 191, 154, 0, 7, 4, 167, 0, 4, 3, 61, 28, 153, 0, 26, 42, 180, 0, 46]
abbrev dktX1_leaseEndOf_1 : List UInt8 := dkwX1_leaseEndOf_1 ++ dktX1_leaseEndOf_2
def dkwX1_leaseEndOf_0 : List UInt8 := [42, 27, 182, 0, 164, 87, 42, 180, 0, 46, 180, 0, 167, 27, 46, 5, 160, 0, 21, 42, 180, 0, 46]
abbrev dktX1_leaseEndOf_0 : List UInt8 := dkwX1_leaseEndOf_0 ++ dktX1_leaseEndOf_1
theorem dksX1_leaseEndOf_0 : cX1_leaseEndOf.data.toList.drop 0 = dktX1_leaseEndOf_0 := by decide +kernel
theorem dksX1_leaseEndOf_1 : cX1_leaseEndOf.data.toList.drop 23 = dktX1_leaseEndOf_1 := dk_seg dksX1_leaseEndOf_0 23 rfl rfl
theorem dksX1_leaseEndOf_2 : cX1_leaseEndOf.data.toList.drop 47 = dktX1_leaseEndOf_2 := dk_seg dksX1_leaseEndOf_1 24 rfl rfl
theorem dX1_leaseEndOf_0 : decode cX1_leaseEndOf 0 = .ok (.aload_n 0, 1) := dk_42 (dk_at dksX1_leaseEndOf_0 0 rfl rfl)
theorem dX1_leaseEndOf_1 : decode cX1_leaseEndOf 1 = .ok (.iload_n 1, 1) := dk_27 (dk_at dksX1_leaseEndOf_0 1 rfl rfl)
theorem dX1_leaseEndOf_2 : decode cX1_leaseEndOf 2 = .ok (.invokevirtual 164, 3) := dk_182 0 164 (dk_at dksX1_leaseEndOf_0 2 rfl rfl)
theorem dX1_leaseEndOf_5 : decode cX1_leaseEndOf 5 = .ok (.pop, 1) := dk_87 (dk_at dksX1_leaseEndOf_0 5 rfl rfl)
theorem dX1_leaseEndOf_6 : decode cX1_leaseEndOf 6 = .ok (.aload_n 0, 1) := dk_42 (dk_at dksX1_leaseEndOf_0 6 rfl rfl)
theorem dX1_leaseEndOf_7 : decode cX1_leaseEndOf 7 = .ok (.getfield 46, 3) := dk_180 0 46 (dk_at dksX1_leaseEndOf_0 7 rfl rfl)
theorem dX1_leaseEndOf_10 : decode cX1_leaseEndOf 10 = .ok (.getfield 167, 3) := dk_180 0 167 (dk_at dksX1_leaseEndOf_0 10 rfl rfl)
theorem dX1_leaseEndOf_13 : decode cX1_leaseEndOf 13 = .ok (.iload_n 1, 1) := dk_27 (dk_at dksX1_leaseEndOf_0 13 rfl rfl)
theorem dX1_leaseEndOf_14 : decode cX1_leaseEndOf 14 = .ok (.iaload, 1) := dk_46 (dk_at dksX1_leaseEndOf_0 14 rfl rfl)
theorem dX1_leaseEndOf_15 : decode cX1_leaseEndOf 15 = .ok (.iconst 2, 1) := dk_5 (dk_at dksX1_leaseEndOf_0 15 rfl rfl)
theorem dX1_leaseEndOf_16 : decode cX1_leaseEndOf 16 = .ok (.if_icmp .ne 21, 3) := dk_160 0 21 (dk_at dksX1_leaseEndOf_0 16 rfl rfl)
theorem dX1_leaseEndOf_19 : decode cX1_leaseEndOf 19 = .ok (.aload_n 0, 1) := dk_42 (dk_at dksX1_leaseEndOf_0 19 rfl rfl)
theorem dX1_leaseEndOf_20 : decode cX1_leaseEndOf 20 = .ok (.getfield 46, 3) := dk_180 0 46 (dk_at dksX1_leaseEndOf_0 20 rfl rfl)
theorem dX1_leaseEndOf_23 : decode cX1_leaseEndOf 23 = .ok (.getfield 58, 3) := dk_180 0 58 (dk_at dksX1_leaseEndOf_1 0 rfl rfl)
theorem dX1_leaseEndOf_26 : decode cX1_leaseEndOf 26 = .ok (.iload_n 1, 1) := dk_27 (dk_at dksX1_leaseEndOf_1 3 rfl rfl)
theorem dX1_leaseEndOf_27 : decode cX1_leaseEndOf 27 = .ok (.invokevirtual 191, 3) := dk_182 0 191 (dk_at dksX1_leaseEndOf_1 4 rfl rfl)
theorem dX1_leaseEndOf_30 : decode cX1_leaseEndOf 30 = .ok (.ifCond .ne 7, 3) := dk_154 0 7 (dk_at dksX1_leaseEndOf_1 7 rfl rfl)
theorem dX1_leaseEndOf_33 : decode cX1_leaseEndOf 33 = .ok (.iconst 1, 1) := dk_4 (dk_at dksX1_leaseEndOf_1 10 rfl rfl)
theorem dX1_leaseEndOf_34 : decode cX1_leaseEndOf 34 = .ok (.goto 4, 3) := dk_167 0 4 (dk_at dksX1_leaseEndOf_1 11 rfl rfl)
theorem dX1_leaseEndOf_37 : decode cX1_leaseEndOf 37 = .ok (.iconst 0, 1) := dk_3 (dk_at dksX1_leaseEndOf_1 14 rfl rfl)
theorem dX1_leaseEndOf_38 : decode cX1_leaseEndOf 38 = .ok (.istore_n 2, 1) := dk_61 (dk_at dksX1_leaseEndOf_1 15 rfl rfl)
theorem dX1_leaseEndOf_39 : decode cX1_leaseEndOf 39 = .ok (.iload_n 2, 1) := dk_28 (dk_at dksX1_leaseEndOf_1 16 rfl rfl)
theorem dX1_leaseEndOf_40 : decode cX1_leaseEndOf 40 = .ok (.ifCond .eq 26, 3) := dk_153 0 26 (dk_at dksX1_leaseEndOf_1 17 rfl rfl)
theorem dX1_leaseEndOf_43 : decode cX1_leaseEndOf 43 = .ok (.aload_n 0, 1) := dk_42 (dk_at dksX1_leaseEndOf_1 20 rfl rfl)
theorem dX1_leaseEndOf_44 : decode cX1_leaseEndOf 44 = .ok (.getfield 46, 3) := dk_180 0 46 (dk_at dksX1_leaseEndOf_1 21 rfl rfl)
theorem dX1_leaseEndOf_47 : decode cX1_leaseEndOf 47 = .ok (.getfield 182, 3) := dk_180 0 182 (dk_at dksX1_leaseEndOf_2 0 rfl rfl)
theorem dX1_leaseEndOf_50 : decode cX1_leaseEndOf 50 = .ok (.iload_n 1, 1) := dk_27 (dk_at dksX1_leaseEndOf_2 3 rfl rfl)
theorem dX1_leaseEndOf_51 : decode cX1_leaseEndOf 51 = .ok (.iaload, 1) := dk_46 (dk_at dksX1_leaseEndOf_2 4 rfl rfl)
theorem dX1_leaseEndOf_52 : decode cX1_leaseEndOf 52 = .ok (.aload_n 0, 1) := dk_42 (dk_at dksX1_leaseEndOf_2 5 rfl rfl)
theorem dX1_leaseEndOf_53 : decode cX1_leaseEndOf 53 = .ok (.getfield 46, 3) := dk_180 0 46 (dk_at dksX1_leaseEndOf_2 6 rfl rfl)
theorem dX1_leaseEndOf_56 : decode cX1_leaseEndOf 56 = .ok (.getfield 58, 3) := dk_180 0 58 (dk_at dksX1_leaseEndOf_2 9 rfl rfl)
theorem dX1_leaseEndOf_59 : decode cX1_leaseEndOf 59 = .ok (.getfield 194, 3) := dk_180 0 194 (dk_at dksX1_leaseEndOf_2 12 rfl rfl)
theorem dX1_leaseEndOf_62 : decode cX1_leaseEndOf 62 = .ok (.iadd, 1) := dk_96 (dk_at dksX1_leaseEndOf_2 15 rfl rfl)
theorem dX1_leaseEndOf_63 : decode cX1_leaseEndOf 63 = .ok (.goto 4, 3) := dk_167 0 4 (dk_at dksX1_leaseEndOf_2 16 rfl rfl)
theorem dX1_leaseEndOf_66 : decode cX1_leaseEndOf 66 = .ok (.iconst (-1), 1) := dk_2 (dk_at dksX1_leaseEndOf_2 19 rfl rfl)
theorem dX1_leaseEndOf_67 : decode cX1_leaseEndOf 67 = .ok (.ireturn, 1) := dk_172 (dk_at dksX1_leaseEndOf_2 20 rfl rfl)
abbrev cX1_strengthOf : ByteArray := prog_1_method_36_code
def yX1_strengthOf : MethodName := ⟨RX1, "strengthOf", "(III)I"⟩
def dkwX1_strengthOf_1 : List UInt8 := [180, 0, 46, 27, 28, 29, 182, 0, 197, 172]
abbrev dktX1_strengthOf_1 : List UInt8 := dkwX1_strengthOf_1 ++ []
def dkwX1_strengthOf_0 : List UInt8 := [4, 188, 4, 89, 3, 42, 27, 182, 0, 164, 180, 0, 58, 28, 29, 182, 0, 90, 84, 184, 0, 77, 42]
abbrev dktX1_strengthOf_0 : List UInt8 := dkwX1_strengthOf_0 ++ dktX1_strengthOf_1
theorem dksX1_strengthOf_0 : cX1_strengthOf.data.toList.drop 0 = dktX1_strengthOf_0 := by decide +kernel
theorem dksX1_strengthOf_1 : cX1_strengthOf.data.toList.drop 23 = dktX1_strengthOf_1 := dk_seg dksX1_strengthOf_0 23 rfl rfl
theorem dX1_strengthOf_0 : decode cX1_strengthOf 0 = .ok (.iconst 1, 1) := dk_4 (dk_at dksX1_strengthOf_0 0 rfl rfl)
theorem dX1_strengthOf_1 : decode cX1_strengthOf 1 = .ok (.newarray .boolean, 2) := dk_188_4 (dk_at dksX1_strengthOf_0 1 rfl rfl)
theorem dX1_strengthOf_3 : decode cX1_strengthOf 3 = .ok (.dup, 1) := dk_89 (dk_at dksX1_strengthOf_0 3 rfl rfl)
theorem dX1_strengthOf_4 : decode cX1_strengthOf 4 = .ok (.iconst 0, 1) := dk_3 (dk_at dksX1_strengthOf_0 4 rfl rfl)
theorem dX1_strengthOf_5 : decode cX1_strengthOf 5 = .ok (.aload_n 0, 1) := dk_42 (dk_at dksX1_strengthOf_0 5 rfl rfl)
theorem dX1_strengthOf_6 : decode cX1_strengthOf 6 = .ok (.iload_n 1, 1) := dk_27 (dk_at dksX1_strengthOf_0 6 rfl rfl)
theorem dX1_strengthOf_7 : decode cX1_strengthOf 7 = .ok (.invokevirtual 164, 3) := dk_182 0 164 (dk_at dksX1_strengthOf_0 7 rfl rfl)
theorem dX1_strengthOf_10 : decode cX1_strengthOf 10 = .ok (.getfield 58, 3) := dk_180 0 58 (dk_at dksX1_strengthOf_0 10 rfl rfl)
theorem dX1_strengthOf_13 : decode cX1_strengthOf 13 = .ok (.iload_n 2, 1) := dk_28 (dk_at dksX1_strengthOf_0 13 rfl rfl)
theorem dX1_strengthOf_14 : decode cX1_strengthOf 14 = .ok (.iload_n 3, 1) := dk_29 (dk_at dksX1_strengthOf_0 14 rfl rfl)
theorem dX1_strengthOf_15 : decode cX1_strengthOf 15 = .ok (.invokevirtual 90, 3) := dk_182 0 90 (dk_at dksX1_strengthOf_0 15 rfl rfl)
theorem dX1_strengthOf_18 : decode cX1_strengthOf 18 = .ok (.bastore, 1) := dk_84 (dk_at dksX1_strengthOf_0 18 rfl rfl)
theorem dX1_strengthOf_19 : decode cX1_strengthOf 19 = .ok (.invokestatic 77, 3) := dk_184 0 77 (dk_at dksX1_strengthOf_0 19 rfl rfl)
theorem dX1_strengthOf_22 : decode cX1_strengthOf 22 = .ok (.aload_n 0, 1) := dk_42 (dk_at dksX1_strengthOf_0 22 rfl rfl)
theorem dX1_strengthOf_23 : decode cX1_strengthOf 23 = .ok (.getfield 46, 3) := dk_180 0 46 (dk_at dksX1_strengthOf_1 0 rfl rfl)
theorem dX1_strengthOf_26 : decode cX1_strengthOf 26 = .ok (.iload_n 1, 1) := dk_27 (dk_at dksX1_strengthOf_1 3 rfl rfl)
theorem dX1_strengthOf_27 : decode cX1_strengthOf 27 = .ok (.iload_n 2, 1) := dk_28 (dk_at dksX1_strengthOf_1 4 rfl rfl)
theorem dX1_strengthOf_28 : decode cX1_strengthOf 28 = .ok (.iload_n 3, 1) := dk_29 (dk_at dksX1_strengthOf_1 5 rfl rfl)
theorem dX1_strengthOf_29 : decode cX1_strengthOf 29 = .ok (.invokevirtual 197, 3) := dk_182 0 197 (dk_at dksX1_strengthOf_1 6 rfl rfl)
theorem dX1_strengthOf_32 : decode cX1_strengthOf 32 = .ok (.ireturn, 1) := dk_172 (dk_at dksX1_strengthOf_1 9 rfl rfl)
abbrev cX1_interference : ByteArray := prog_1_method_37_code
def yX1_interference : MethodName := ⟨RX1, "interference", "(IIII)I"⟩
def dkwX1_interference_4 : List UInt8 := [58, 5, 42, 180, 0, 46, 27, 28, 29, 25, 5, 182, 0, 210, 172]
abbrev dktX1_interference_4 : List UInt8 := dkwX1_interference_4 ++ []
def dkwX1_interference_3 : List UInt8 := [167, 0, 24, 42, 180, 0, 46, 180, 0, 58, 180, 0, 207, 167, 0, 11, 187, 0, 37, 89, 183, 0, 39, 191]
abbrev dktX1_interference_3 : List UInt8 := dkwX1_interference_3 ++ dktX1_interference_4
def dkwX1_interference_2 : List UInt8 := [42, 180, 0, 46, 180, 0, 58, 180, 0, 200, 167, 0, 37, 42, 180, 0, 46, 180, 0, 58, 180, 0, 204]
abbrev dktX1_interference_2 : List UInt8 := dkwX1_interference_2 ++ dktX1_interference_3
def dkwX1_interference_1 : List UInt8 := [170, 0, 0, 0, 0, 69, 0, 0, 0, 0, 0, 0, 0, 3, 0, 0, 0, 30, 0, 0, 0, 69, 0, 0, 0, 43, 0, 0, 0, 56]
abbrev dktX1_interference_1 : List UInt8 := dkwX1_interference_1 ++ dktX1_interference_2
def dkwX1_interference_0 : List UInt8 := [42, 27, 28, 29, 182, 0, 156, 87, 21, 4]
abbrev dktX1_interference_0 : List UInt8 := dkwX1_interference_0 ++ dktX1_interference_1
theorem dksX1_interference_0 : cX1_interference.data.toList.drop 0 = dktX1_interference_0 := by decide +kernel
theorem dksX1_interference_1 : cX1_interference.data.toList.drop 10 = dktX1_interference_1 := dk_seg dksX1_interference_0 10 rfl rfl
theorem dksX1_interference_2 : cX1_interference.data.toList.drop 40 = dktX1_interference_2 := dk_seg dksX1_interference_1 30 rfl rfl
theorem dksX1_interference_3 : cX1_interference.data.toList.drop 63 = dktX1_interference_3 := dk_seg dksX1_interference_2 23 rfl rfl
theorem dksX1_interference_4 : cX1_interference.data.toList.drop 87 = dktX1_interference_4 := dk_seg dksX1_interference_3 24 rfl rfl
theorem dX1_interference_0 : decode cX1_interference 0 = .ok (.aload_n 0, 1) := dk_42 (dk_at dksX1_interference_0 0 rfl rfl)
theorem dX1_interference_1 : decode cX1_interference 1 = .ok (.iload_n 1, 1) := dk_27 (dk_at dksX1_interference_0 1 rfl rfl)
theorem dX1_interference_2 : decode cX1_interference 2 = .ok (.iload_n 2, 1) := dk_28 (dk_at dksX1_interference_0 2 rfl rfl)
theorem dX1_interference_3 : decode cX1_interference 3 = .ok (.iload_n 3, 1) := dk_29 (dk_at dksX1_interference_0 3 rfl rfl)
theorem dX1_interference_4 : decode cX1_interference 4 = .ok (.invokevirtual 156, 3) := dk_182 0 156 (dk_at dksX1_interference_0 4 rfl rfl)
theorem dX1_interference_7 : decode cX1_interference 7 = .ok (.pop, 1) := dk_87 (dk_at dksX1_interference_0 7 rfl rfl)
theorem dX1_interference_8 : decode cX1_interference 8 = .ok (.iload 4, 2) := dk_21 4 (dk_at dksX1_interference_0 8 rfl rfl)
theorem dX1_interference_10 : decode cX1_interference 10 = .ok (.tableswitch 69 0 3 #[30, 69, 43, 56], 30) := by decide +kernel
theorem dX1_interference_40 : decode cX1_interference 40 = .ok (.aload_n 0, 1) := dk_42 (dk_at dksX1_interference_2 0 rfl rfl)
theorem dX1_interference_41 : decode cX1_interference 41 = .ok (.getfield 46, 3) := dk_180 0 46 (dk_at dksX1_interference_2 1 rfl rfl)
theorem dX1_interference_44 : decode cX1_interference 44 = .ok (.getfield 58, 3) := dk_180 0 58 (dk_at dksX1_interference_2 4 rfl rfl)
theorem dX1_interference_47 : decode cX1_interference 47 = .ok (.getfield 200, 3) := dk_180 0 200 (dk_at dksX1_interference_2 7 rfl rfl)
theorem dX1_interference_50 : decode cX1_interference 50 = .ok (.goto 37, 3) := dk_167 0 37 (dk_at dksX1_interference_2 10 rfl rfl)
theorem dX1_interference_53 : decode cX1_interference 53 = .ok (.aload_n 0, 1) := dk_42 (dk_at dksX1_interference_2 13 rfl rfl)
theorem dX1_interference_54 : decode cX1_interference 54 = .ok (.getfield 46, 3) := dk_180 0 46 (dk_at dksX1_interference_2 14 rfl rfl)
theorem dX1_interference_57 : decode cX1_interference 57 = .ok (.getfield 58, 3) := dk_180 0 58 (dk_at dksX1_interference_2 17 rfl rfl)
theorem dX1_interference_60 : decode cX1_interference 60 = .ok (.getfield 204, 3) := dk_180 0 204 (dk_at dksX1_interference_2 20 rfl rfl)
theorem dX1_interference_63 : decode cX1_interference 63 = .ok (.goto 24, 3) := dk_167 0 24 (dk_at dksX1_interference_3 0 rfl rfl)
theorem dX1_interference_66 : decode cX1_interference 66 = .ok (.aload_n 0, 1) := dk_42 (dk_at dksX1_interference_3 3 rfl rfl)
theorem dX1_interference_67 : decode cX1_interference 67 = .ok (.getfield 46, 3) := dk_180 0 46 (dk_at dksX1_interference_3 4 rfl rfl)
theorem dX1_interference_70 : decode cX1_interference 70 = .ok (.getfield 58, 3) := dk_180 0 58 (dk_at dksX1_interference_3 7 rfl rfl)
theorem dX1_interference_73 : decode cX1_interference 73 = .ok (.getfield 207, 3) := dk_180 0 207 (dk_at dksX1_interference_3 10 rfl rfl)
theorem dX1_interference_76 : decode cX1_interference 76 = .ok (.goto 11, 3) := dk_167 0 11 (dk_at dksX1_interference_3 13 rfl rfl)
theorem dX1_interference_79 : decode cX1_interference 79 = .ok (.new 37, 3) := dk_187 0 37 (dk_at dksX1_interference_3 16 rfl rfl)
theorem dX1_interference_82 : decode cX1_interference 82 = .ok (.dup, 1) := dk_89 (dk_at dksX1_interference_3 19 rfl rfl)
theorem dX1_interference_83 : decode cX1_interference 83 = .ok (.invokespecial 39, 3) := dk_183 0 39 (dk_at dksX1_interference_3 20 rfl rfl)
theorem dX1_interference_86 : decode cX1_interference 86 = .ok (.athrow, 1) := dk_191 (dk_at dksX1_interference_3 23 rfl rfl)
theorem dX1_interference_87 : decode cX1_interference 87 = .ok (.astore 5, 2) := dk_58 5 (dk_at dksX1_interference_4 0 rfl rfl)
theorem dX1_interference_89 : decode cX1_interference 89 = .ok (.aload_n 0, 1) := dk_42 (dk_at dksX1_interference_4 2 rfl rfl)
theorem dX1_interference_90 : decode cX1_interference 90 = .ok (.getfield 46, 3) := dk_180 0 46 (dk_at dksX1_interference_4 3 rfl rfl)
theorem dX1_interference_93 : decode cX1_interference 93 = .ok (.iload_n 1, 1) := dk_27 (dk_at dksX1_interference_4 6 rfl rfl)
theorem dX1_interference_94 : decode cX1_interference 94 = .ok (.iload_n 2, 1) := dk_28 (dk_at dksX1_interference_4 7 rfl rfl)
theorem dX1_interference_95 : decode cX1_interference 95 = .ok (.iload_n 3, 1) := dk_29 (dk_at dksX1_interference_4 8 rfl rfl)
theorem dX1_interference_96 : decode cX1_interference 96 = .ok (.aload 5, 2) := dk_25 5 (dk_at dksX1_interference_4 9 rfl rfl)
theorem dX1_interference_98 : decode cX1_interference 98 = .ok (.invokevirtual 210, 3) := dk_182 0 210 (dk_at dksX1_interference_4 11 rfl rfl)
theorem dX1_interference_101 : decode cX1_interference 101 = .ok (.ireturn, 1) := dk_172 (dk_at dksX1_interference_4 14 rfl rfl)
abbrev cX1_quietest : ByteArray := prog_1_method_38_code
def yX1_quietest : MethodName := ⟨RX1, "quietest", "(II)I"⟩
def dkwX1_quietest_3 : List UInt8 := [180, 0, 200, 182, 0, 210, 162, 0, 6, 21, 4, 62, 132, 4, 1, 167, 255, 197, 29, 172]
abbrev dktX1_quietest_3 : List UInt8 := dkwX1_quietest_3 ++ []
def dkwX1_quietest_2 : List UInt8 := [180, 0, 58, 180, 0, 200, 182, 0, 210, 42, 180, 0, 46, 27, 28, 29, 42, 180, 0, 46, 180, 0, 58]
abbrev dktX1_quietest_2 : List UInt8 := dkwX1_quietest_2 ++ dktX1_quietest_3
def dkwX1_quietest_1 : List UInt8 := [54, 4, 21, 4, 42, 182, 0, 214, 162, 0, 56, 42, 180, 0, 46, 27, 28, 21, 4, 42, 180, 0, 46]
abbrev dktX1_quietest_1 : List UInt8 := dkwX1_quietest_1 ++ dktX1_quietest_2
def dkwX1_quietest_0 : List UInt8 := [4, 188, 4, 89, 3, 42, 182, 0, 54, 180, 0, 58, 27, 28, 182, 0, 90, 84, 184, 0, 77, 3, 62, 4]
abbrev dktX1_quietest_0 : List UInt8 := dkwX1_quietest_0 ++ dktX1_quietest_1
theorem dksX1_quietest_0 : cX1_quietest.data.toList.drop 0 = dktX1_quietest_0 := by decide +kernel
theorem dksX1_quietest_1 : cX1_quietest.data.toList.drop 24 = dktX1_quietest_1 := dk_seg dksX1_quietest_0 24 rfl rfl
theorem dksX1_quietest_2 : cX1_quietest.data.toList.drop 47 = dktX1_quietest_2 := dk_seg dksX1_quietest_1 23 rfl rfl
theorem dksX1_quietest_3 : cX1_quietest.data.toList.drop 70 = dktX1_quietest_3 := dk_seg dksX1_quietest_2 23 rfl rfl
theorem dX1_quietest_0 : decode cX1_quietest 0 = .ok (.iconst 1, 1) := dk_4 (dk_at dksX1_quietest_0 0 rfl rfl)
theorem dX1_quietest_1 : decode cX1_quietest 1 = .ok (.newarray .boolean, 2) := dk_188_4 (dk_at dksX1_quietest_0 1 rfl rfl)
theorem dX1_quietest_3 : decode cX1_quietest 3 = .ok (.dup, 1) := dk_89 (dk_at dksX1_quietest_0 3 rfl rfl)
theorem dX1_quietest_4 : decode cX1_quietest 4 = .ok (.iconst 0, 1) := dk_3 (dk_at dksX1_quietest_0 4 rfl rfl)
theorem dX1_quietest_5 : decode cX1_quietest 5 = .ok (.aload_n 0, 1) := dk_42 (dk_at dksX1_quietest_0 5 rfl rfl)
theorem dX1_quietest_6 : decode cX1_quietest 6 = .ok (.invokevirtual 54, 3) := dk_182 0 54 (dk_at dksX1_quietest_0 6 rfl rfl)
theorem dX1_quietest_9 : decode cX1_quietest 9 = .ok (.getfield 58, 3) := dk_180 0 58 (dk_at dksX1_quietest_0 9 rfl rfl)
theorem dX1_quietest_12 : decode cX1_quietest 12 = .ok (.iload_n 1, 1) := dk_27 (dk_at dksX1_quietest_0 12 rfl rfl)
theorem dX1_quietest_13 : decode cX1_quietest 13 = .ok (.iload_n 2, 1) := dk_28 (dk_at dksX1_quietest_0 13 rfl rfl)
theorem dX1_quietest_14 : decode cX1_quietest 14 = .ok (.invokevirtual 90, 3) := dk_182 0 90 (dk_at dksX1_quietest_0 14 rfl rfl)
theorem dX1_quietest_17 : decode cX1_quietest 17 = .ok (.bastore, 1) := dk_84 (dk_at dksX1_quietest_0 17 rfl rfl)
theorem dX1_quietest_18 : decode cX1_quietest 18 = .ok (.invokestatic 77, 3) := dk_184 0 77 (dk_at dksX1_quietest_0 18 rfl rfl)
theorem dX1_quietest_21 : decode cX1_quietest 21 = .ok (.iconst 0, 1) := dk_3 (dk_at dksX1_quietest_0 21 rfl rfl)
theorem dX1_quietest_22 : decode cX1_quietest 22 = .ok (.istore_n 3, 1) := dk_62 (dk_at dksX1_quietest_0 22 rfl rfl)
theorem dX1_quietest_23 : decode cX1_quietest 23 = .ok (.iconst 1, 1) := dk_4 (dk_at dksX1_quietest_0 23 rfl rfl)
theorem dX1_quietest_24 : decode cX1_quietest 24 = .ok (.istore 4, 2) := dk_54 4 (dk_at dksX1_quietest_1 0 rfl rfl)
theorem dX1_quietest_26 : decode cX1_quietest 26 = .ok (.iload 4, 2) := dk_21 4 (dk_at dksX1_quietest_1 2 rfl rfl)
theorem dX1_quietest_28 : decode cX1_quietest 28 = .ok (.aload_n 0, 1) := dk_42 (dk_at dksX1_quietest_1 4 rfl rfl)
theorem dX1_quietest_29 : decode cX1_quietest 29 = .ok (.invokevirtual 214, 3) := dk_182 0 214 (dk_at dksX1_quietest_1 5 rfl rfl)
theorem dX1_quietest_32 : decode cX1_quietest 32 = .ok (.if_icmp .ge 56, 3) := dk_162 0 56 (dk_at dksX1_quietest_1 8 rfl rfl)
theorem dX1_quietest_35 : decode cX1_quietest 35 = .ok (.aload_n 0, 1) := dk_42 (dk_at dksX1_quietest_1 11 rfl rfl)
theorem dX1_quietest_36 : decode cX1_quietest 36 = .ok (.getfield 46, 3) := dk_180 0 46 (dk_at dksX1_quietest_1 12 rfl rfl)
theorem dX1_quietest_39 : decode cX1_quietest 39 = .ok (.iload_n 1, 1) := dk_27 (dk_at dksX1_quietest_1 15 rfl rfl)
theorem dX1_quietest_40 : decode cX1_quietest 40 = .ok (.iload_n 2, 1) := dk_28 (dk_at dksX1_quietest_1 16 rfl rfl)
theorem dX1_quietest_41 : decode cX1_quietest 41 = .ok (.iload 4, 2) := dk_21 4 (dk_at dksX1_quietest_1 17 rfl rfl)
theorem dX1_quietest_43 : decode cX1_quietest 43 = .ok (.aload_n 0, 1) := dk_42 (dk_at dksX1_quietest_1 19 rfl rfl)
theorem dX1_quietest_44 : decode cX1_quietest 44 = .ok (.getfield 46, 3) := dk_180 0 46 (dk_at dksX1_quietest_1 20 rfl rfl)
theorem dX1_quietest_47 : decode cX1_quietest 47 = .ok (.getfield 58, 3) := dk_180 0 58 (dk_at dksX1_quietest_2 0 rfl rfl)
theorem dX1_quietest_50 : decode cX1_quietest 50 = .ok (.getfield 200, 3) := dk_180 0 200 (dk_at dksX1_quietest_2 3 rfl rfl)
theorem dX1_quietest_53 : decode cX1_quietest 53 = .ok (.invokevirtual 210, 3) := dk_182 0 210 (dk_at dksX1_quietest_2 6 rfl rfl)
theorem dX1_quietest_56 : decode cX1_quietest 56 = .ok (.aload_n 0, 1) := dk_42 (dk_at dksX1_quietest_2 9 rfl rfl)
theorem dX1_quietest_57 : decode cX1_quietest 57 = .ok (.getfield 46, 3) := dk_180 0 46 (dk_at dksX1_quietest_2 10 rfl rfl)
theorem dX1_quietest_60 : decode cX1_quietest 60 = .ok (.iload_n 1, 1) := dk_27 (dk_at dksX1_quietest_2 13 rfl rfl)
theorem dX1_quietest_61 : decode cX1_quietest 61 = .ok (.iload_n 2, 1) := dk_28 (dk_at dksX1_quietest_2 14 rfl rfl)
theorem dX1_quietest_62 : decode cX1_quietest 62 = .ok (.iload_n 3, 1) := dk_29 (dk_at dksX1_quietest_2 15 rfl rfl)
theorem dX1_quietest_63 : decode cX1_quietest 63 = .ok (.aload_n 0, 1) := dk_42 (dk_at dksX1_quietest_2 16 rfl rfl)
theorem dX1_quietest_64 : decode cX1_quietest 64 = .ok (.getfield 46, 3) := dk_180 0 46 (dk_at dksX1_quietest_2 17 rfl rfl)
theorem dX1_quietest_67 : decode cX1_quietest 67 = .ok (.getfield 58, 3) := dk_180 0 58 (dk_at dksX1_quietest_2 20 rfl rfl)
theorem dX1_quietest_70 : decode cX1_quietest 70 = .ok (.getfield 200, 3) := dk_180 0 200 (dk_at dksX1_quietest_3 0 rfl rfl)
theorem dX1_quietest_73 : decode cX1_quietest 73 = .ok (.invokevirtual 210, 3) := dk_182 0 210 (dk_at dksX1_quietest_3 3 rfl rfl)
theorem dX1_quietest_76 : decode cX1_quietest 76 = .ok (.if_icmp .ge 6, 3) := dk_162 0 6 (dk_at dksX1_quietest_3 6 rfl rfl)
theorem dX1_quietest_79 : decode cX1_quietest 79 = .ok (.iload 4, 2) := dk_21 4 (dk_at dksX1_quietest_3 9 rfl rfl)
theorem dX1_quietest_81 : decode cX1_quietest 81 = .ok (.istore_n 3, 1) := dk_62 (dk_at dksX1_quietest_3 11 rfl rfl)
theorem dX1_quietest_82 : decode cX1_quietest 82 = .ok (.iinc 4 1, 3) := dk_132 4 1 (dk_at dksX1_quietest_3 12 rfl rfl)
theorem dX1_quietest_85 : decode cX1_quietest 85 = .ok (.goto (-59), 3) := dk_167 255 197 (dk_at dksX1_quietest_3 15 rfl rfl)
theorem dX1_quietest_88 : decode cX1_quietest 88 = .ok (.iload_n 3, 1) := dk_29 (dk_at dksX1_quietest_3 18 rfl rfl)
theorem dX1_quietest_89 : decode cX1_quietest 89 = .ok (.ireturn, 1) := dk_172 (dk_at dksX1_quietest_3 19 rfl rfl)
abbrev cX1_mostMoved : ByteArray := prog_1_method_40_code
def yX1_mostMoved : MethodName := ⟨RX1, "mostMoved", "(I)I"⟩
def dkwX1_mostMoved_3 : List UInt8 := [61, 132, 3, 1, 167, 255, 192, 28, 172]
abbrev dktX1_mostMoved_3 : List UInt8 := dkwX1_mostMoved_3 ++ []
def dkwX1_mostMoved_2 : List UInt8 := [167, 0, 4, 3, 96, 54, 4, 132, 5, 1, 167, 255, 224, 21, 4, 27, 160, 0, 7, 29, 167, 0, 4, 28]
abbrev dktX1_mostMoved_2 : List UInt8 := dkwX1_mostMoved_2 ++ dktX1_mostMoved_3
def dkwX1_mostMoved_1 : List UInt8 := [21, 5, 42, 182, 0, 216, 162, 0, 29, 21, 4, 42, 21, 5, 29, 182, 0, 218, 153, 0, 7, 4]
abbrev dktX1_mostMoved_1 : List UInt8 := dkwX1_mostMoved_1 ++ dktX1_mostMoved_2
def dkwX1_mostMoved_0 : List UInt8 := [42, 27, 182, 0, 164, 87, 2, 61, 3, 62, 29, 42, 182, 0, 216, 162, 0, 62, 3, 54, 4, 3, 54, 5]
abbrev dktX1_mostMoved_0 : List UInt8 := dkwX1_mostMoved_0 ++ dktX1_mostMoved_1
theorem dksX1_mostMoved_0 : cX1_mostMoved.data.toList.drop 0 = dktX1_mostMoved_0 := by decide +kernel
theorem dksX1_mostMoved_1 : cX1_mostMoved.data.toList.drop 24 = dktX1_mostMoved_1 := dk_seg dksX1_mostMoved_0 24 rfl rfl
theorem dksX1_mostMoved_2 : cX1_mostMoved.data.toList.drop 46 = dktX1_mostMoved_2 := dk_seg dksX1_mostMoved_1 22 rfl rfl
theorem dksX1_mostMoved_3 : cX1_mostMoved.data.toList.drop 70 = dktX1_mostMoved_3 := dk_seg dksX1_mostMoved_2 24 rfl rfl
theorem dX1_mostMoved_0 : decode cX1_mostMoved 0 = .ok (.aload_n 0, 1) := dk_42 (dk_at dksX1_mostMoved_0 0 rfl rfl)
theorem dX1_mostMoved_1 : decode cX1_mostMoved 1 = .ok (.iload_n 1, 1) := dk_27 (dk_at dksX1_mostMoved_0 1 rfl rfl)
theorem dX1_mostMoved_2 : decode cX1_mostMoved 2 = .ok (.invokevirtual 164, 3) := dk_182 0 164 (dk_at dksX1_mostMoved_0 2 rfl rfl)
theorem dX1_mostMoved_5 : decode cX1_mostMoved 5 = .ok (.pop, 1) := dk_87 (dk_at dksX1_mostMoved_0 5 rfl rfl)
theorem dX1_mostMoved_6 : decode cX1_mostMoved 6 = .ok (.iconst (-1), 1) := dk_2 (dk_at dksX1_mostMoved_0 6 rfl rfl)
theorem dX1_mostMoved_7 : decode cX1_mostMoved 7 = .ok (.istore_n 2, 1) := dk_61 (dk_at dksX1_mostMoved_0 7 rfl rfl)
theorem dX1_mostMoved_8 : decode cX1_mostMoved 8 = .ok (.iconst 0, 1) := dk_3 (dk_at dksX1_mostMoved_0 8 rfl rfl)
theorem dX1_mostMoved_9 : decode cX1_mostMoved 9 = .ok (.istore_n 3, 1) := dk_62 (dk_at dksX1_mostMoved_0 9 rfl rfl)
theorem dX1_mostMoved_10 : decode cX1_mostMoved 10 = .ok (.iload_n 3, 1) := dk_29 (dk_at dksX1_mostMoved_0 10 rfl rfl)
theorem dX1_mostMoved_11 : decode cX1_mostMoved 11 = .ok (.aload_n 0, 1) := dk_42 (dk_at dksX1_mostMoved_0 11 rfl rfl)
theorem dX1_mostMoved_12 : decode cX1_mostMoved 12 = .ok (.invokevirtual 216, 3) := dk_182 0 216 (dk_at dksX1_mostMoved_0 12 rfl rfl)
theorem dX1_mostMoved_15 : decode cX1_mostMoved 15 = .ok (.if_icmp .ge 62, 3) := dk_162 0 62 (dk_at dksX1_mostMoved_0 15 rfl rfl)
theorem dX1_mostMoved_18 : decode cX1_mostMoved 18 = .ok (.iconst 0, 1) := dk_3 (dk_at dksX1_mostMoved_0 18 rfl rfl)
theorem dX1_mostMoved_19 : decode cX1_mostMoved 19 = .ok (.istore 4, 2) := dk_54 4 (dk_at dksX1_mostMoved_0 19 rfl rfl)
theorem dX1_mostMoved_21 : decode cX1_mostMoved 21 = .ok (.iconst 0, 1) := dk_3 (dk_at dksX1_mostMoved_0 21 rfl rfl)
theorem dX1_mostMoved_22 : decode cX1_mostMoved 22 = .ok (.istore 5, 2) := dk_54 5 (dk_at dksX1_mostMoved_0 22 rfl rfl)
theorem dX1_mostMoved_24 : decode cX1_mostMoved 24 = .ok (.iload 5, 2) := dk_21 5 (dk_at dksX1_mostMoved_1 0 rfl rfl)
theorem dX1_mostMoved_26 : decode cX1_mostMoved 26 = .ok (.aload_n 0, 1) := dk_42 (dk_at dksX1_mostMoved_1 2 rfl rfl)
theorem dX1_mostMoved_27 : decode cX1_mostMoved 27 = .ok (.invokevirtual 216, 3) := dk_182 0 216 (dk_at dksX1_mostMoved_1 3 rfl rfl)
theorem dX1_mostMoved_30 : decode cX1_mostMoved 30 = .ok (.if_icmp .ge 29, 3) := dk_162 0 29 (dk_at dksX1_mostMoved_1 6 rfl rfl)
theorem dX1_mostMoved_33 : decode cX1_mostMoved 33 = .ok (.iload 4, 2) := dk_21 4 (dk_at dksX1_mostMoved_1 9 rfl rfl)
theorem dX1_mostMoved_35 : decode cX1_mostMoved 35 = .ok (.aload_n 0, 1) := dk_42 (dk_at dksX1_mostMoved_1 11 rfl rfl)
theorem dX1_mostMoved_36 : decode cX1_mostMoved 36 = .ok (.iload 5, 2) := dk_21 5 (dk_at dksX1_mostMoved_1 12 rfl rfl)
theorem dX1_mostMoved_38 : decode cX1_mostMoved 38 = .ok (.iload_n 3, 1) := dk_29 (dk_at dksX1_mostMoved_1 14 rfl rfl)
theorem dX1_mostMoved_39 : decode cX1_mostMoved 39 = .ok (.invokevirtual 218, 3) := dk_182 0 218 (dk_at dksX1_mostMoved_1 15 rfl rfl)
theorem dX1_mostMoved_42 : decode cX1_mostMoved 42 = .ok (.ifCond .eq 7, 3) := dk_153 0 7 (dk_at dksX1_mostMoved_1 18 rfl rfl)
theorem dX1_mostMoved_45 : decode cX1_mostMoved 45 = .ok (.iconst 1, 1) := dk_4 (dk_at dksX1_mostMoved_1 21 rfl rfl)
theorem dX1_mostMoved_46 : decode cX1_mostMoved 46 = .ok (.goto 4, 3) := dk_167 0 4 (dk_at dksX1_mostMoved_2 0 rfl rfl)
theorem dX1_mostMoved_49 : decode cX1_mostMoved 49 = .ok (.iconst 0, 1) := dk_3 (dk_at dksX1_mostMoved_2 3 rfl rfl)
theorem dX1_mostMoved_50 : decode cX1_mostMoved 50 = .ok (.iadd, 1) := dk_96 (dk_at dksX1_mostMoved_2 4 rfl rfl)
theorem dX1_mostMoved_51 : decode cX1_mostMoved 51 = .ok (.istore 4, 2) := dk_54 4 (dk_at dksX1_mostMoved_2 5 rfl rfl)
theorem dX1_mostMoved_53 : decode cX1_mostMoved 53 = .ok (.iinc 5 1, 3) := dk_132 5 1 (dk_at dksX1_mostMoved_2 7 rfl rfl)
theorem dX1_mostMoved_56 : decode cX1_mostMoved 56 = .ok (.goto (-32), 3) := dk_167 255 224 (dk_at dksX1_mostMoved_2 10 rfl rfl)
theorem dX1_mostMoved_59 : decode cX1_mostMoved 59 = .ok (.iload 4, 2) := dk_21 4 (dk_at dksX1_mostMoved_2 13 rfl rfl)
theorem dX1_mostMoved_61 : decode cX1_mostMoved 61 = .ok (.iload_n 1, 1) := dk_27 (dk_at dksX1_mostMoved_2 15 rfl rfl)
theorem dX1_mostMoved_62 : decode cX1_mostMoved 62 = .ok (.if_icmp .ne 7, 3) := dk_160 0 7 (dk_at dksX1_mostMoved_2 16 rfl rfl)
theorem dX1_mostMoved_65 : decode cX1_mostMoved 65 = .ok (.iload_n 3, 1) := dk_29 (dk_at dksX1_mostMoved_2 19 rfl rfl)
theorem dX1_mostMoved_66 : decode cX1_mostMoved 66 = .ok (.goto 4, 3) := dk_167 0 4 (dk_at dksX1_mostMoved_2 20 rfl rfl)
theorem dX1_mostMoved_69 : decode cX1_mostMoved 69 = .ok (.iload_n 2, 1) := dk_28 (dk_at dksX1_mostMoved_2 23 rfl rfl)
theorem dX1_mostMoved_70 : decode cX1_mostMoved 70 = .ok (.istore_n 2, 1) := dk_61 (dk_at dksX1_mostMoved_3 0 rfl rfl)
theorem dX1_mostMoved_71 : decode cX1_mostMoved 71 = .ok (.iinc 3 1, 3) := dk_132 3 1 (dk_at dksX1_mostMoved_3 1 rfl rfl)
theorem dX1_mostMoved_74 : decode cX1_mostMoved 74 = .ok (.goto (-64), 3) := dk_167 255 192 (dk_at dksX1_mostMoved_3 4 rfl rfl)
theorem dX1_mostMoved_77 : decode cX1_mostMoved 77 = .ok (.iload_n 2, 1) := dk_28 (dk_at dksX1_mostMoved_3 7 rfl rfl)
theorem dX1_mostMoved_78 : decode cX1_mostMoved 78 = .ok (.ireturn, 1) := dk_172 (dk_at dksX1_mostMoved_3 8 rfl rfl)
abbrev cX1_isMoreMoved : ByteArray := prog_1_method_39_code
def yX1_isMoreMoved : MethodName := ⟨RX1, "isMoreMoved", "(II)Z"⟩
def dkwX1_isMoreMoved_4 : List UInt8 := [3, 167, 0, 13, 27, 28, 162, 0, 7, 4, 167, 0, 4, 3, 172]
abbrev dktX1_isMoreMoved_4 : List UInt8 := dkwX1_isMoreMoved_4 ++ []
def dkwX1_isMoreMoved_3 : List UInt8 := [180, 0, 46, 180, 0, 188, 27, 46, 42, 180, 0, 46, 180, 0, 188, 28, 46, 162, 0, 7, 4, 167, 0, 17]
abbrev dktX1_isMoreMoved_3 : List UInt8 := dkwX1_isMoreMoved_3 ++ dktX1_isMoreMoved_4
def dkwX1_isMoreMoved_2 : List UInt8 := [3, 172, 42, 180, 0, 46, 180, 0, 188, 27, 46, 42, 180, 0, 46, 180, 0, 188, 28, 46, 159, 0, 32, 42]
abbrev dktX1_isMoreMoved_2 : List UInt8 := dkwX1_isMoreMoved_2 ++ dktX1_isMoreMoved_3
def dkwX1_isMoreMoved_1 : List UInt8 := [180, 0, 46, 180, 0, 185, 27, 46, 42, 180, 0, 46, 180, 0, 185, 28, 46, 164, 0, 7, 4, 167, 0, 4]
abbrev dktX1_isMoreMoved_1 : List UInt8 := dkwX1_isMoreMoved_1 ++ dktX1_isMoreMoved_2
def dkwX1_isMoreMoved_0 : List UInt8 := [42, 180, 0, 46, 180, 0, 185, 27, 46, 42, 180, 0, 46, 180, 0, 185, 28, 46, 159, 0, 30, 42]
abbrev dktX1_isMoreMoved_0 : List UInt8 := dkwX1_isMoreMoved_0 ++ dktX1_isMoreMoved_1
theorem dksX1_isMoreMoved_0 : cX1_isMoreMoved.data.toList.drop 0 = dktX1_isMoreMoved_0 := by decide +kernel
theorem dksX1_isMoreMoved_1 : cX1_isMoreMoved.data.toList.drop 22 = dktX1_isMoreMoved_1 := dk_seg dksX1_isMoreMoved_0 22 rfl rfl
theorem dksX1_isMoreMoved_2 : cX1_isMoreMoved.data.toList.drop 46 = dktX1_isMoreMoved_2 := dk_seg dksX1_isMoreMoved_1 24 rfl rfl
theorem dksX1_isMoreMoved_3 : cX1_isMoreMoved.data.toList.drop 70 = dktX1_isMoreMoved_3 := dk_seg dksX1_isMoreMoved_2 24 rfl rfl
theorem dksX1_isMoreMoved_4 : cX1_isMoreMoved.data.toList.drop 94 = dktX1_isMoreMoved_4 := dk_seg dksX1_isMoreMoved_3 24 rfl rfl
theorem dX1_isMoreMoved_0 : decode cX1_isMoreMoved 0 = .ok (.aload_n 0, 1) := dk_42 (dk_at dksX1_isMoreMoved_0 0 rfl rfl)
theorem dX1_isMoreMoved_1 : decode cX1_isMoreMoved 1 = .ok (.getfield 46, 3) := dk_180 0 46 (dk_at dksX1_isMoreMoved_0 1 rfl rfl)
theorem dX1_isMoreMoved_4 : decode cX1_isMoreMoved 4 = .ok (.getfield 185, 3) := dk_180 0 185 (dk_at dksX1_isMoreMoved_0 4 rfl rfl)
theorem dX1_isMoreMoved_7 : decode cX1_isMoreMoved 7 = .ok (.iload_n 1, 1) := dk_27 (dk_at dksX1_isMoreMoved_0 7 rfl rfl)
theorem dX1_isMoreMoved_8 : decode cX1_isMoreMoved 8 = .ok (.iaload, 1) := dk_46 (dk_at dksX1_isMoreMoved_0 8 rfl rfl)
theorem dX1_isMoreMoved_9 : decode cX1_isMoreMoved 9 = .ok (.aload_n 0, 1) := dk_42 (dk_at dksX1_isMoreMoved_0 9 rfl rfl)
theorem dX1_isMoreMoved_10 : decode cX1_isMoreMoved 10 = .ok (.getfield 46, 3) := dk_180 0 46 (dk_at dksX1_isMoreMoved_0 10 rfl rfl)
theorem dX1_isMoreMoved_13 : decode cX1_isMoreMoved 13 = .ok (.getfield 185, 3) := dk_180 0 185 (dk_at dksX1_isMoreMoved_0 13 rfl rfl)
theorem dX1_isMoreMoved_16 : decode cX1_isMoreMoved 16 = .ok (.iload_n 2, 1) := dk_28 (dk_at dksX1_isMoreMoved_0 16 rfl rfl)
theorem dX1_isMoreMoved_17 : decode cX1_isMoreMoved 17 = .ok (.iaload, 1) := dk_46 (dk_at dksX1_isMoreMoved_0 17 rfl rfl)
theorem dX1_isMoreMoved_18 : decode cX1_isMoreMoved 18 = .ok (.if_icmp .eq 30, 3) := dk_159 0 30 (dk_at dksX1_isMoreMoved_0 18 rfl rfl)
theorem dX1_isMoreMoved_21 : decode cX1_isMoreMoved 21 = .ok (.aload_n 0, 1) := dk_42 (dk_at dksX1_isMoreMoved_0 21 rfl rfl)
theorem dX1_isMoreMoved_22 : decode cX1_isMoreMoved 22 = .ok (.getfield 46, 3) := dk_180 0 46 (dk_at dksX1_isMoreMoved_1 0 rfl rfl)
theorem dX1_isMoreMoved_25 : decode cX1_isMoreMoved 25 = .ok (.getfield 185, 3) := dk_180 0 185 (dk_at dksX1_isMoreMoved_1 3 rfl rfl)
theorem dX1_isMoreMoved_28 : decode cX1_isMoreMoved 28 = .ok (.iload_n 1, 1) := dk_27 (dk_at dksX1_isMoreMoved_1 6 rfl rfl)
theorem dX1_isMoreMoved_29 : decode cX1_isMoreMoved 29 = .ok (.iaload, 1) := dk_46 (dk_at dksX1_isMoreMoved_1 7 rfl rfl)
theorem dX1_isMoreMoved_30 : decode cX1_isMoreMoved 30 = .ok (.aload_n 0, 1) := dk_42 (dk_at dksX1_isMoreMoved_1 8 rfl rfl)
theorem dX1_isMoreMoved_31 : decode cX1_isMoreMoved 31 = .ok (.getfield 46, 3) := dk_180 0 46 (dk_at dksX1_isMoreMoved_1 9 rfl rfl)
theorem dX1_isMoreMoved_34 : decode cX1_isMoreMoved 34 = .ok (.getfield 185, 3) := dk_180 0 185 (dk_at dksX1_isMoreMoved_1 12 rfl rfl)
theorem dX1_isMoreMoved_37 : decode cX1_isMoreMoved 37 = .ok (.iload_n 2, 1) := dk_28 (dk_at dksX1_isMoreMoved_1 15 rfl rfl)
theorem dX1_isMoreMoved_38 : decode cX1_isMoreMoved 38 = .ok (.iaload, 1) := dk_46 (dk_at dksX1_isMoreMoved_1 16 rfl rfl)
theorem dX1_isMoreMoved_39 : decode cX1_isMoreMoved 39 = .ok (.if_icmp .le 7, 3) := dk_164 0 7 (dk_at dksX1_isMoreMoved_1 17 rfl rfl)
theorem dX1_isMoreMoved_42 : decode cX1_isMoreMoved 42 = .ok (.iconst 1, 1) := dk_4 (dk_at dksX1_isMoreMoved_1 20 rfl rfl)
theorem dX1_isMoreMoved_43 : decode cX1_isMoreMoved 43 = .ok (.goto 4, 3) := dk_167 0 4 (dk_at dksX1_isMoreMoved_1 21 rfl rfl)
theorem dX1_isMoreMoved_46 : decode cX1_isMoreMoved 46 = .ok (.iconst 0, 1) := dk_3 (dk_at dksX1_isMoreMoved_2 0 rfl rfl)
theorem dX1_isMoreMoved_47 : decode cX1_isMoreMoved 47 = .ok (.ireturn, 1) := dk_172 (dk_at dksX1_isMoreMoved_2 1 rfl rfl)
theorem dX1_isMoreMoved_48 : decode cX1_isMoreMoved 48 = .ok (.aload_n 0, 1) := dk_42 (dk_at dksX1_isMoreMoved_2 2 rfl rfl)
theorem dX1_isMoreMoved_49 : decode cX1_isMoreMoved 49 = .ok (.getfield 46, 3) := dk_180 0 46 (dk_at dksX1_isMoreMoved_2 3 rfl rfl)
theorem dX1_isMoreMoved_52 : decode cX1_isMoreMoved 52 = .ok (.getfield 188, 3) := dk_180 0 188 (dk_at dksX1_isMoreMoved_2 6 rfl rfl)
theorem dX1_isMoreMoved_55 : decode cX1_isMoreMoved 55 = .ok (.iload_n 1, 1) := dk_27 (dk_at dksX1_isMoreMoved_2 9 rfl rfl)
theorem dX1_isMoreMoved_56 : decode cX1_isMoreMoved 56 = .ok (.iaload, 1) := dk_46 (dk_at dksX1_isMoreMoved_2 10 rfl rfl)
theorem dX1_isMoreMoved_57 : decode cX1_isMoreMoved 57 = .ok (.aload_n 0, 1) := dk_42 (dk_at dksX1_isMoreMoved_2 11 rfl rfl)
theorem dX1_isMoreMoved_58 : decode cX1_isMoreMoved 58 = .ok (.getfield 46, 3) := dk_180 0 46 (dk_at dksX1_isMoreMoved_2 12 rfl rfl)
theorem dX1_isMoreMoved_61 : decode cX1_isMoreMoved 61 = .ok (.getfield 188, 3) := dk_180 0 188 (dk_at dksX1_isMoreMoved_2 15 rfl rfl)
theorem dX1_isMoreMoved_64 : decode cX1_isMoreMoved 64 = .ok (.iload_n 2, 1) := dk_28 (dk_at dksX1_isMoreMoved_2 18 rfl rfl)
theorem dX1_isMoreMoved_65 : decode cX1_isMoreMoved 65 = .ok (.iaload, 1) := dk_46 (dk_at dksX1_isMoreMoved_2 19 rfl rfl)
theorem dX1_isMoreMoved_66 : decode cX1_isMoreMoved 66 = .ok (.if_icmp .eq 32, 3) := dk_159 0 32 (dk_at dksX1_isMoreMoved_2 20 rfl rfl)
theorem dX1_isMoreMoved_69 : decode cX1_isMoreMoved 69 = .ok (.aload_n 0, 1) := dk_42 (dk_at dksX1_isMoreMoved_2 23 rfl rfl)
theorem dX1_isMoreMoved_70 : decode cX1_isMoreMoved 70 = .ok (.getfield 46, 3) := dk_180 0 46 (dk_at dksX1_isMoreMoved_3 0 rfl rfl)
theorem dX1_isMoreMoved_73 : decode cX1_isMoreMoved 73 = .ok (.getfield 188, 3) := dk_180 0 188 (dk_at dksX1_isMoreMoved_3 3 rfl rfl)
theorem dX1_isMoreMoved_76 : decode cX1_isMoreMoved 76 = .ok (.iload_n 1, 1) := dk_27 (dk_at dksX1_isMoreMoved_3 6 rfl rfl)
theorem dX1_isMoreMoved_77 : decode cX1_isMoreMoved 77 = .ok (.iaload, 1) := dk_46 (dk_at dksX1_isMoreMoved_3 7 rfl rfl)
theorem dX1_isMoreMoved_78 : decode cX1_isMoreMoved 78 = .ok (.aload_n 0, 1) := dk_42 (dk_at dksX1_isMoreMoved_3 8 rfl rfl)
theorem dX1_isMoreMoved_79 : decode cX1_isMoreMoved 79 = .ok (.getfield 46, 3) := dk_180 0 46 (dk_at dksX1_isMoreMoved_3 9 rfl rfl)
theorem dX1_isMoreMoved_82 : decode cX1_isMoreMoved 82 = .ok (.getfield 188, 3) := dk_180 0 188 (dk_at dksX1_isMoreMoved_3 12 rfl rfl)
theorem dX1_isMoreMoved_85 : decode cX1_isMoreMoved 85 = .ok (.iload_n 2, 1) := dk_28 (dk_at dksX1_isMoreMoved_3 15 rfl rfl)
theorem dX1_isMoreMoved_86 : decode cX1_isMoreMoved 86 = .ok (.iaload, 1) := dk_46 (dk_at dksX1_isMoreMoved_3 16 rfl rfl)
theorem dX1_isMoreMoved_87 : decode cX1_isMoreMoved 87 = .ok (.if_icmp .ge 7, 3) := dk_162 0 7 (dk_at dksX1_isMoreMoved_3 17 rfl rfl)
theorem dX1_isMoreMoved_90 : decode cX1_isMoreMoved 90 = .ok (.iconst 1, 1) := dk_4 (dk_at dksX1_isMoreMoved_3 20 rfl rfl)
theorem dX1_isMoreMoved_91 : decode cX1_isMoreMoved 91 = .ok (.goto 17, 3) := dk_167 0 17 (dk_at dksX1_isMoreMoved_3 21 rfl rfl)
theorem dX1_isMoreMoved_94 : decode cX1_isMoreMoved 94 = .ok (.iconst 0, 1) := dk_3 (dk_at dksX1_isMoreMoved_4 0 rfl rfl)
theorem dX1_isMoreMoved_95 : decode cX1_isMoreMoved 95 = .ok (.goto 13, 3) := dk_167 0 13 (dk_at dksX1_isMoreMoved_4 1 rfl rfl)
theorem dX1_isMoreMoved_98 : decode cX1_isMoreMoved 98 = .ok (.iload_n 1, 1) := dk_27 (dk_at dksX1_isMoreMoved_4 4 rfl rfl)
theorem dX1_isMoreMoved_99 : decode cX1_isMoreMoved 99 = .ok (.iload_n 2, 1) := dk_28 (dk_at dksX1_isMoreMoved_4 5 rfl rfl)
theorem dX1_isMoreMoved_100 : decode cX1_isMoreMoved 100 = .ok (.if_icmp .ge 7, 3) := dk_162 0 7 (dk_at dksX1_isMoreMoved_4 6 rfl rfl)
theorem dX1_isMoreMoved_103 : decode cX1_isMoreMoved 103 = .ok (.iconst 1, 1) := dk_4 (dk_at dksX1_isMoreMoved_4 9 rfl rfl)
theorem dX1_isMoreMoved_104 : decode cX1_isMoreMoved 104 = .ok (.goto 4, 3) := dk_167 0 4 (dk_at dksX1_isMoreMoved_4 10 rfl rfl)
theorem dX1_isMoreMoved_107 : decode cX1_isMoreMoved 107 = .ok (.iconst 0, 1) := dk_3 (dk_at dksX1_isMoreMoved_4 13 rfl rfl)
theorem dX1_isMoreMoved_108 : decode cX1_isMoreMoved 108 = .ok (.ireturn, 1) := dk_172 (dk_at dksX1_isMoreMoved_4 14 rfl rfl)
abbrev cX1_offeredChannel : ByteArray := prog_1_method_43_code
def yX1_offeredChannel : MethodName := ⟨RX1, "offeredChannel", "(I)I"⟩
def dkwX1_offeredChannel_0 : List UInt8 := [42, 27, 182, 0, 231, 27, 182, 0, 234, 172]
abbrev dktX1_offeredChannel_0 : List UInt8 := dkwX1_offeredChannel_0 ++ []
theorem dksX1_offeredChannel_0 : cX1_offeredChannel.data.toList.drop 0 = dktX1_offeredChannel_0 := by decide +kernel
theorem dX1_offeredChannel_0 : decode cX1_offeredChannel 0 = .ok (.aload_n 0, 1) := dk_42 (dk_at dksX1_offeredChannel_0 0 rfl rfl)
theorem dX1_offeredChannel_1 : decode cX1_offeredChannel 1 = .ok (.iload_n 1, 1) := dk_27 (dk_at dksX1_offeredChannel_0 1 rfl rfl)
theorem dX1_offeredChannel_2 : decode cX1_offeredChannel 2 = .ok (.invokevirtual 231, 3) := dk_182 0 231 (dk_at dksX1_offeredChannel_0 2 rfl rfl)
theorem dX1_offeredChannel_5 : decode cX1_offeredChannel 5 = .ok (.iload_n 1, 1) := dk_27 (dk_at dksX1_offeredChannel_0 5 rfl rfl)
theorem dX1_offeredChannel_6 : decode cX1_offeredChannel 6 = .ok (.invokevirtual 234, 3) := dk_182 0 234 (dk_at dksX1_offeredChannel_0 6 rfl rfl)
theorem dX1_offeredChannel_9 : decode cX1_offeredChannel 9 = .ok (.ireturn, 1) := dk_172 (dk_at dksX1_offeredChannel_0 9 rfl rfl)
abbrev cX1_without : ByteArray := prog_1_method_42_code
def yX1_without : MethodName := ⟨RX1, "without", "(I)LSpectrumAccess$State;"⟩
def dkwX1_without_1 : List UInt8 := [182, 0, 224, 77, 44, 27, 4, 182, 0, 227, 44, 176]
abbrev dktX1_without_1 : List UInt8 := dkwX1_without_1 ++ []
def dkwX1_without_0 : List UInt8 := [42, 27, 182, 0, 164, 180, 0, 167, 27, 46, 5, 159, 0, 8, 42, 180, 0, 46, 176, 42, 180, 0, 46]
abbrev dktX1_without_0 : List UInt8 := dkwX1_without_0 ++ dktX1_without_1
theorem dksX1_without_0 : cX1_without.data.toList.drop 0 = dktX1_without_0 := by decide +kernel
theorem dksX1_without_1 : cX1_without.data.toList.drop 23 = dktX1_without_1 := dk_seg dksX1_without_0 23 rfl rfl
theorem dX1_without_0 : decode cX1_without 0 = .ok (.aload_n 0, 1) := dk_42 (dk_at dksX1_without_0 0 rfl rfl)
theorem dX1_without_1 : decode cX1_without 1 = .ok (.iload_n 1, 1) := dk_27 (dk_at dksX1_without_0 1 rfl rfl)
theorem dX1_without_2 : decode cX1_without 2 = .ok (.invokevirtual 164, 3) := dk_182 0 164 (dk_at dksX1_without_0 2 rfl rfl)
theorem dX1_without_5 : decode cX1_without 5 = .ok (.getfield 167, 3) := dk_180 0 167 (dk_at dksX1_without_0 5 rfl rfl)
theorem dX1_without_8 : decode cX1_without 8 = .ok (.iload_n 1, 1) := dk_27 (dk_at dksX1_without_0 8 rfl rfl)
theorem dX1_without_9 : decode cX1_without 9 = .ok (.iaload, 1) := dk_46 (dk_at dksX1_without_0 9 rfl rfl)
theorem dX1_without_10 : decode cX1_without 10 = .ok (.iconst 2, 1) := dk_5 (dk_at dksX1_without_0 10 rfl rfl)
theorem dX1_without_11 : decode cX1_without 11 = .ok (.if_icmp .eq 8, 3) := dk_159 0 8 (dk_at dksX1_without_0 11 rfl rfl)
theorem dX1_without_14 : decode cX1_without 14 = .ok (.aload_n 0, 1) := dk_42 (dk_at dksX1_without_0 14 rfl rfl)
theorem dX1_without_15 : decode cX1_without 15 = .ok (.getfield 46, 3) := dk_180 0 46 (dk_at dksX1_without_0 15 rfl rfl)
theorem dX1_without_18 : decode cX1_without 18 = .ok (.areturn, 1) := dk_176 (dk_at dksX1_without_0 18 rfl rfl)
theorem dX1_without_19 : decode cX1_without 19 = .ok (.aload_n 0, 1) := dk_42 (dk_at dksX1_without_0 19 rfl rfl)
theorem dX1_without_20 : decode cX1_without 20 = .ok (.getfield 46, 3) := dk_180 0 46 (dk_at dksX1_without_0 20 rfl rfl)
theorem dX1_without_23 : decode cX1_without 23 = .ok (.invokevirtual 224, 3) := dk_182 0 224 (dk_at dksX1_without_1 0 rfl rfl)
theorem dX1_without_26 : decode cX1_without 26 = .ok (.astore_n 2, 1) := dk_77 (dk_at dksX1_without_1 3 rfl rfl)
theorem dX1_without_27 : decode cX1_without 27 = .ok (.aload_n 2, 1) := dk_44 (dk_at dksX1_without_1 4 rfl rfl)
theorem dX1_without_28 : decode cX1_without 28 = .ok (.iload_n 1, 1) := dk_27 (dk_at dksX1_without_1 5 rfl rfl)
theorem dX1_without_29 : decode cX1_without 29 = .ok (.iconst 1, 1) := dk_4 (dk_at dksX1_without_1 6 rfl rfl)
theorem dX1_without_30 : decode cX1_without 30 = .ok (.invokevirtual 227, 3) := dk_182 0 227 (dk_at dksX1_without_1 7 rfl rfl)
theorem dX1_without_33 : decode cX1_without 33 = .ok (.aload_n 2, 1) := dk_44 (dk_at dksX1_without_1 10 rfl rfl)
theorem dX1_without_34 : decode cX1_without 34 = .ok (.areturn, 1) := dk_176 (dk_at dksX1_without_1 11 rfl rfl)
abbrev cX1_offeredPower : ByteArray := prog_1_method_44_code
def yX1_offeredPower : MethodName := ⟨RX1, "offeredPower", "(I)I"⟩
def dkwX1_offeredPower_1 : List UInt8 := [180, 0, 237, 172]
abbrev dktX1_offeredPower_1 : List UInt8 := dkwX1_offeredPower_1 ++ []
def dkwX1_offeredPower_0 : List UInt8 := [42, 27, 182, 0, 231, 77, 44, 27, 182, 0, 234, 62, 29, 2, 160, 0, 7, 3, 167, 0, 7, 44]
abbrev dktX1_offeredPower_0 : List UInt8 := dkwX1_offeredPower_0 ++ dktX1_offeredPower_1
theorem dksX1_offeredPower_0 : cX1_offeredPower.data.toList.drop 0 = dktX1_offeredPower_0 := by decide +kernel
theorem dksX1_offeredPower_1 : cX1_offeredPower.data.toList.drop 22 = dktX1_offeredPower_1 := dk_seg dksX1_offeredPower_0 22 rfl rfl
theorem dX1_offeredPower_0 : decode cX1_offeredPower 0 = .ok (.aload_n 0, 1) := dk_42 (dk_at dksX1_offeredPower_0 0 rfl rfl)
theorem dX1_offeredPower_1 : decode cX1_offeredPower 1 = .ok (.iload_n 1, 1) := dk_27 (dk_at dksX1_offeredPower_0 1 rfl rfl)
theorem dX1_offeredPower_2 : decode cX1_offeredPower 2 = .ok (.invokevirtual 231, 3) := dk_182 0 231 (dk_at dksX1_offeredPower_0 2 rfl rfl)
theorem dX1_offeredPower_5 : decode cX1_offeredPower 5 = .ok (.astore_n 2, 1) := dk_77 (dk_at dksX1_offeredPower_0 5 rfl rfl)
theorem dX1_offeredPower_6 : decode cX1_offeredPower 6 = .ok (.aload_n 2, 1) := dk_44 (dk_at dksX1_offeredPower_0 6 rfl rfl)
theorem dX1_offeredPower_7 : decode cX1_offeredPower 7 = .ok (.iload_n 1, 1) := dk_27 (dk_at dksX1_offeredPower_0 7 rfl rfl)
theorem dX1_offeredPower_8 : decode cX1_offeredPower 8 = .ok (.invokevirtual 234, 3) := dk_182 0 234 (dk_at dksX1_offeredPower_0 8 rfl rfl)
theorem dX1_offeredPower_11 : decode cX1_offeredPower 11 = .ok (.istore_n 3, 1) := dk_62 (dk_at dksX1_offeredPower_0 11 rfl rfl)
theorem dX1_offeredPower_12 : decode cX1_offeredPower 12 = .ok (.iload_n 3, 1) := dk_29 (dk_at dksX1_offeredPower_0 12 rfl rfl)
theorem dX1_offeredPower_13 : decode cX1_offeredPower 13 = .ok (.iconst (-1), 1) := dk_2 (dk_at dksX1_offeredPower_0 13 rfl rfl)
theorem dX1_offeredPower_14 : decode cX1_offeredPower 14 = .ok (.if_icmp .ne 7, 3) := dk_160 0 7 (dk_at dksX1_offeredPower_0 14 rfl rfl)
theorem dX1_offeredPower_17 : decode cX1_offeredPower 17 = .ok (.iconst 0, 1) := dk_3 (dk_at dksX1_offeredPower_0 17 rfl rfl)
theorem dX1_offeredPower_18 : decode cX1_offeredPower 18 = .ok (.goto 7, 3) := dk_167 0 7 (dk_at dksX1_offeredPower_0 18 rfl rfl)
theorem dX1_offeredPower_21 : decode cX1_offeredPower 21 = .ok (.aload_n 2, 1) := dk_44 (dk_at dksX1_offeredPower_0 21 rfl rfl)
theorem dX1_offeredPower_22 : decode cX1_offeredPower 22 = .ok (.getfield 237, 3) := dk_180 0 237 (dk_at dksX1_offeredPower_1 0 rfl rfl)
theorem dX1_offeredPower_25 : decode cX1_offeredPower 25 = .ok (.ireturn, 1) := dk_172 (dk_at dksX1_offeredPower_1 3 rfl rfl)
abbrev cX1_isDenied : ByteArray := prog_1_method_41_code
def yX1_isDenied : MethodName := ⟨RX1, "isDenied", "(II)Z"⟩
def dkwX1_isDenied_1 : List UInt8 := [27, 28, 182, 0, 221, 172]
abbrev dktX1_isDenied_1 : List UInt8 := dkwX1_isDenied_1 ++ []
def dkwX1_isDenied_0 : List UInt8 := [42, 27, 182, 0, 164, 87, 4, 188, 4, 89, 3, 42, 28, 182, 0, 94, 84, 184, 0, 77, 42, 180, 0, 46]
abbrev dktX1_isDenied_0 : List UInt8 := dkwX1_isDenied_0 ++ dktX1_isDenied_1
theorem dksX1_isDenied_0 : cX1_isDenied.data.toList.drop 0 = dktX1_isDenied_0 := by decide +kernel
theorem dksX1_isDenied_1 : cX1_isDenied.data.toList.drop 24 = dktX1_isDenied_1 := dk_seg dksX1_isDenied_0 24 rfl rfl
theorem dX1_isDenied_0 : decode cX1_isDenied 0 = .ok (.aload_n 0, 1) := dk_42 (dk_at dksX1_isDenied_0 0 rfl rfl)
theorem dX1_isDenied_1 : decode cX1_isDenied 1 = .ok (.iload_n 1, 1) := dk_27 (dk_at dksX1_isDenied_0 1 rfl rfl)
theorem dX1_isDenied_2 : decode cX1_isDenied 2 = .ok (.invokevirtual 164, 3) := dk_182 0 164 (dk_at dksX1_isDenied_0 2 rfl rfl)
theorem dX1_isDenied_5 : decode cX1_isDenied 5 = .ok (.pop, 1) := dk_87 (dk_at dksX1_isDenied_0 5 rfl rfl)
theorem dX1_isDenied_6 : decode cX1_isDenied 6 = .ok (.iconst 1, 1) := dk_4 (dk_at dksX1_isDenied_0 6 rfl rfl)
theorem dX1_isDenied_7 : decode cX1_isDenied 7 = .ok (.newarray .boolean, 2) := dk_188_4 (dk_at dksX1_isDenied_0 7 rfl rfl)
theorem dX1_isDenied_9 : decode cX1_isDenied 9 = .ok (.dup, 1) := dk_89 (dk_at dksX1_isDenied_0 9 rfl rfl)
theorem dX1_isDenied_10 : decode cX1_isDenied 10 = .ok (.iconst 0, 1) := dk_3 (dk_at dksX1_isDenied_0 10 rfl rfl)
theorem dX1_isDenied_11 : decode cX1_isDenied 11 = .ok (.aload_n 0, 1) := dk_42 (dk_at dksX1_isDenied_0 11 rfl rfl)
theorem dX1_isDenied_12 : decode cX1_isDenied 12 = .ok (.iload_n 2, 1) := dk_28 (dk_at dksX1_isDenied_0 12 rfl rfl)
theorem dX1_isDenied_13 : decode cX1_isDenied 13 = .ok (.invokevirtual 94, 3) := dk_182 0 94 (dk_at dksX1_isDenied_0 13 rfl rfl)
theorem dX1_isDenied_16 : decode cX1_isDenied 16 = .ok (.bastore, 1) := dk_84 (dk_at dksX1_isDenied_0 16 rfl rfl)
theorem dX1_isDenied_17 : decode cX1_isDenied 17 = .ok (.invokestatic 77, 3) := dk_184 0 77 (dk_at dksX1_isDenied_0 17 rfl rfl)
theorem dX1_isDenied_20 : decode cX1_isDenied 20 = .ok (.aload_n 0, 1) := dk_42 (dk_at dksX1_isDenied_0 20 rfl rfl)
theorem dX1_isDenied_21 : decode cX1_isDenied 21 = .ok (.getfield 46, 3) := dk_180 0 46 (dk_at dksX1_isDenied_0 21 rfl rfl)
theorem dX1_isDenied_24 : decode cX1_isDenied 24 = .ok (.iload_n 1, 1) := dk_27 (dk_at dksX1_isDenied_1 0 rfl rfl)
theorem dX1_isDenied_25 : decode cX1_isDenied 25 = .ok (.iload_n 2, 1) := dk_28 (dk_at dksX1_isDenied_1 1 rfl rfl)
theorem dX1_isDenied_26 : decode cX1_isDenied 26 = .ok (.invokevirtual 221, 3) := dk_182 0 221 (dk_at dksX1_isDenied_1 2 rfl rfl)
theorem dX1_isDenied_29 : decode cX1_isDenied 29 = .ok (.ireturn, 1) := dk_172 (dk_at dksX1_isDenied_1 5 rfl rfl)
abbrev cX1_allowedPower : ByteArray := prog_1_method_45_code
def yX1_allowedPower : MethodName := ⟨RX1, "allowedPower", "(III)I"⟩
def dkwX1_allowedPower_1 : List UInt8 := [3, 182, 0, 247, 172]
abbrev dktX1_allowedPower_1 : List UInt8 := dkwX1_allowedPower_1 ++ []
def dkwX1_allowedPower_0 : List UInt8 := [42, 27, 28, 29, 182, 0, 156, 182, 0, 240, 42, 180, 0, 46, 187, 0, 243, 89, 27, 28, 183, 0, 245, 29]
abbrev dktX1_allowedPower_0 : List UInt8 := dkwX1_allowedPower_0 ++ dktX1_allowedPower_1
theorem dksX1_allowedPower_0 : cX1_allowedPower.data.toList.drop 0 = dktX1_allowedPower_0 := by decide +kernel
theorem dksX1_allowedPower_1 : cX1_allowedPower.data.toList.drop 24 = dktX1_allowedPower_1 := dk_seg dksX1_allowedPower_0 24 rfl rfl
theorem dX1_allowedPower_0 : decode cX1_allowedPower 0 = .ok (.aload_n 0, 1) := dk_42 (dk_at dksX1_allowedPower_0 0 rfl rfl)
theorem dX1_allowedPower_1 : decode cX1_allowedPower 1 = .ok (.iload_n 1, 1) := dk_27 (dk_at dksX1_allowedPower_0 1 rfl rfl)
theorem dX1_allowedPower_2 : decode cX1_allowedPower 2 = .ok (.iload_n 2, 1) := dk_28 (dk_at dksX1_allowedPower_0 2 rfl rfl)
theorem dX1_allowedPower_3 : decode cX1_allowedPower 3 = .ok (.iload_n 3, 1) := dk_29 (dk_at dksX1_allowedPower_0 3 rfl rfl)
theorem dX1_allowedPower_4 : decode cX1_allowedPower 4 = .ok (.invokevirtual 156, 3) := dk_182 0 156 (dk_at dksX1_allowedPower_0 4 rfl rfl)
theorem dX1_allowedPower_7 : decode cX1_allowedPower 7 = .ok (.invokevirtual 240, 3) := dk_182 0 240 (dk_at dksX1_allowedPower_0 7 rfl rfl)
theorem dX1_allowedPower_10 : decode cX1_allowedPower 10 = .ok (.aload_n 0, 1) := dk_42 (dk_at dksX1_allowedPower_0 10 rfl rfl)
theorem dX1_allowedPower_11 : decode cX1_allowedPower 11 = .ok (.getfield 46, 3) := dk_180 0 46 (dk_at dksX1_allowedPower_0 11 rfl rfl)
theorem dX1_allowedPower_14 : decode cX1_allowedPower 14 = .ok (.new 243, 3) := dk_187 0 243 (dk_at dksX1_allowedPower_0 14 rfl rfl)
theorem dX1_allowedPower_17 : decode cX1_allowedPower 17 = .ok (.dup, 1) := dk_89 (dk_at dksX1_allowedPower_0 17 rfl rfl)
theorem dX1_allowedPower_18 : decode cX1_allowedPower 18 = .ok (.iload_n 1, 1) := dk_27 (dk_at dksX1_allowedPower_0 18 rfl rfl)
theorem dX1_allowedPower_19 : decode cX1_allowedPower 19 = .ok (.iload_n 2, 1) := dk_28 (dk_at dksX1_allowedPower_0 19 rfl rfl)
theorem dX1_allowedPower_20 : decode cX1_allowedPower 20 = .ok (.invokespecial 245, 3) := dk_183 0 245 (dk_at dksX1_allowedPower_0 20 rfl rfl)
theorem dX1_allowedPower_23 : decode cX1_allowedPower 23 = .ok (.iload_n 3, 1) := dk_29 (dk_at dksX1_allowedPower_0 23 rfl rfl)
theorem dX1_allowedPower_24 : decode cX1_allowedPower 24 = .ok (.iconst 0, 1) := dk_3 (dk_at dksX1_allowedPower_1 0 rfl rfl)
theorem dX1_allowedPower_25 : decode cX1_allowedPower 25 = .ok (.invokevirtual 247, 3) := dk_182 0 247 (dk_at dksX1_allowedPower_1 1 rfl rfl)
theorem dX1_allowedPower_28 : decode cX1_allowedPower 28 = .ok (.ireturn, 1) := dk_172 (dk_at dksX1_allowedPower_1 4 rfl rfl)
abbrev cX1_bestSite : ByteArray := prog_1_method_46_code
def yX1_bestSite : MethodName := ⟨RX1, "bestSite", "(I)I"⟩
def dkwX1_bestSite_5 : List UInt8 := [132, 4, 1, 167, 255, 171, 28, 172]
abbrev dktX1_bestSite_5 : List UInt8 := dkwX1_bestSite_5 ++ []
def dkwX1_bestSite_4 : List UInt8 := [163, 0, 6, 167, 0, 15, 16, 100, 21, 4, 104, 21, 5, 96, 61, 21, 6, 62, 132, 5, 1, 167, 255, 195]
abbrev dktX1_bestSite_4 : List UInt8 := dkwX1_bestSite_4 ++ dktX1_bestSite_5
def dkwX1_bestSite_3 : List UInt8 := [180, 0, 46, 187, 0, 243, 89, 21, 5, 21, 4, 183, 0, 245, 27, 3, 182, 0, 247, 54, 6, 21, 6, 29]
abbrev dktX1_bestSite_3 : List UInt8 := dkwX1_bestSite_3 ++ dktX1_bestSite_4
def dkwX1_bestSite_2 : List UInt8 := [162, 0, 76, 3, 54, 5, 21, 5, 42, 180, 0, 46, 180, 0, 58, 180, 0, 254, 162, 0, 52, 42]
abbrev dktX1_bestSite_2 : List UInt8 := dkwX1_bestSite_2 ++ dktX1_bestSite_3
def dkwX1_bestSite_1 : List UInt8 := [182, 0, 240, 3, 61, 2, 62, 3, 54, 4, 21, 4, 42, 180, 0, 46, 180, 0, 58, 180, 0, 251]
abbrev dktX1_bestSite_1 : List UInt8 := dkwX1_bestSite_1 ++ dktX1_bestSite_2
def dkwX1_bestSite_0 : List UInt8 := [42, 182, 0, 54, 87, 4, 188, 4, 89, 3, 42, 27, 182, 0, 94, 84, 184, 0, 77, 42, 180, 0, 46]
abbrev dktX1_bestSite_0 : List UInt8 := dkwX1_bestSite_0 ++ dktX1_bestSite_1
theorem dksX1_bestSite_0 : cX1_bestSite.data.toList.drop 0 = dktX1_bestSite_0 := by decide +kernel
theorem dksX1_bestSite_1 : cX1_bestSite.data.toList.drop 23 = dktX1_bestSite_1 := dk_seg dksX1_bestSite_0 23 rfl rfl
theorem dksX1_bestSite_2 : cX1_bestSite.data.toList.drop 45 = dktX1_bestSite_2 := dk_seg dksX1_bestSite_1 22 rfl rfl
theorem dksX1_bestSite_3 : cX1_bestSite.data.toList.drop 67 = dktX1_bestSite_3 := dk_seg dksX1_bestSite_2 22 rfl rfl
theorem dksX1_bestSite_4 : cX1_bestSite.data.toList.drop 91 = dktX1_bestSite_4 := dk_seg dksX1_bestSite_3 24 rfl rfl
theorem dksX1_bestSite_5 : cX1_bestSite.data.toList.drop 115 = dktX1_bestSite_5 := dk_seg dksX1_bestSite_4 24 rfl rfl
theorem dX1_bestSite_0 : decode cX1_bestSite 0 = .ok (.aload_n 0, 1) := dk_42 (dk_at dksX1_bestSite_0 0 rfl rfl)
theorem dX1_bestSite_1 : decode cX1_bestSite 1 = .ok (.invokevirtual 54, 3) := dk_182 0 54 (dk_at dksX1_bestSite_0 1 rfl rfl)
theorem dX1_bestSite_4 : decode cX1_bestSite 4 = .ok (.pop, 1) := dk_87 (dk_at dksX1_bestSite_0 4 rfl rfl)
theorem dX1_bestSite_5 : decode cX1_bestSite 5 = .ok (.iconst 1, 1) := dk_4 (dk_at dksX1_bestSite_0 5 rfl rfl)
theorem dX1_bestSite_6 : decode cX1_bestSite 6 = .ok (.newarray .boolean, 2) := dk_188_4 (dk_at dksX1_bestSite_0 6 rfl rfl)
theorem dX1_bestSite_8 : decode cX1_bestSite 8 = .ok (.dup, 1) := dk_89 (dk_at dksX1_bestSite_0 8 rfl rfl)
theorem dX1_bestSite_9 : decode cX1_bestSite 9 = .ok (.iconst 0, 1) := dk_3 (dk_at dksX1_bestSite_0 9 rfl rfl)
theorem dX1_bestSite_10 : decode cX1_bestSite 10 = .ok (.aload_n 0, 1) := dk_42 (dk_at dksX1_bestSite_0 10 rfl rfl)
theorem dX1_bestSite_11 : decode cX1_bestSite 11 = .ok (.iload_n 1, 1) := dk_27 (dk_at dksX1_bestSite_0 11 rfl rfl)
theorem dX1_bestSite_12 : decode cX1_bestSite 12 = .ok (.invokevirtual 94, 3) := dk_182 0 94 (dk_at dksX1_bestSite_0 12 rfl rfl)
theorem dX1_bestSite_15 : decode cX1_bestSite 15 = .ok (.bastore, 1) := dk_84 (dk_at dksX1_bestSite_0 15 rfl rfl)
theorem dX1_bestSite_16 : decode cX1_bestSite 16 = .ok (.invokestatic 77, 3) := dk_184 0 77 (dk_at dksX1_bestSite_0 16 rfl rfl)
theorem dX1_bestSite_19 : decode cX1_bestSite 19 = .ok (.aload_n 0, 1) := dk_42 (dk_at dksX1_bestSite_0 19 rfl rfl)
theorem dX1_bestSite_20 : decode cX1_bestSite 20 = .ok (.getfield 46, 3) := dk_180 0 46 (dk_at dksX1_bestSite_0 20 rfl rfl)
theorem dX1_bestSite_23 : decode cX1_bestSite 23 = .ok (.invokevirtual 240, 3) := dk_182 0 240 (dk_at dksX1_bestSite_1 0 rfl rfl)
theorem dX1_bestSite_26 : decode cX1_bestSite 26 = .ok (.iconst 0, 1) := dk_3 (dk_at dksX1_bestSite_1 3 rfl rfl)
theorem dX1_bestSite_27 : decode cX1_bestSite 27 = .ok (.istore_n 2, 1) := dk_61 (dk_at dksX1_bestSite_1 4 rfl rfl)
theorem dX1_bestSite_28 : decode cX1_bestSite 28 = .ok (.iconst (-1), 1) := dk_2 (dk_at dksX1_bestSite_1 5 rfl rfl)
theorem dX1_bestSite_29 : decode cX1_bestSite 29 = .ok (.istore_n 3, 1) := dk_62 (dk_at dksX1_bestSite_1 6 rfl rfl)
theorem dX1_bestSite_30 : decode cX1_bestSite 30 = .ok (.iconst 0, 1) := dk_3 (dk_at dksX1_bestSite_1 7 rfl rfl)
theorem dX1_bestSite_31 : decode cX1_bestSite 31 = .ok (.istore 4, 2) := dk_54 4 (dk_at dksX1_bestSite_1 8 rfl rfl)
theorem dX1_bestSite_33 : decode cX1_bestSite 33 = .ok (.iload 4, 2) := dk_21 4 (dk_at dksX1_bestSite_1 10 rfl rfl)
theorem dX1_bestSite_35 : decode cX1_bestSite 35 = .ok (.aload_n 0, 1) := dk_42 (dk_at dksX1_bestSite_1 12 rfl rfl)
theorem dX1_bestSite_36 : decode cX1_bestSite 36 = .ok (.getfield 46, 3) := dk_180 0 46 (dk_at dksX1_bestSite_1 13 rfl rfl)
theorem dX1_bestSite_39 : decode cX1_bestSite 39 = .ok (.getfield 58, 3) := dk_180 0 58 (dk_at dksX1_bestSite_1 16 rfl rfl)
theorem dX1_bestSite_42 : decode cX1_bestSite 42 = .ok (.getfield 251, 3) := dk_180 0 251 (dk_at dksX1_bestSite_1 19 rfl rfl)
theorem dX1_bestSite_45 : decode cX1_bestSite 45 = .ok (.if_icmp .ge 76, 3) := dk_162 0 76 (dk_at dksX1_bestSite_2 0 rfl rfl)
theorem dX1_bestSite_48 : decode cX1_bestSite 48 = .ok (.iconst 0, 1) := dk_3 (dk_at dksX1_bestSite_2 3 rfl rfl)
theorem dX1_bestSite_49 : decode cX1_bestSite 49 = .ok (.istore 5, 2) := dk_54 5 (dk_at dksX1_bestSite_2 4 rfl rfl)
theorem dX1_bestSite_51 : decode cX1_bestSite 51 = .ok (.iload 5, 2) := dk_21 5 (dk_at dksX1_bestSite_2 6 rfl rfl)
theorem dX1_bestSite_53 : decode cX1_bestSite 53 = .ok (.aload_n 0, 1) := dk_42 (dk_at dksX1_bestSite_2 8 rfl rfl)
theorem dX1_bestSite_54 : decode cX1_bestSite 54 = .ok (.getfield 46, 3) := dk_180 0 46 (dk_at dksX1_bestSite_2 9 rfl rfl)
theorem dX1_bestSite_57 : decode cX1_bestSite 57 = .ok (.getfield 58, 3) := dk_180 0 58 (dk_at dksX1_bestSite_2 12 rfl rfl)
theorem dX1_bestSite_60 : decode cX1_bestSite 60 = .ok (.getfield 254, 3) := dk_180 0 254 (dk_at dksX1_bestSite_2 15 rfl rfl)
theorem dX1_bestSite_63 : decode cX1_bestSite 63 = .ok (.if_icmp .ge 52, 3) := dk_162 0 52 (dk_at dksX1_bestSite_2 18 rfl rfl)
theorem dX1_bestSite_66 : decode cX1_bestSite 66 = .ok (.aload_n 0, 1) := dk_42 (dk_at dksX1_bestSite_2 21 rfl rfl)
theorem dX1_bestSite_67 : decode cX1_bestSite 67 = .ok (.getfield 46, 3) := dk_180 0 46 (dk_at dksX1_bestSite_3 0 rfl rfl)
theorem dX1_bestSite_70 : decode cX1_bestSite 70 = .ok (.new 243, 3) := dk_187 0 243 (dk_at dksX1_bestSite_3 3 rfl rfl)
theorem dX1_bestSite_73 : decode cX1_bestSite 73 = .ok (.dup, 1) := dk_89 (dk_at dksX1_bestSite_3 6 rfl rfl)
theorem dX1_bestSite_74 : decode cX1_bestSite 74 = .ok (.iload 5, 2) := dk_21 5 (dk_at dksX1_bestSite_3 7 rfl rfl)
theorem dX1_bestSite_76 : decode cX1_bestSite 76 = .ok (.iload 4, 2) := dk_21 4 (dk_at dksX1_bestSite_3 9 rfl rfl)
theorem dX1_bestSite_78 : decode cX1_bestSite 78 = .ok (.invokespecial 245, 3) := dk_183 0 245 (dk_at dksX1_bestSite_3 11 rfl rfl)
theorem dX1_bestSite_81 : decode cX1_bestSite 81 = .ok (.iload_n 1, 1) := dk_27 (dk_at dksX1_bestSite_3 14 rfl rfl)
theorem dX1_bestSite_82 : decode cX1_bestSite 82 = .ok (.iconst 0, 1) := dk_3 (dk_at dksX1_bestSite_3 15 rfl rfl)
theorem dX1_bestSite_83 : decode cX1_bestSite 83 = .ok (.invokevirtual 247, 3) := dk_182 0 247 (dk_at dksX1_bestSite_3 16 rfl rfl)
theorem dX1_bestSite_86 : decode cX1_bestSite 86 = .ok (.istore 6, 2) := dk_54 6 (dk_at dksX1_bestSite_3 19 rfl rfl)
theorem dX1_bestSite_88 : decode cX1_bestSite 88 = .ok (.iload 6, 2) := dk_21 6 (dk_at dksX1_bestSite_3 21 rfl rfl)
theorem dX1_bestSite_90 : decode cX1_bestSite 90 = .ok (.iload_n 3, 1) := dk_29 (dk_at dksX1_bestSite_3 23 rfl rfl)
theorem dX1_bestSite_91 : decode cX1_bestSite 91 = .ok (.if_icmp .gt 6, 3) := dk_163 0 6 (dk_at dksX1_bestSite_4 0 rfl rfl)
theorem dX1_bestSite_94 : decode cX1_bestSite 94 = .ok (.goto 15, 3) := dk_167 0 15 (dk_at dksX1_bestSite_4 3 rfl rfl)
theorem dX1_bestSite_97 : decode cX1_bestSite 97 = .ok (.bipush 100, 2) := dk_16 100 (dk_at dksX1_bestSite_4 6 rfl rfl)
theorem dX1_bestSite_99 : decode cX1_bestSite 99 = .ok (.iload 4, 2) := dk_21 4 (dk_at dksX1_bestSite_4 8 rfl rfl)
theorem dX1_bestSite_101 : decode cX1_bestSite 101 = .ok (.imul, 1) := dk_104 (dk_at dksX1_bestSite_4 10 rfl rfl)
theorem dX1_bestSite_102 : decode cX1_bestSite 102 = .ok (.iload 5, 2) := dk_21 5 (dk_at dksX1_bestSite_4 11 rfl rfl)
theorem dX1_bestSite_104 : decode cX1_bestSite 104 = .ok (.iadd, 1) := dk_96 (dk_at dksX1_bestSite_4 13 rfl rfl)
theorem dX1_bestSite_105 : decode cX1_bestSite 105 = .ok (.istore_n 2, 1) := dk_61 (dk_at dksX1_bestSite_4 14 rfl rfl)
theorem dX1_bestSite_106 : decode cX1_bestSite 106 = .ok (.iload 6, 2) := dk_21 6 (dk_at dksX1_bestSite_4 15 rfl rfl)
theorem dX1_bestSite_108 : decode cX1_bestSite 108 = .ok (.istore_n 3, 1) := dk_62 (dk_at dksX1_bestSite_4 17 rfl rfl)
theorem dX1_bestSite_109 : decode cX1_bestSite 109 = .ok (.iinc 5 1, 3) := dk_132 5 1 (dk_at dksX1_bestSite_4 18 rfl rfl)
theorem dX1_bestSite_112 : decode cX1_bestSite 112 = .ok (.goto (-61), 3) := dk_167 255 195 (dk_at dksX1_bestSite_4 21 rfl rfl)
theorem dX1_bestSite_115 : decode cX1_bestSite 115 = .ok (.iinc 4 1, 3) := dk_132 4 1 (dk_at dksX1_bestSite_5 0 rfl rfl)
theorem dX1_bestSite_118 : decode cX1_bestSite 118 = .ok (.goto (-85), 3) := dk_167 255 171 (dk_at dksX1_bestSite_5 3 rfl rfl)
theorem dX1_bestSite_121 : decode cX1_bestSite 121 = .ok (.iload_n 2, 1) := dk_28 (dk_at dksX1_bestSite_5 6 rfl rfl)
theorem dX1_bestSite_122 : decode cX1_bestSite 122 = .ok (.ireturn, 1) := dk_172 (dk_at dksX1_bestSite_5 7 rfl rfl)
abbrev cX1_queueAt : ByteArray := prog_1_method_48_code
def yX1_queueAt : MethodName := ⟨RX1, "queueAt", "(I)I"⟩
def dkwX1_queueAt_1 : List UInt8 := [184, 0, 77, 42, 180, 0, 46, 180, 0, 58, 180, 1, 7, 27, 46, 172]
abbrev dktX1_queueAt_1 : List UInt8 := dkwX1_queueAt_1 ++ []
def dkwX1_queueAt_0 : List UInt8 := [42, 182, 0, 54, 182, 1, 4, 61, 4, 188, 4, 89, 3, 27, 133, 9, 28, 4, 100, 133, 184, 0, 73, 84]
abbrev dktX1_queueAt_0 : List UInt8 := dkwX1_queueAt_0 ++ dktX1_queueAt_1
theorem dksX1_queueAt_0 : cX1_queueAt.data.toList.drop 0 = dktX1_queueAt_0 := by decide +kernel
theorem dksX1_queueAt_1 : cX1_queueAt.data.toList.drop 24 = dktX1_queueAt_1 := dk_seg dksX1_queueAt_0 24 rfl rfl
theorem dX1_queueAt_0 : decode cX1_queueAt 0 = .ok (.aload_n 0, 1) := dk_42 (dk_at dksX1_queueAt_0 0 rfl rfl)
theorem dX1_queueAt_1 : decode cX1_queueAt 1 = .ok (.invokevirtual 54, 3) := dk_182 0 54 (dk_at dksX1_queueAt_0 1 rfl rfl)
theorem dX1_queueAt_4 : decode cX1_queueAt 4 = .ok (.invokevirtual 260, 3) := dk_182 1 4 (dk_at dksX1_queueAt_0 4 rfl rfl)
theorem dX1_queueAt_7 : decode cX1_queueAt 7 = .ok (.istore_n 2, 1) := dk_61 (dk_at dksX1_queueAt_0 7 rfl rfl)
theorem dX1_queueAt_8 : decode cX1_queueAt 8 = .ok (.iconst 1, 1) := dk_4 (dk_at dksX1_queueAt_0 8 rfl rfl)
theorem dX1_queueAt_9 : decode cX1_queueAt 9 = .ok (.newarray .boolean, 2) := dk_188_4 (dk_at dksX1_queueAt_0 9 rfl rfl)
theorem dX1_queueAt_11 : decode cX1_queueAt 11 = .ok (.dup, 1) := dk_89 (dk_at dksX1_queueAt_0 11 rfl rfl)
theorem dX1_queueAt_12 : decode cX1_queueAt 12 = .ok (.iconst 0, 1) := dk_3 (dk_at dksX1_queueAt_0 12 rfl rfl)
theorem dX1_queueAt_13 : decode cX1_queueAt 13 = .ok (.iload_n 1, 1) := dk_27 (dk_at dksX1_queueAt_0 13 rfl rfl)
theorem dX1_queueAt_14 : decode cX1_queueAt 14 = .ok (.i2l, 1) := dk_133 (dk_at dksX1_queueAt_0 14 rfl rfl)
theorem dX1_queueAt_15 : decode cX1_queueAt 15 = .ok (.lconst 0, 1) := dk_9 (dk_at dksX1_queueAt_0 15 rfl rfl)
theorem dX1_queueAt_16 : decode cX1_queueAt 16 = .ok (.iload_n 2, 1) := dk_28 (dk_at dksX1_queueAt_0 16 rfl rfl)
theorem dX1_queueAt_17 : decode cX1_queueAt 17 = .ok (.iconst 1, 1) := dk_4 (dk_at dksX1_queueAt_0 17 rfl rfl)
theorem dX1_queueAt_18 : decode cX1_queueAt 18 = .ok (.isub, 1) := dk_100 (dk_at dksX1_queueAt_0 18 rfl rfl)
theorem dX1_queueAt_19 : decode cX1_queueAt 19 = .ok (.i2l, 1) := dk_133 (dk_at dksX1_queueAt_0 19 rfl rfl)
theorem dX1_queueAt_20 : decode cX1_queueAt 20 = .ok (.invokestatic 73, 3) := dk_184 0 73 (dk_at dksX1_queueAt_0 20 rfl rfl)
theorem dX1_queueAt_23 : decode cX1_queueAt 23 = .ok (.bastore, 1) := dk_84 (dk_at dksX1_queueAt_0 23 rfl rfl)
theorem dX1_queueAt_24 : decode cX1_queueAt 24 = .ok (.invokestatic 77, 3) := dk_184 0 77 (dk_at dksX1_queueAt_1 0 rfl rfl)
theorem dX1_queueAt_27 : decode cX1_queueAt 27 = .ok (.aload_n 0, 1) := dk_42 (dk_at dksX1_queueAt_1 3 rfl rfl)
theorem dX1_queueAt_28 : decode cX1_queueAt 28 = .ok (.getfield 46, 3) := dk_180 0 46 (dk_at dksX1_queueAt_1 4 rfl rfl)
theorem dX1_queueAt_31 : decode cX1_queueAt 31 = .ok (.getfield 58, 3) := dk_180 0 58 (dk_at dksX1_queueAt_1 7 rfl rfl)
theorem dX1_queueAt_34 : decode cX1_queueAt 34 = .ok (.getfield 263, 3) := dk_180 1 7 (dk_at dksX1_queueAt_1 10 rfl rfl)
theorem dX1_queueAt_37 : decode cX1_queueAt 37 = .ok (.iload_n 1, 1) := dk_27 (dk_at dksX1_queueAt_1 13 rfl rfl)
theorem dX1_queueAt_38 : decode cX1_queueAt 38 = .ok (.iaload, 1) := dk_46 (dk_at dksX1_queueAt_1 14 rfl rfl)
theorem dX1_queueAt_39 : decode cX1_queueAt 39 = .ok (.ireturn, 1) := dk_172 (dk_at dksX1_queueAt_1 15 rfl rfl)
abbrev cX1_transmitting : ByteArray := prog_1_method_49_code
def yX1_transmitting : MethodName := ⟨RX1, "transmitting", "(I)I"⟩
def dkwX1_transmitting_2 : List UInt8 := [167, 0, 4, 3, 96, 61, 132, 3, 1, 167, 255, 224, 28, 172]
abbrev dktX1_transmitting_2 : List UInt8 := dkwX1_transmitting_2 ++ []
def dkwX1_transmitting_1 : List UInt8 := [42, 182, 0, 216, 162, 0, 30, 28, 42, 180, 0, 46, 180, 0, 176, 29, 46, 27, 160, 0, 7, 4]
abbrev dktX1_transmitting_1 : List UInt8 := dkwX1_transmitting_1 ++ dktX1_transmitting_2
def dkwX1_transmitting_0 : List UInt8 := [42, 182, 0, 54, 87, 4, 188, 4, 89, 3, 42, 27, 182, 0, 94, 84, 184, 0, 77, 3, 61, 3, 62, 29]
abbrev dktX1_transmitting_0 : List UInt8 := dkwX1_transmitting_0 ++ dktX1_transmitting_1
theorem dksX1_transmitting_0 : cX1_transmitting.data.toList.drop 0 = dktX1_transmitting_0 := by decide +kernel
theorem dksX1_transmitting_1 : cX1_transmitting.data.toList.drop 24 = dktX1_transmitting_1 := dk_seg dksX1_transmitting_0 24 rfl rfl
theorem dksX1_transmitting_2 : cX1_transmitting.data.toList.drop 46 = dktX1_transmitting_2 := dk_seg dksX1_transmitting_1 22 rfl rfl
theorem dX1_transmitting_0 : decode cX1_transmitting 0 = .ok (.aload_n 0, 1) := dk_42 (dk_at dksX1_transmitting_0 0 rfl rfl)
theorem dX1_transmitting_1 : decode cX1_transmitting 1 = .ok (.invokevirtual 54, 3) := dk_182 0 54 (dk_at dksX1_transmitting_0 1 rfl rfl)
theorem dX1_transmitting_4 : decode cX1_transmitting 4 = .ok (.pop, 1) := dk_87 (dk_at dksX1_transmitting_0 4 rfl rfl)
theorem dX1_transmitting_5 : decode cX1_transmitting 5 = .ok (.iconst 1, 1) := dk_4 (dk_at dksX1_transmitting_0 5 rfl rfl)
theorem dX1_transmitting_6 : decode cX1_transmitting 6 = .ok (.newarray .boolean, 2) := dk_188_4 (dk_at dksX1_transmitting_0 6 rfl rfl)
theorem dX1_transmitting_8 : decode cX1_transmitting 8 = .ok (.dup, 1) := dk_89 (dk_at dksX1_transmitting_0 8 rfl rfl)
theorem dX1_transmitting_9 : decode cX1_transmitting 9 = .ok (.iconst 0, 1) := dk_3 (dk_at dksX1_transmitting_0 9 rfl rfl)
theorem dX1_transmitting_10 : decode cX1_transmitting 10 = .ok (.aload_n 0, 1) := dk_42 (dk_at dksX1_transmitting_0 10 rfl rfl)
theorem dX1_transmitting_11 : decode cX1_transmitting 11 = .ok (.iload_n 1, 1) := dk_27 (dk_at dksX1_transmitting_0 11 rfl rfl)
theorem dX1_transmitting_12 : decode cX1_transmitting 12 = .ok (.invokevirtual 94, 3) := dk_182 0 94 (dk_at dksX1_transmitting_0 12 rfl rfl)
theorem dX1_transmitting_15 : decode cX1_transmitting 15 = .ok (.bastore, 1) := dk_84 (dk_at dksX1_transmitting_0 15 rfl rfl)
theorem dX1_transmitting_16 : decode cX1_transmitting 16 = .ok (.invokestatic 77, 3) := dk_184 0 77 (dk_at dksX1_transmitting_0 16 rfl rfl)
theorem dX1_transmitting_19 : decode cX1_transmitting 19 = .ok (.iconst 0, 1) := dk_3 (dk_at dksX1_transmitting_0 19 rfl rfl)
theorem dX1_transmitting_20 : decode cX1_transmitting 20 = .ok (.istore_n 2, 1) := dk_61 (dk_at dksX1_transmitting_0 20 rfl rfl)
theorem dX1_transmitting_21 : decode cX1_transmitting 21 = .ok (.iconst 0, 1) := dk_3 (dk_at dksX1_transmitting_0 21 rfl rfl)
theorem dX1_transmitting_22 : decode cX1_transmitting 22 = .ok (.istore_n 3, 1) := dk_62 (dk_at dksX1_transmitting_0 22 rfl rfl)
theorem dX1_transmitting_23 : decode cX1_transmitting 23 = .ok (.iload_n 3, 1) := dk_29 (dk_at dksX1_transmitting_0 23 rfl rfl)
theorem dX1_transmitting_24 : decode cX1_transmitting 24 = .ok (.aload_n 0, 1) := dk_42 (dk_at dksX1_transmitting_1 0 rfl rfl)
theorem dX1_transmitting_25 : decode cX1_transmitting 25 = .ok (.invokevirtual 216, 3) := dk_182 0 216 (dk_at dksX1_transmitting_1 1 rfl rfl)
theorem dX1_transmitting_28 : decode cX1_transmitting 28 = .ok (.if_icmp .ge 30, 3) := dk_162 0 30 (dk_at dksX1_transmitting_1 4 rfl rfl)
theorem dX1_transmitting_31 : decode cX1_transmitting 31 = .ok (.iload_n 2, 1) := dk_28 (dk_at dksX1_transmitting_1 7 rfl rfl)
theorem dX1_transmitting_32 : decode cX1_transmitting 32 = .ok (.aload_n 0, 1) := dk_42 (dk_at dksX1_transmitting_1 8 rfl rfl)
theorem dX1_transmitting_33 : decode cX1_transmitting 33 = .ok (.getfield 46, 3) := dk_180 0 46 (dk_at dksX1_transmitting_1 9 rfl rfl)
theorem dX1_transmitting_36 : decode cX1_transmitting 36 = .ok (.getfield 176, 3) := dk_180 0 176 (dk_at dksX1_transmitting_1 12 rfl rfl)
theorem dX1_transmitting_39 : decode cX1_transmitting 39 = .ok (.iload_n 3, 1) := dk_29 (dk_at dksX1_transmitting_1 15 rfl rfl)
theorem dX1_transmitting_40 : decode cX1_transmitting 40 = .ok (.iaload, 1) := dk_46 (dk_at dksX1_transmitting_1 16 rfl rfl)
theorem dX1_transmitting_41 : decode cX1_transmitting 41 = .ok (.iload_n 1, 1) := dk_27 (dk_at dksX1_transmitting_1 17 rfl rfl)
theorem dX1_transmitting_42 : decode cX1_transmitting 42 = .ok (.if_icmp .ne 7, 3) := dk_160 0 7 (dk_at dksX1_transmitting_1 18 rfl rfl)
theorem dX1_transmitting_45 : decode cX1_transmitting 45 = .ok (.iconst 1, 1) := dk_4 (dk_at dksX1_transmitting_1 21 rfl rfl)
theorem dX1_transmitting_46 : decode cX1_transmitting 46 = .ok (.goto 4, 3) := dk_167 0 4 (dk_at dksX1_transmitting_2 0 rfl rfl)
theorem dX1_transmitting_49 : decode cX1_transmitting 49 = .ok (.iconst 0, 1) := dk_3 (dk_at dksX1_transmitting_2 3 rfl rfl)
theorem dX1_transmitting_50 : decode cX1_transmitting 50 = .ok (.iadd, 1) := dk_96 (dk_at dksX1_transmitting_2 4 rfl rfl)
theorem dX1_transmitting_51 : decode cX1_transmitting 51 = .ok (.istore_n 2, 1) := dk_61 (dk_at dksX1_transmitting_2 5 rfl rfl)
theorem dX1_transmitting_52 : decode cX1_transmitting 52 = .ok (.iinc 3 1, 3) := dk_132 3 1 (dk_at dksX1_transmitting_2 6 rfl rfl)
theorem dX1_transmitting_55 : decode cX1_transmitting 55 = .ok (.goto (-32), 3) := dk_167 255 224 (dk_at dksX1_transmitting_2 9 rfl rfl)
theorem dX1_transmitting_58 : decode cX1_transmitting 58 = .ok (.iload_n 2, 1) := dk_28 (dk_at dksX1_transmitting_2 12 rfl rfl)
theorem dX1_transmitting_59 : decode cX1_transmitting 59 = .ok (.ireturn, 1) := dk_172 (dk_at dksX1_transmitting_2 13 rfl rfl)
abbrev cX1_event : ByteArray := prog_1_method_53_code
def yX1_event : MethodName := ⟨RX1, "event", "(II)I"⟩
def dkwX1_event_2 : List UInt8 := [180, 0, 46, 180, 1, 24, 28, 50, 27, 46, 172]
abbrev dktX1_event_2 : List UInt8 := dkwX1_event_2 ++ []
def dkwX1_event_1 : List UInt8 := [184, 0, 77, 4, 188, 4, 89, 3, 28, 133, 9, 20, 1, 19, 184, 0, 73, 84, 184, 1, 21, 42]
abbrev dktX1_event_1 : List UInt8 := dkwX1_event_1 ++ dktX1_event_2
def dkwX1_event_0 : List UInt8 := [4, 188, 4, 89, 3, 27, 133, 9, 42, 182, 0, 54, 180, 1, 16, 4, 100, 133, 184, 0, 73, 84]
abbrev dktX1_event_0 : List UInt8 := dkwX1_event_0 ++ dktX1_event_1
theorem dksX1_event_0 : cX1_event.data.toList.drop 0 = dktX1_event_0 := by decide +kernel
theorem dksX1_event_1 : cX1_event.data.toList.drop 22 = dktX1_event_1 := dk_seg dksX1_event_0 22 rfl rfl
theorem dksX1_event_2 : cX1_event.data.toList.drop 44 = dktX1_event_2 := dk_seg dksX1_event_1 22 rfl rfl
theorem dX1_event_0 : decode cX1_event 0 = .ok (.iconst 1, 1) := dk_4 (dk_at dksX1_event_0 0 rfl rfl)
theorem dX1_event_1 : decode cX1_event 1 = .ok (.newarray .boolean, 2) := dk_188_4 (dk_at dksX1_event_0 1 rfl rfl)
theorem dX1_event_3 : decode cX1_event 3 = .ok (.dup, 1) := dk_89 (dk_at dksX1_event_0 3 rfl rfl)
theorem dX1_event_4 : decode cX1_event 4 = .ok (.iconst 0, 1) := dk_3 (dk_at dksX1_event_0 4 rfl rfl)
theorem dX1_event_5 : decode cX1_event 5 = .ok (.iload_n 1, 1) := dk_27 (dk_at dksX1_event_0 5 rfl rfl)
theorem dX1_event_6 : decode cX1_event 6 = .ok (.i2l, 1) := dk_133 (dk_at dksX1_event_0 6 rfl rfl)
theorem dX1_event_7 : decode cX1_event 7 = .ok (.lconst 0, 1) := dk_9 (dk_at dksX1_event_0 7 rfl rfl)
theorem dX1_event_8 : decode cX1_event 8 = .ok (.aload_n 0, 1) := dk_42 (dk_at dksX1_event_0 8 rfl rfl)
theorem dX1_event_9 : decode cX1_event 9 = .ok (.invokevirtual 54, 3) := dk_182 0 54 (dk_at dksX1_event_0 9 rfl rfl)
theorem dX1_event_12 : decode cX1_event 12 = .ok (.getfield 272, 3) := dk_180 1 16 (dk_at dksX1_event_0 12 rfl rfl)
theorem dX1_event_15 : decode cX1_event 15 = .ok (.iconst 1, 1) := dk_4 (dk_at dksX1_event_0 15 rfl rfl)
theorem dX1_event_16 : decode cX1_event 16 = .ok (.isub, 1) := dk_100 (dk_at dksX1_event_0 16 rfl rfl)
theorem dX1_event_17 : decode cX1_event 17 = .ok (.i2l, 1) := dk_133 (dk_at dksX1_event_0 17 rfl rfl)
theorem dX1_event_18 : decode cX1_event 18 = .ok (.invokestatic 73, 3) := dk_184 0 73 (dk_at dksX1_event_0 18 rfl rfl)
theorem dX1_event_21 : decode cX1_event 21 = .ok (.bastore, 1) := dk_84 (dk_at dksX1_event_0 21 rfl rfl)
theorem dX1_event_22 : decode cX1_event 22 = .ok (.invokestatic 77, 3) := dk_184 0 77 (dk_at dksX1_event_1 0 rfl rfl)
theorem dX1_event_25 : decode cX1_event 25 = .ok (.iconst 1, 1) := dk_4 (dk_at dksX1_event_1 3 rfl rfl)
theorem dX1_event_26 : decode cX1_event 26 = .ok (.newarray .boolean, 2) := dk_188_4 (dk_at dksX1_event_1 4 rfl rfl)
theorem dX1_event_28 : decode cX1_event 28 = .ok (.dup, 1) := dk_89 (dk_at dksX1_event_1 6 rfl rfl)
theorem dX1_event_29 : decode cX1_event 29 = .ok (.iconst 0, 1) := dk_3 (dk_at dksX1_event_1 7 rfl rfl)
theorem dX1_event_30 : decode cX1_event 30 = .ok (.iload_n 2, 1) := dk_28 (dk_at dksX1_event_1 8 rfl rfl)
theorem dX1_event_31 : decode cX1_event 31 = .ok (.i2l, 1) := dk_133 (dk_at dksX1_event_1 9 rfl rfl)
theorem dX1_event_32 : decode cX1_event 32 = .ok (.lconst 0, 1) := dk_9 (dk_at dksX1_event_1 10 rfl rfl)
theorem dX1_event_33 : decode cX1_event 33 = .ok (.ldc2_w 275, 3) := dk_20 1 19 (dk_at dksX1_event_1 11 rfl rfl)
theorem dX1_event_36 : decode cX1_event 36 = .ok (.invokestatic 73, 3) := dk_184 0 73 (dk_at dksX1_event_1 14 rfl rfl)
theorem dX1_event_39 : decode cX1_event 39 = .ok (.bastore, 1) := dk_84 (dk_at dksX1_event_1 17 rfl rfl)
theorem dX1_event_40 : decode cX1_event 40 = .ok (.invokestatic 277, 3) := dk_184 1 21 (dk_at dksX1_event_1 18 rfl rfl)
theorem dX1_event_43 : decode cX1_event 43 = .ok (.aload_n 0, 1) := dk_42 (dk_at dksX1_event_1 21 rfl rfl)
theorem dX1_event_44 : decode cX1_event 44 = .ok (.getfield 46, 3) := dk_180 0 46 (dk_at dksX1_event_2 0 rfl rfl)
theorem dX1_event_47 : decode cX1_event 47 = .ok (.getfield 280, 3) := dk_180 1 24 (dk_at dksX1_event_2 3 rfl rfl)
theorem dX1_event_50 : decode cX1_event 50 = .ok (.iload_n 2, 1) := dk_28 (dk_at dksX1_event_2 6 rfl rfl)
theorem dX1_event_51 : decode cX1_event 51 = .ok (.aaload, 1) := dk_50 (dk_at dksX1_event_2 7 rfl rfl)
theorem dX1_event_52 : decode cX1_event 52 = .ok (.iload_n 1, 1) := dk_27 (dk_at dksX1_event_2 8 rfl rfl)
theorem dX1_event_53 : decode cX1_event 53 = .ok (.iaload, 1) := dk_46 (dk_at dksX1_event_2 9 rfl rfl)
theorem dX1_event_54 : decode cX1_event 54 = .ok (.ireturn, 1) := dk_172 (dk_at dksX1_event_2 10 rfl rfl)
abbrev cX1_checkArgument : ByteArray := prog_1_method_3_code
def yX1_checkArgument : MethodName := ⟨RX1, "checkArgument", "([Z)V"⟩
def dkwX1_checkArgument_1 : List UInt8 := [187, 0, 37, 89, 183, 0, 39, 191, 132, 3, 1, 167, 255, 230, 177]
abbrev dktX1_checkArgument_1 : List UInt8 := dkwX1_checkArgument_1 ++ []
def dkwX1_checkArgument_0 : List UInt8 := [42, 76, 43, 190, 61, 3, 62, 29, 28, 162, 0, 27, 43, 29, 51, 54, 4, 21, 4, 154, 0, 11]
abbrev dktX1_checkArgument_0 : List UInt8 := dkwX1_checkArgument_0 ++ dktX1_checkArgument_1
theorem dksX1_checkArgument_0 : cX1_checkArgument.data.toList.drop 0 = dktX1_checkArgument_0 := by decide +kernel
theorem dksX1_checkArgument_1 : cX1_checkArgument.data.toList.drop 22 = dktX1_checkArgument_1 := dk_seg dksX1_checkArgument_0 22 rfl rfl
theorem dX1_checkArgument_0 : decode cX1_checkArgument 0 = .ok (.aload_n 0, 1) := dk_42 (dk_at dksX1_checkArgument_0 0 rfl rfl)
theorem dX1_checkArgument_1 : decode cX1_checkArgument 1 = .ok (.astore_n 1, 1) := dk_76 (dk_at dksX1_checkArgument_0 1 rfl rfl)
theorem dX1_checkArgument_2 : decode cX1_checkArgument 2 = .ok (.aload_n 1, 1) := dk_43 (dk_at dksX1_checkArgument_0 2 rfl rfl)
theorem dX1_checkArgument_3 : decode cX1_checkArgument 3 = .ok (.arraylength, 1) := dk_190 (dk_at dksX1_checkArgument_0 3 rfl rfl)
theorem dX1_checkArgument_4 : decode cX1_checkArgument 4 = .ok (.istore_n 2, 1) := dk_61 (dk_at dksX1_checkArgument_0 4 rfl rfl)
theorem dX1_checkArgument_5 : decode cX1_checkArgument 5 = .ok (.iconst 0, 1) := dk_3 (dk_at dksX1_checkArgument_0 5 rfl rfl)
theorem dX1_checkArgument_6 : decode cX1_checkArgument 6 = .ok (.istore_n 3, 1) := dk_62 (dk_at dksX1_checkArgument_0 6 rfl rfl)
theorem dX1_checkArgument_7 : decode cX1_checkArgument 7 = .ok (.iload_n 3, 1) := dk_29 (dk_at dksX1_checkArgument_0 7 rfl rfl)
theorem dX1_checkArgument_8 : decode cX1_checkArgument 8 = .ok (.iload_n 2, 1) := dk_28 (dk_at dksX1_checkArgument_0 8 rfl rfl)
theorem dX1_checkArgument_9 : decode cX1_checkArgument 9 = .ok (.if_icmp .ge 27, 3) := dk_162 0 27 (dk_at dksX1_checkArgument_0 9 rfl rfl)
theorem dX1_checkArgument_12 : decode cX1_checkArgument 12 = .ok (.aload_n 1, 1) := dk_43 (dk_at dksX1_checkArgument_0 12 rfl rfl)
theorem dX1_checkArgument_13 : decode cX1_checkArgument 13 = .ok (.iload_n 3, 1) := dk_29 (dk_at dksX1_checkArgument_0 13 rfl rfl)
theorem dX1_checkArgument_14 : decode cX1_checkArgument 14 = .ok (.baload, 1) := dk_51 (dk_at dksX1_checkArgument_0 14 rfl rfl)
theorem dX1_checkArgument_15 : decode cX1_checkArgument 15 = .ok (.istore 4, 2) := dk_54 4 (dk_at dksX1_checkArgument_0 15 rfl rfl)
theorem dX1_checkArgument_17 : decode cX1_checkArgument 17 = .ok (.iload 4, 2) := dk_21 4 (dk_at dksX1_checkArgument_0 17 rfl rfl)
theorem dX1_checkArgument_19 : decode cX1_checkArgument 19 = .ok (.ifCond .ne 11, 3) := dk_154 0 11 (dk_at dksX1_checkArgument_0 19 rfl rfl)
theorem dX1_checkArgument_22 : decode cX1_checkArgument 22 = .ok (.new 37, 3) := dk_187 0 37 (dk_at dksX1_checkArgument_1 0 rfl rfl)
theorem dX1_checkArgument_25 : decode cX1_checkArgument 25 = .ok (.dup, 1) := dk_89 (dk_at dksX1_checkArgument_1 3 rfl rfl)
theorem dX1_checkArgument_26 : decode cX1_checkArgument 26 = .ok (.invokespecial 39, 3) := dk_183 0 39 (dk_at dksX1_checkArgument_1 4 rfl rfl)
theorem dX1_checkArgument_29 : decode cX1_checkArgument 29 = .ok (.athrow, 1) := dk_191 (dk_at dksX1_checkArgument_1 7 rfl rfl)
theorem dX1_checkArgument_30 : decode cX1_checkArgument 30 = .ok (.iinc 3 1, 3) := dk_132 3 1 (dk_at dksX1_checkArgument_1 8 rfl rfl)
theorem dX1_checkArgument_33 : decode cX1_checkArgument 33 = .ok (.goto (-26), 3) := dk_167 255 230 (dk_at dksX1_checkArgument_1 11 rfl rfl)
theorem dX1_checkArgument_36 : decode cX1_checkArgument 36 = .ok (.return_, 1) := dk_177 (dk_at dksX1_checkArgument_1 14 rfl rfl)
abbrev cX1_report : ByteArray := prog_1_method_54_code
def yX1_report : MethodName := ⟨RX1, "report", "()I"⟩
def dkwX1_report_5 : List UInt8 := [87, 3, 61, 132, 3, 1, 167, 255, 187, 132, 1, 1, 167, 255, 141, 42, 180, 0, 10, 182, 1, 39, 172]
abbrev dktX1_report_5 : List UInt8 := dkwX1_report_5 ++ []
def dkwX1_report_4 : List UInt8 := [180, 0, 10, 29, 182, 1, 36, 16, 64, 182, 1, 32, 42, 180, 0, 46, 180, 0, 179, 29, 46, 182, 1, 36]
abbrev dktX1_report_4 : List UInt8 := dkwX1_report_4 ++ dktX1_report_5
def dkwX1_report_3 : List UInt8 := [46, 27, 159, 0, 6, 167, 0, 45, 28, 154, 0, 13, 42, 180, 0, 10, 16, 44, 182, 1, 32, 87, 42]
abbrev dktX1_report_3 : List UInt8 := dkwX1_report_3 ++ dktX1_report_4
def dkwX1_report_2 : List UInt8 := [182, 1, 32, 87, 4, 61, 3, 62, 29, 42, 182, 0, 216, 162, 0, 67, 42, 180, 0, 46, 180, 0, 176, 29]
abbrev dktX1_report_2 : List UInt8 := dkwX1_report_2 ++ dktX1_report_3
def dkwX1_report_1 : List UInt8 := [158, 0, 13, 42, 180, 0, 10, 16, 59, 182, 1, 32, 87, 42, 180, 0, 10, 27, 182, 1, 36, 16, 58]
abbrev dktX1_report_1 : List UInt8 := dkwX1_report_1 ++ dktX1_report_2
def dkwX1_report_0 : List UInt8 := [42, 182, 0, 54, 87, 42, 180, 0, 10, 3, 182, 1, 28, 3, 60, 27, 42, 182, 0, 214, 162, 0, 113, 27]
abbrev dktX1_report_0 : List UInt8 := dkwX1_report_0 ++ dktX1_report_1
theorem dksX1_report_0 : cX1_report.data.toList.drop 0 = dktX1_report_0 := by decide +kernel
theorem dksX1_report_1 : cX1_report.data.toList.drop 24 = dktX1_report_1 := dk_seg dksX1_report_0 24 rfl rfl
theorem dksX1_report_2 : cX1_report.data.toList.drop 47 = dktX1_report_2 := dk_seg dksX1_report_1 23 rfl rfl
theorem dksX1_report_3 : cX1_report.data.toList.drop 71 = dktX1_report_3 := dk_seg dksX1_report_2 24 rfl rfl
theorem dksX1_report_4 : cX1_report.data.toList.drop 94 = dktX1_report_4 := dk_seg dksX1_report_3 23 rfl rfl
theorem dksX1_report_5 : cX1_report.data.toList.drop 118 = dktX1_report_5 := dk_seg dksX1_report_4 24 rfl rfl
theorem dX1_report_0 : decode cX1_report 0 = .ok (.aload_n 0, 1) := dk_42 (dk_at dksX1_report_0 0 rfl rfl)
theorem dX1_report_1 : decode cX1_report 1 = .ok (.invokevirtual 54, 3) := dk_182 0 54 (dk_at dksX1_report_0 1 rfl rfl)
theorem dX1_report_4 : decode cX1_report 4 = .ok (.pop, 1) := dk_87 (dk_at dksX1_report_0 4 rfl rfl)
theorem dX1_report_5 : decode cX1_report 5 = .ok (.aload_n 0, 1) := dk_42 (dk_at dksX1_report_0 5 rfl rfl)
theorem dX1_report_6 : decode cX1_report 6 = .ok (.getfield 10, 3) := dk_180 0 10 (dk_at dksX1_report_0 6 rfl rfl)
theorem dX1_report_9 : decode cX1_report 9 = .ok (.iconst 0, 1) := dk_3 (dk_at dksX1_report_0 9 rfl rfl)
theorem dX1_report_10 : decode cX1_report 10 = .ok (.invokevirtual 284, 3) := dk_182 1 28 (dk_at dksX1_report_0 10 rfl rfl)
theorem dX1_report_13 : decode cX1_report 13 = .ok (.iconst 0, 1) := dk_3 (dk_at dksX1_report_0 13 rfl rfl)
theorem dX1_report_14 : decode cX1_report 14 = .ok (.istore_n 1, 1) := dk_60 (dk_at dksX1_report_0 14 rfl rfl)
theorem dX1_report_15 : decode cX1_report 15 = .ok (.iload_n 1, 1) := dk_27 (dk_at dksX1_report_0 15 rfl rfl)
theorem dX1_report_16 : decode cX1_report 16 = .ok (.aload_n 0, 1) := dk_42 (dk_at dksX1_report_0 16 rfl rfl)
theorem dX1_report_17 : decode cX1_report 17 = .ok (.invokevirtual 214, 3) := dk_182 0 214 (dk_at dksX1_report_0 17 rfl rfl)
theorem dX1_report_20 : decode cX1_report 20 = .ok (.if_icmp .ge 113, 3) := dk_162 0 113 (dk_at dksX1_report_0 20 rfl rfl)
theorem dX1_report_23 : decode cX1_report 23 = .ok (.iload_n 1, 1) := dk_27 (dk_at dksX1_report_0 23 rfl rfl)
theorem dX1_report_24 : decode cX1_report 24 = .ok (.ifCond .le 13, 3) := dk_158 0 13 (dk_at dksX1_report_1 0 rfl rfl)
theorem dX1_report_27 : decode cX1_report 27 = .ok (.aload_n 0, 1) := dk_42 (dk_at dksX1_report_1 3 rfl rfl)
theorem dX1_report_28 : decode cX1_report 28 = .ok (.getfield 10, 3) := dk_180 0 10 (dk_at dksX1_report_1 4 rfl rfl)
theorem dX1_report_31 : decode cX1_report 31 = .ok (.bipush 59, 2) := dk_16 59 (dk_at dksX1_report_1 7 rfl rfl)
theorem dX1_report_33 : decode cX1_report 33 = .ok (.invokevirtual 288, 3) := dk_182 1 32 (dk_at dksX1_report_1 9 rfl rfl)
theorem dX1_report_36 : decode cX1_report 36 = .ok (.pop, 1) := dk_87 (dk_at dksX1_report_1 12 rfl rfl)
theorem dX1_report_37 : decode cX1_report 37 = .ok (.aload_n 0, 1) := dk_42 (dk_at dksX1_report_1 13 rfl rfl)
theorem dX1_report_38 : decode cX1_report 38 = .ok (.getfield 10, 3) := dk_180 0 10 (dk_at dksX1_report_1 14 rfl rfl)
theorem dX1_report_41 : decode cX1_report 41 = .ok (.iload_n 1, 1) := dk_27 (dk_at dksX1_report_1 17 rfl rfl)
theorem dX1_report_42 : decode cX1_report 42 = .ok (.invokevirtual 292, 3) := dk_182 1 36 (dk_at dksX1_report_1 18 rfl rfl)
theorem dX1_report_45 : decode cX1_report 45 = .ok (.bipush 58, 2) := dk_16 58 (dk_at dksX1_report_1 21 rfl rfl)
theorem dX1_report_47 : decode cX1_report 47 = .ok (.invokevirtual 288, 3) := dk_182 1 32 (dk_at dksX1_report_2 0 rfl rfl)
theorem dX1_report_50 : decode cX1_report 50 = .ok (.pop, 1) := dk_87 (dk_at dksX1_report_2 3 rfl rfl)
theorem dX1_report_51 : decode cX1_report 51 = .ok (.iconst 1, 1) := dk_4 (dk_at dksX1_report_2 4 rfl rfl)
theorem dX1_report_52 : decode cX1_report 52 = .ok (.istore_n 2, 1) := dk_61 (dk_at dksX1_report_2 5 rfl rfl)
theorem dX1_report_53 : decode cX1_report 53 = .ok (.iconst 0, 1) := dk_3 (dk_at dksX1_report_2 6 rfl rfl)
theorem dX1_report_54 : decode cX1_report 54 = .ok (.istore_n 3, 1) := dk_62 (dk_at dksX1_report_2 7 rfl rfl)
theorem dX1_report_55 : decode cX1_report 55 = .ok (.iload_n 3, 1) := dk_29 (dk_at dksX1_report_2 8 rfl rfl)
theorem dX1_report_56 : decode cX1_report 56 = .ok (.aload_n 0, 1) := dk_42 (dk_at dksX1_report_2 9 rfl rfl)
theorem dX1_report_57 : decode cX1_report 57 = .ok (.invokevirtual 216, 3) := dk_182 0 216 (dk_at dksX1_report_2 10 rfl rfl)
theorem dX1_report_60 : decode cX1_report 60 = .ok (.if_icmp .ge 67, 3) := dk_162 0 67 (dk_at dksX1_report_2 13 rfl rfl)
theorem dX1_report_63 : decode cX1_report 63 = .ok (.aload_n 0, 1) := dk_42 (dk_at dksX1_report_2 16 rfl rfl)
theorem dX1_report_64 : decode cX1_report 64 = .ok (.getfield 46, 3) := dk_180 0 46 (dk_at dksX1_report_2 17 rfl rfl)
theorem dX1_report_67 : decode cX1_report 67 = .ok (.getfield 176, 3) := dk_180 0 176 (dk_at dksX1_report_2 20 rfl rfl)
theorem dX1_report_70 : decode cX1_report 70 = .ok (.iload_n 3, 1) := dk_29 (dk_at dksX1_report_2 23 rfl rfl)
theorem dX1_report_71 : decode cX1_report 71 = .ok (.iaload, 1) := dk_46 (dk_at dksX1_report_3 0 rfl rfl)
theorem dX1_report_72 : decode cX1_report 72 = .ok (.iload_n 1, 1) := dk_27 (dk_at dksX1_report_3 1 rfl rfl)
theorem dX1_report_73 : decode cX1_report 73 = .ok (.if_icmp .eq 6, 3) := dk_159 0 6 (dk_at dksX1_report_3 2 rfl rfl)
theorem dX1_report_76 : decode cX1_report 76 = .ok (.goto 45, 3) := dk_167 0 45 (dk_at dksX1_report_3 5 rfl rfl)
theorem dX1_report_79 : decode cX1_report 79 = .ok (.iload_n 2, 1) := dk_28 (dk_at dksX1_report_3 8 rfl rfl)
theorem dX1_report_80 : decode cX1_report 80 = .ok (.ifCond .ne 13, 3) := dk_154 0 13 (dk_at dksX1_report_3 9 rfl rfl)
theorem dX1_report_83 : decode cX1_report 83 = .ok (.aload_n 0, 1) := dk_42 (dk_at dksX1_report_3 12 rfl rfl)
theorem dX1_report_84 : decode cX1_report 84 = .ok (.getfield 10, 3) := dk_180 0 10 (dk_at dksX1_report_3 13 rfl rfl)
theorem dX1_report_87 : decode cX1_report 87 = .ok (.bipush 44, 2) := dk_16 44 (dk_at dksX1_report_3 16 rfl rfl)
theorem dX1_report_89 : decode cX1_report 89 = .ok (.invokevirtual 288, 3) := dk_182 1 32 (dk_at dksX1_report_3 18 rfl rfl)
theorem dX1_report_92 : decode cX1_report 92 = .ok (.pop, 1) := dk_87 (dk_at dksX1_report_3 21 rfl rfl)
theorem dX1_report_93 : decode cX1_report 93 = .ok (.aload_n 0, 1) := dk_42 (dk_at dksX1_report_3 22 rfl rfl)
theorem dX1_report_94 : decode cX1_report 94 = .ok (.getfield 10, 3) := dk_180 0 10 (dk_at dksX1_report_4 0 rfl rfl)
theorem dX1_report_97 : decode cX1_report 97 = .ok (.iload_n 3, 1) := dk_29 (dk_at dksX1_report_4 3 rfl rfl)
theorem dX1_report_98 : decode cX1_report 98 = .ok (.invokevirtual 292, 3) := dk_182 1 36 (dk_at dksX1_report_4 4 rfl rfl)
theorem dX1_report_101 : decode cX1_report 101 = .ok (.bipush 64, 2) := dk_16 64 (dk_at dksX1_report_4 7 rfl rfl)
theorem dX1_report_103 : decode cX1_report 103 = .ok (.invokevirtual 288, 3) := dk_182 1 32 (dk_at dksX1_report_4 9 rfl rfl)
theorem dX1_report_106 : decode cX1_report 106 = .ok (.aload_n 0, 1) := dk_42 (dk_at dksX1_report_4 12 rfl rfl)
theorem dX1_report_107 : decode cX1_report 107 = .ok (.getfield 46, 3) := dk_180 0 46 (dk_at dksX1_report_4 13 rfl rfl)
theorem dX1_report_110 : decode cX1_report 110 = .ok (.getfield 179, 3) := dk_180 0 179 (dk_at dksX1_report_4 16 rfl rfl)
theorem dX1_report_113 : decode cX1_report 113 = .ok (.iload_n 3, 1) := dk_29 (dk_at dksX1_report_4 19 rfl rfl)
theorem dX1_report_114 : decode cX1_report 114 = .ok (.iaload, 1) := dk_46 (dk_at dksX1_report_4 20 rfl rfl)
theorem dX1_report_115 : decode cX1_report 115 = .ok (.invokevirtual 292, 3) := dk_182 1 36 (dk_at dksX1_report_4 21 rfl rfl)
theorem dX1_report_118 : decode cX1_report 118 = .ok (.pop, 1) := dk_87 (dk_at dksX1_report_5 0 rfl rfl)
theorem dX1_report_119 : decode cX1_report 119 = .ok (.iconst 0, 1) := dk_3 (dk_at dksX1_report_5 1 rfl rfl)
theorem dX1_report_120 : decode cX1_report 120 = .ok (.istore_n 2, 1) := dk_61 (dk_at dksX1_report_5 2 rfl rfl)
theorem dX1_report_121 : decode cX1_report 121 = .ok (.iinc 3 1, 3) := dk_132 3 1 (dk_at dksX1_report_5 3 rfl rfl)
theorem dX1_report_124 : decode cX1_report 124 = .ok (.goto (-69), 3) := dk_167 255 187 (dk_at dksX1_report_5 6 rfl rfl)
theorem dX1_report_127 : decode cX1_report 127 = .ok (.iinc 1 1, 3) := dk_132 1 1 (dk_at dksX1_report_5 9 rfl rfl)
theorem dX1_report_130 : decode cX1_report 130 = .ok (.goto (-115), 3) := dk_167 255 141 (dk_at dksX1_report_5 12 rfl rfl)
theorem dX1_report_133 : decode cX1_report 133 = .ok (.aload_n 0, 1) := dk_42 (dk_at dksX1_report_5 15 rfl rfl)
theorem dX1_report_134 : decode cX1_report 134 = .ok (.getfield 10, 3) := dk_180 0 10 (dk_at dksX1_report_5 16 rfl rfl)
theorem dX1_report_137 : decode cX1_report 137 = .ok (.invokevirtual 295, 3) := dk_182 1 39 (dk_at dksX1_report_5 19 rfl rfl)
theorem dX1_report_140 : decode cX1_report 140 = .ok (.ireturn, 1) := dk_172 (dk_at dksX1_report_5 22 rfl rfl)
abbrev cX1_reportByte : ByteArray := prog_1_method_55_code
def yX1_reportByte : MethodName := ⟨RX1, "reportByte", "(I)I"⟩
def dkwX1_reportByte_1 : List UInt8 := [184, 0, 77, 42, 180, 0, 10, 27, 182, 1, 42, 172]
abbrev dktX1_reportByte_1 : List UInt8 := dkwX1_reportByte_1 ++ []
def dkwX1_reportByte_0 : List UInt8 := [4, 188, 4, 89, 3, 27, 133, 9, 42, 180, 0, 10, 182, 1, 39, 4, 100, 133, 184, 0, 73, 84]
abbrev dktX1_reportByte_0 : List UInt8 := dkwX1_reportByte_0 ++ dktX1_reportByte_1
theorem dksX1_reportByte_0 : cX1_reportByte.data.toList.drop 0 = dktX1_reportByte_0 := by decide +kernel
theorem dksX1_reportByte_1 : cX1_reportByte.data.toList.drop 22 = dktX1_reportByte_1 := dk_seg dksX1_reportByte_0 22 rfl rfl
theorem dX1_reportByte_0 : decode cX1_reportByte 0 = .ok (.iconst 1, 1) := dk_4 (dk_at dksX1_reportByte_0 0 rfl rfl)
theorem dX1_reportByte_1 : decode cX1_reportByte 1 = .ok (.newarray .boolean, 2) := dk_188_4 (dk_at dksX1_reportByte_0 1 rfl rfl)
theorem dX1_reportByte_3 : decode cX1_reportByte 3 = .ok (.dup, 1) := dk_89 (dk_at dksX1_reportByte_0 3 rfl rfl)
theorem dX1_reportByte_4 : decode cX1_reportByte 4 = .ok (.iconst 0, 1) := dk_3 (dk_at dksX1_reportByte_0 4 rfl rfl)
theorem dX1_reportByte_5 : decode cX1_reportByte 5 = .ok (.iload_n 1, 1) := dk_27 (dk_at dksX1_reportByte_0 5 rfl rfl)
theorem dX1_reportByte_6 : decode cX1_reportByte 6 = .ok (.i2l, 1) := dk_133 (dk_at dksX1_reportByte_0 6 rfl rfl)
theorem dX1_reportByte_7 : decode cX1_reportByte 7 = .ok (.lconst 0, 1) := dk_9 (dk_at dksX1_reportByte_0 7 rfl rfl)
theorem dX1_reportByte_8 : decode cX1_reportByte 8 = .ok (.aload_n 0, 1) := dk_42 (dk_at dksX1_reportByte_0 8 rfl rfl)
theorem dX1_reportByte_9 : decode cX1_reportByte 9 = .ok (.getfield 10, 3) := dk_180 0 10 (dk_at dksX1_reportByte_0 9 rfl rfl)
theorem dX1_reportByte_12 : decode cX1_reportByte 12 = .ok (.invokevirtual 295, 3) := dk_182 1 39 (dk_at dksX1_reportByte_0 12 rfl rfl)
theorem dX1_reportByte_15 : decode cX1_reportByte 15 = .ok (.iconst 1, 1) := dk_4 (dk_at dksX1_reportByte_0 15 rfl rfl)
theorem dX1_reportByte_16 : decode cX1_reportByte 16 = .ok (.isub, 1) := dk_100 (dk_at dksX1_reportByte_0 16 rfl rfl)
theorem dX1_reportByte_17 : decode cX1_reportByte 17 = .ok (.i2l, 1) := dk_133 (dk_at dksX1_reportByte_0 17 rfl rfl)
theorem dX1_reportByte_18 : decode cX1_reportByte 18 = .ok (.invokestatic 73, 3) := dk_184 0 73 (dk_at dksX1_reportByte_0 18 rfl rfl)
theorem dX1_reportByte_21 : decode cX1_reportByte 21 = .ok (.bastore, 1) := dk_84 (dk_at dksX1_reportByte_0 21 rfl rfl)
theorem dX1_reportByte_22 : decode cX1_reportByte 22 = .ok (.invokestatic 77, 3) := dk_184 0 77 (dk_at dksX1_reportByte_1 0 rfl rfl)
theorem dX1_reportByte_25 : decode cX1_reportByte 25 = .ok (.aload_n 0, 1) := dk_42 (dk_at dksX1_reportByte_1 3 rfl rfl)
theorem dX1_reportByte_26 : decode cX1_reportByte 26 = .ok (.getfield 10, 3) := dk_180 0 10 (dk_at dksX1_reportByte_1 4 rfl rfl)
theorem dX1_reportByte_29 : decode cX1_reportByte 29 = .ok (.iload_n 1, 1) := dk_27 (dk_at dksX1_reportByte_1 7 rfl rfl)
theorem dX1_reportByte_30 : decode cX1_reportByte 30 = .ok (.invokevirtual 298, 3) := dk_182 1 42 (dk_at dksX1_reportByte_1 8 rfl rfl)
theorem dX1_reportByte_33 : decode cX1_reportByte 33 = .ok (.ireturn, 1) := dk_172 (dk_at dksX1_reportByte_1 11 rfl rfl)
abbrev cX1_movesIn : ByteArray := prog_1_method_58_code
def yX1_movesIn : MethodName := ⟨RX1, "movesIn", "(I)I"⟩
def dkwX1_movesIn_0 : List UInt8 := [42, 27, 42, 186, 1, 60, 0, 0, 182, 1, 63, 172]
abbrev dktX1_movesIn_0 : List UInt8 := dkwX1_movesIn_0 ++ []
theorem dksX1_movesIn_0 : cX1_movesIn.data.toList.drop 0 = dktX1_movesIn_0 := by decide +kernel
theorem dX1_movesIn_0 : decode cX1_movesIn 0 = .ok (.aload_n 0, 1) := dk_42 (dk_at dksX1_movesIn_0 0 rfl rfl)
theorem dX1_movesIn_1 : decode cX1_movesIn 1 = .ok (.iload_n 1, 1) := dk_27 (dk_at dksX1_movesIn_0 1 rfl rfl)
theorem dX1_movesIn_2 : decode cX1_movesIn 2 = .ok (.aload_n 0, 1) := dk_42 (dk_at dksX1_movesIn_0 2 rfl rfl)
theorem dX1_movesIn_3 : decode cX1_movesIn 3 = .ok (.invokedynamic 316, 5) := by decide +kernel
theorem dX1_movesIn_8 : decode cX1_movesIn 8 = .ok (.invokevirtual 319, 3) := dk_182 1 63 (dk_at dksX1_movesIn_0 8 rfl rfl)
theorem dX1_movesIn_11 : decode cX1_movesIn 11 = .ok (.ireturn, 1) := dk_172 (dk_at dksX1_movesIn_0 11 rfl rfl)
abbrev cX1_lambda_movesIn_0 : ByteArray := prog_1_method_77_code
def yX1_lambda_movesIn_0 : MethodName := ⟨RX1, "lambda$movesIn$0", "(LSpectrumAccess$State;)I"⟩
def dkwX1_lambda_movesIn_0_0 : List UInt8 := [43, 180, 1, 10, 42, 180, 0, 46, 180, 1, 10, 100, 172]
abbrev dktX1_lambda_movesIn_0_0 : List UInt8 := dkwX1_lambda_movesIn_0_0 ++ []
theorem dksX1_lambda_movesIn_0_0 : cX1_lambda_movesIn_0.data.toList.drop 0 = dktX1_lambda_movesIn_0_0 := by decide +kernel
theorem dX1_lambda_movesIn_0_0 : decode cX1_lambda_movesIn_0 0 = .ok (.aload_n 1, 1) := dk_43 (dk_at dksX1_lambda_movesIn_0_0 0 rfl rfl)
theorem dX1_lambda_movesIn_0_1 : decode cX1_lambda_movesIn_0 1 = .ok (.getfield 266, 3) := dk_180 1 10 (dk_at dksX1_lambda_movesIn_0_0 1 rfl rfl)
theorem dX1_lambda_movesIn_0_4 : decode cX1_lambda_movesIn_0 4 = .ok (.aload_n 0, 1) := dk_42 (dk_at dksX1_lambda_movesIn_0_0 4 rfl rfl)
theorem dX1_lambda_movesIn_0_5 : decode cX1_lambda_movesIn_0 5 = .ok (.getfield 46, 3) := dk_180 0 46 (dk_at dksX1_lambda_movesIn_0_0 5 rfl rfl)
theorem dX1_lambda_movesIn_0_8 : decode cX1_lambda_movesIn_0 8 = .ok (.getfield 266, 3) := dk_180 1 10 (dk_at dksX1_lambda_movesIn_0_0 8 rfl rfl)
theorem dX1_lambda_movesIn_0_11 : decode cX1_lambda_movesIn_0 11 = .ok (.isub, 1) := dk_100 (dk_at dksX1_lambda_movesIn_0_0 11 rfl rfl)
theorem dX1_lambda_movesIn_0_12 : decode cX1_lambda_movesIn_0 12 = .ok (.ireturn, 1) := dk_172 (dk_at dksX1_lambda_movesIn_0_0 12 rfl rfl)
abbrev cX1_after : ByteArray := prog_1_method_57_code
def yX1_after : MethodName := ⟨RX1, "after", "(ILSpectrumAccess$Question;)I"⟩
def dkwX1_after_1 : List UInt8 := [185, 1, 54, 2, 0, 172]
abbrev dktX1_after_1 : List UInt8 := dkwX1_after_1 ++ []
def dkwX1_after_0 : List UInt8 := [42, 27, 182, 1, 48, 42, 180, 0, 46, 182, 0, 224, 78, 45, 27, 182, 1, 51, 87, 44, 45]
abbrev dktX1_after_0 : List UInt8 := dkwX1_after_0 ++ dktX1_after_1
theorem dksX1_after_0 : cX1_after.data.toList.drop 0 = dktX1_after_0 := by decide +kernel
theorem dksX1_after_1 : cX1_after.data.toList.drop 21 = dktX1_after_1 := dk_seg dksX1_after_0 21 rfl rfl
theorem dX1_after_0 : decode cX1_after 0 = .ok (.aload_n 0, 1) := dk_42 (dk_at dksX1_after_0 0 rfl rfl)
theorem dX1_after_1 : decode cX1_after 1 = .ok (.iload_n 1, 1) := dk_27 (dk_at dksX1_after_0 1 rfl rfl)
theorem dX1_after_2 : decode cX1_after 2 = .ok (.invokevirtual 304, 3) := dk_182 1 48 (dk_at dksX1_after_0 2 rfl rfl)
theorem dX1_after_5 : decode cX1_after 5 = .ok (.aload_n 0, 1) := dk_42 (dk_at dksX1_after_0 5 rfl rfl)
theorem dX1_after_6 : decode cX1_after 6 = .ok (.getfield 46, 3) := dk_180 0 46 (dk_at dksX1_after_0 6 rfl rfl)
theorem dX1_after_9 : decode cX1_after 9 = .ok (.invokevirtual 224, 3) := dk_182 0 224 (dk_at dksX1_after_0 9 rfl rfl)
theorem dX1_after_12 : decode cX1_after 12 = .ok (.astore_n 3, 1) := dk_78 (dk_at dksX1_after_0 12 rfl rfl)
theorem dX1_after_13 : decode cX1_after 13 = .ok (.aload_n 3, 1) := dk_45 (dk_at dksX1_after_0 13 rfl rfl)
theorem dX1_after_14 : decode cX1_after 14 = .ok (.iload_n 1, 1) := dk_27 (dk_at dksX1_after_0 14 rfl rfl)
theorem dX1_after_15 : decode cX1_after 15 = .ok (.invokevirtual 307, 3) := dk_182 1 51 (dk_at dksX1_after_0 15 rfl rfl)
theorem dX1_after_18 : decode cX1_after 18 = .ok (.pop, 1) := dk_87 (dk_at dksX1_after_0 18 rfl rfl)
theorem dX1_after_19 : decode cX1_after 19 = .ok (.aload_n 2, 1) := dk_44 (dk_at dksX1_after_0 19 rfl rfl)
theorem dX1_after_20 : decode cX1_after 20 = .ok (.aload_n 3, 1) := dk_45 (dk_at dksX1_after_0 20 rfl rfl)
theorem dX1_after_21 : decode cX1_after 21 = .ok (.invokeinterface 310 2, 5) := by decide +kernel
theorem dX1_after_26 : decode cX1_after 26 = .ok (.ireturn, 1) := dk_172 (dk_at dksX1_after_1 5 rfl rfl)
abbrev cX1_checkTicks : ByteArray := prog_1_method_56_code
def yX1_checkTicks : MethodName := ⟨RX1, "checkTicks", "(I)V"⟩
def dkwX1_checkTicks_0 : List UInt8 := [42, 182, 0, 54, 87, 4, 188, 4, 89, 3, 27, 133, 10, 20, 1, 46, 184, 0, 73, 84, 184, 1, 21, 177]
abbrev dktX1_checkTicks_0 : List UInt8 := dkwX1_checkTicks_0 ++ []
theorem dksX1_checkTicks_0 : cX1_checkTicks.data.toList.drop 0 = dktX1_checkTicks_0 := by decide +kernel
theorem dX1_checkTicks_0 : decode cX1_checkTicks 0 = .ok (.aload_n 0, 1) := dk_42 (dk_at dksX1_checkTicks_0 0 rfl rfl)
theorem dX1_checkTicks_1 : decode cX1_checkTicks 1 = .ok (.invokevirtual 54, 3) := dk_182 0 54 (dk_at dksX1_checkTicks_0 1 rfl rfl)
theorem dX1_checkTicks_4 : decode cX1_checkTicks 4 = .ok (.pop, 1) := dk_87 (dk_at dksX1_checkTicks_0 4 rfl rfl)
theorem dX1_checkTicks_5 : decode cX1_checkTicks 5 = .ok (.iconst 1, 1) := dk_4 (dk_at dksX1_checkTicks_0 5 rfl rfl)
theorem dX1_checkTicks_6 : decode cX1_checkTicks 6 = .ok (.newarray .boolean, 2) := dk_188_4 (dk_at dksX1_checkTicks_0 6 rfl rfl)
theorem dX1_checkTicks_8 : decode cX1_checkTicks 8 = .ok (.dup, 1) := dk_89 (dk_at dksX1_checkTicks_0 8 rfl rfl)
theorem dX1_checkTicks_9 : decode cX1_checkTicks 9 = .ok (.iconst 0, 1) := dk_3 (dk_at dksX1_checkTicks_0 9 rfl rfl)
theorem dX1_checkTicks_10 : decode cX1_checkTicks 10 = .ok (.iload_n 1, 1) := dk_27 (dk_at dksX1_checkTicks_0 10 rfl rfl)
theorem dX1_checkTicks_11 : decode cX1_checkTicks 11 = .ok (.i2l, 1) := dk_133 (dk_at dksX1_checkTicks_0 11 rfl rfl)
theorem dX1_checkTicks_12 : decode cX1_checkTicks 12 = .ok (.lconst 1, 1) := dk_10 (dk_at dksX1_checkTicks_0 12 rfl rfl)
theorem dX1_checkTicks_13 : decode cX1_checkTicks 13 = .ok (.ldc2_w 302, 3) := dk_20 1 46 (dk_at dksX1_checkTicks_0 13 rfl rfl)
theorem dX1_checkTicks_16 : decode cX1_checkTicks 16 = .ok (.invokestatic 73, 3) := dk_184 0 73 (dk_at dksX1_checkTicks_0 16 rfl rfl)
theorem dX1_checkTicks_19 : decode cX1_checkTicks 19 = .ok (.bastore, 1) := dk_84 (dk_at dksX1_checkTicks_0 19 rfl rfl)
theorem dX1_checkTicks_20 : decode cX1_checkTicks 20 = .ok (.invokestatic 277, 3) := dk_184 1 21 (dk_at dksX1_checkTicks_0 20 rfl rfl)
theorem dX1_checkTicks_23 : decode cX1_checkTicks 23 = .ok (.return_, 1) := dk_177 (dk_at dksX1_checkTicks_0 23 rfl rfl)
abbrev cX1_airtimeIn : ByteArray := prog_1_method_59_code
def yX1_airtimeIn : MethodName := ⟨RX1, "airtimeIn", "(I)I"⟩
def dkwX1_airtimeIn_0 : List UInt8 := [42, 27, 42, 186, 1, 67, 0, 0, 182, 1, 63, 172]
abbrev dktX1_airtimeIn_0 : List UInt8 := dkwX1_airtimeIn_0 ++ []
theorem dksX1_airtimeIn_0 : cX1_airtimeIn.data.toList.drop 0 = dktX1_airtimeIn_0 := by decide +kernel
theorem dX1_airtimeIn_0 : decode cX1_airtimeIn 0 = .ok (.aload_n 0, 1) := dk_42 (dk_at dksX1_airtimeIn_0 0 rfl rfl)
theorem dX1_airtimeIn_1 : decode cX1_airtimeIn 1 = .ok (.iload_n 1, 1) := dk_27 (dk_at dksX1_airtimeIn_0 1 rfl rfl)
theorem dX1_airtimeIn_2 : decode cX1_airtimeIn 2 = .ok (.aload_n 0, 1) := dk_42 (dk_at dksX1_airtimeIn_0 2 rfl rfl)
theorem dX1_airtimeIn_3 : decode cX1_airtimeIn 3 = .ok (.invokedynamic 323, 5) := by decide +kernel
theorem dX1_airtimeIn_8 : decode cX1_airtimeIn 8 = .ok (.invokevirtual 319, 3) := dk_182 1 63 (dk_at dksX1_airtimeIn_0 8 rfl rfl)
theorem dX1_airtimeIn_11 : decode cX1_airtimeIn 11 = .ok (.ireturn, 1) := dk_172 (dk_at dksX1_airtimeIn_0 11 rfl rfl)
abbrev cX1_lambda_airtimeIn_1 : ByteArray := prog_1_method_76_code
def yX1_lambda_airtimeIn_1 : MethodName := ⟨RX1, "lambda$airtimeIn$1", "(LSpectrumAccess$State;)I"⟩
def dkwX1_lambda_airtimeIn_1_0 : List UInt8 := [43, 182, 1, 112, 42, 180, 0, 46, 182, 1, 112, 100, 172]
abbrev dktX1_lambda_airtimeIn_1_0 : List UInt8 := dkwX1_lambda_airtimeIn_1_0 ++ []
theorem dksX1_lambda_airtimeIn_1_0 : cX1_lambda_airtimeIn_1.data.toList.drop 0 = dktX1_lambda_airtimeIn_1_0 := by decide +kernel
theorem dX1_lambda_airtimeIn_1_0 : decode cX1_lambda_airtimeIn_1 0 = .ok (.aload_n 1, 1) := dk_43 (dk_at dksX1_lambda_airtimeIn_1_0 0 rfl rfl)
theorem dX1_lambda_airtimeIn_1_1 : decode cX1_lambda_airtimeIn_1 1 = .ok (.invokevirtual 368, 3) := dk_182 1 112 (dk_at dksX1_lambda_airtimeIn_1_0 1 rfl rfl)
theorem dX1_lambda_airtimeIn_1_4 : decode cX1_lambda_airtimeIn_1 4 = .ok (.aload_n 0, 1) := dk_42 (dk_at dksX1_lambda_airtimeIn_1_0 4 rfl rfl)
theorem dX1_lambda_airtimeIn_1_5 : decode cX1_lambda_airtimeIn_1 5 = .ok (.getfield 46, 3) := dk_180 0 46 (dk_at dksX1_lambda_airtimeIn_1_0 5 rfl rfl)
theorem dX1_lambda_airtimeIn_1_8 : decode cX1_lambda_airtimeIn_1 8 = .ok (.invokevirtual 368, 3) := dk_182 1 112 (dk_at dksX1_lambda_airtimeIn_1_0 8 rfl rfl)
theorem dX1_lambda_airtimeIn_1_11 : decode cX1_lambda_airtimeIn_1 11 = .ok (.isub, 1) := dk_100 (dk_at dksX1_lambda_airtimeIn_1_0 11 rfl rfl)
theorem dX1_lambda_airtimeIn_1_12 : decode cX1_lambda_airtimeIn_1 12 = .ok (.ireturn, 1) := dk_172 (dk_at dksX1_lambda_airtimeIn_1_0 12 rfl rfl)
abbrev cX1_firstMove : ByteArray := prog_1_method_60_code
def yX1_firstMove : MethodName := ⟨RX1, "firstMove", "(I)I"⟩
def dkwX1_firstMove_1 : List UInt8 := [182, 1, 51, 158, 0, 5, 29, 172, 132, 3, 1, 167, 255, 238, 2, 172]
abbrev dktX1_firstMove_1 : List UInt8 := dkwX1_firstMove_1 ++ []
def dkwX1_firstMove_0 : List UInt8 := [42, 27, 182, 1, 48, 42, 180, 0, 46, 182, 0, 224, 77, 4, 62, 29, 27, 163, 0, 19, 44, 4]
abbrev dktX1_firstMove_0 : List UInt8 := dkwX1_firstMove_0 ++ dktX1_firstMove_1
theorem dksX1_firstMove_0 : cX1_firstMove.data.toList.drop 0 = dktX1_firstMove_0 := by decide +kernel
theorem dksX1_firstMove_1 : cX1_firstMove.data.toList.drop 22 = dktX1_firstMove_1 := dk_seg dksX1_firstMove_0 22 rfl rfl
theorem dX1_firstMove_0 : decode cX1_firstMove 0 = .ok (.aload_n 0, 1) := dk_42 (dk_at dksX1_firstMove_0 0 rfl rfl)
theorem dX1_firstMove_1 : decode cX1_firstMove 1 = .ok (.iload_n 1, 1) := dk_27 (dk_at dksX1_firstMove_0 1 rfl rfl)
theorem dX1_firstMove_2 : decode cX1_firstMove 2 = .ok (.invokevirtual 304, 3) := dk_182 1 48 (dk_at dksX1_firstMove_0 2 rfl rfl)
theorem dX1_firstMove_5 : decode cX1_firstMove 5 = .ok (.aload_n 0, 1) := dk_42 (dk_at dksX1_firstMove_0 5 rfl rfl)
theorem dX1_firstMove_6 : decode cX1_firstMove 6 = .ok (.getfield 46, 3) := dk_180 0 46 (dk_at dksX1_firstMove_0 6 rfl rfl)
theorem dX1_firstMove_9 : decode cX1_firstMove 9 = .ok (.invokevirtual 224, 3) := dk_182 0 224 (dk_at dksX1_firstMove_0 9 rfl rfl)
theorem dX1_firstMove_12 : decode cX1_firstMove 12 = .ok (.astore_n 2, 1) := dk_77 (dk_at dksX1_firstMove_0 12 rfl rfl)
theorem dX1_firstMove_13 : decode cX1_firstMove 13 = .ok (.iconst 1, 1) := dk_4 (dk_at dksX1_firstMove_0 13 rfl rfl)
theorem dX1_firstMove_14 : decode cX1_firstMove 14 = .ok (.istore_n 3, 1) := dk_62 (dk_at dksX1_firstMove_0 14 rfl rfl)
theorem dX1_firstMove_15 : decode cX1_firstMove 15 = .ok (.iload_n 3, 1) := dk_29 (dk_at dksX1_firstMove_0 15 rfl rfl)
theorem dX1_firstMove_16 : decode cX1_firstMove 16 = .ok (.iload_n 1, 1) := dk_27 (dk_at dksX1_firstMove_0 16 rfl rfl)
theorem dX1_firstMove_17 : decode cX1_firstMove 17 = .ok (.if_icmp .gt 19, 3) := dk_163 0 19 (dk_at dksX1_firstMove_0 17 rfl rfl)
theorem dX1_firstMove_20 : decode cX1_firstMove 20 = .ok (.aload_n 2, 1) := dk_44 (dk_at dksX1_firstMove_0 20 rfl rfl)
theorem dX1_firstMove_21 : decode cX1_firstMove 21 = .ok (.iconst 1, 1) := dk_4 (dk_at dksX1_firstMove_0 21 rfl rfl)
theorem dX1_firstMove_22 : decode cX1_firstMove 22 = .ok (.invokevirtual 307, 3) := dk_182 1 51 (dk_at dksX1_firstMove_1 0 rfl rfl)
theorem dX1_firstMove_25 : decode cX1_firstMove 25 = .ok (.ifCond .le 5, 3) := dk_158 0 5 (dk_at dksX1_firstMove_1 3 rfl rfl)
theorem dX1_firstMove_28 : decode cX1_firstMove 28 = .ok (.iload_n 3, 1) := dk_29 (dk_at dksX1_firstMove_1 6 rfl rfl)
theorem dX1_firstMove_29 : decode cX1_firstMove 29 = .ok (.ireturn, 1) := dk_172 (dk_at dksX1_firstMove_1 7 rfl rfl)
theorem dX1_firstMove_30 : decode cX1_firstMove 30 = .ok (.iinc 3 1, 3) := dk_132 3 1 (dk_at dksX1_firstMove_1 8 rfl rfl)
theorem dX1_firstMove_33 : decode cX1_firstMove 33 = .ok (.goto (-18), 3) := dk_167 255 238 (dk_at dksX1_firstMove_1 11 rfl rfl)
theorem dX1_firstMove_36 : decode cX1_firstMove 36 = .ok (.iconst (-1), 1) := dk_2 (dk_at dksX1_firstMove_1 14 rfl rfl)
theorem dX1_firstMove_37 : decode cX1_firstMove 37 = .ok (.ireturn, 1) := dk_172 (dk_at dksX1_firstMove_1 15 rfl rfl)
abbrev cX1_waitingAfter : ByteArray := prog_1_method_61_code
def yX1_waitingAfter : MethodName := ⟨RX1, "waitingAfter", "(I)I"⟩
def dkwX1_waitingAfter_0 : List UInt8 := [42, 27, 186, 1, 68, 0, 0, 182, 1, 63, 172]
abbrev dktX1_waitingAfter_0 : List UInt8 := dkwX1_waitingAfter_0 ++ []
theorem dksX1_waitingAfter_0 : cX1_waitingAfter.data.toList.drop 0 = dktX1_waitingAfter_0 := by decide +kernel
theorem dX1_waitingAfter_0 : decode cX1_waitingAfter 0 = .ok (.aload_n 0, 1) := dk_42 (dk_at dksX1_waitingAfter_0 0 rfl rfl)
theorem dX1_waitingAfter_1 : decode cX1_waitingAfter 1 = .ok (.iload_n 1, 1) := dk_27 (dk_at dksX1_waitingAfter_0 1 rfl rfl)
theorem dX1_waitingAfter_2 : decode cX1_waitingAfter 2 = .ok (.invokedynamic 324, 5) := by decide +kernel
theorem dX1_waitingAfter_7 : decode cX1_waitingAfter 7 = .ok (.invokevirtual 319, 3) := dk_182 1 63 (dk_at dksX1_waitingAfter_0 7 rfl rfl)
theorem dX1_waitingAfter_10 : decode cX1_waitingAfter 10 = .ok (.ireturn, 1) := dk_172 (dk_at dksX1_waitingAfter_0 10 rfl rfl)
abbrev cX1_lambda_waitingAfter_2 : ByteArray := prog_1_method_75_code
def yX1_lambda_waitingAfter_2 : MethodName := ⟨RX1, "lambda$waitingAfter$2", "(LSpectrumAccess$State;)I"⟩
def dkwX1_lambda_waitingAfter_2_0 : List UInt8 := [42, 4, 182, 1, 1, 172]
abbrev dktX1_lambda_waitingAfter_2_0 : List UInt8 := dkwX1_lambda_waitingAfter_2_0 ++ []
theorem dksX1_lambda_waitingAfter_2_0 : cX1_lambda_waitingAfter_2.data.toList.drop 0 = dktX1_lambda_waitingAfter_2_0 := by decide +kernel
theorem dX1_lambda_waitingAfter_2_0 : decode cX1_lambda_waitingAfter_2 0 = .ok (.aload_n 0, 1) := dk_42 (dk_at dksX1_lambda_waitingAfter_2_0 0 rfl rfl)
theorem dX1_lambda_waitingAfter_2_1 : decode cX1_lambda_waitingAfter_2 1 = .ok (.iconst 1, 1) := dk_4 (dk_at dksX1_lambda_waitingAfter_2_0 1 rfl rfl)
theorem dX1_lambda_waitingAfter_2_2 : decode cX1_lambda_waitingAfter_2 2 = .ok (.invokevirtual 257, 3) := dk_182 1 1 (dk_at dksX1_lambda_waitingAfter_2_0 2 rfl rfl)
theorem dX1_lambda_waitingAfter_2_5 : decode cX1_lambda_waitingAfter_2 5 = .ok (.ireturn, 1) := dk_172 (dk_at dksX1_lambda_waitingAfter_2_0 5 rfl rfl)
